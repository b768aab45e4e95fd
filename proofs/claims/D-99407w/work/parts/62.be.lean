/-! COPIES -/
section CP
variable {iv : gV} {u : gU}
theorem g_cpT {t n0 n1 a0 a1 sp dp n : Nat} (h0 : u.1 a0 = some (.inl (t, n0))) (h1 : u.1 a1 = some (.inl (t, n1))) (hne : a0 ≠ a1) (hs : sp + n ≤ n0) (hd : dp + n ≤ n1) (hb0 : n0 < 2147483648) (hb1 : n1 < 2147483648) : g_cpOk (iv, u) t a0 a1 (iN sp) (iN dp) (iN n) = true := by
  unfold g_cpOk
  have e0 : g_sh (iv, u) a0 = some (.inl (t, n0)) := h0
  have e1 : g_sh (iv, u) a1 = some (.inl (t, n1)) := h1
  rw [e0, e1]
  simp only [iN_c (show sp < 2147483648 by omega), iN_c (show dp < 2147483648 by omega), iN_c (show n < 2147483648 by omega), iN_0 (show sp < 2147483648 by omega), iN_0 (show dp < 2147483648 by omega), iN_0 (show n < 2147483648 by omega)]
  simp [hne, hs, hd]
theorem gW_CpI {n0 n1 a0 a1 sp dp n : Nat} (h0 : u.1 a0 = some (.inl (0, n0))) (h1 : u.1 a1 = some (.inl (0, n1))) (hne : a0 ≠ a1) (hs : sp + n ≤ n0) (hd : dp + n ≤ n1) (hb0 : n0 < 2147483648) (hb1 : n1 < 2147483648) {P : Unit → g_H → Prop} : gW (gCpI a0 (iN sp) a1 (iN dp) (iN n)) (iv, u) P ↔ P () (va_up iv a1 (va_cpy (iv a0) (iv a1) sp dp n), u) := by
  have he : (if g_cpOk (iv, u) 0 a0 a1 (iN sp) (iN dp) (iN n) = true then some (va_up iv a1 (va_cpy (iv a0) (iv a1) (iN sp).toNatClampNeg (iN dp).toNatClampNeg (iN n).toNatClampNeg)) else none) = some (va_up iv a1 (va_cpy (iv a0) (iv a1) sp dp n)) := by
    rw [if_pos (g_cpT h0 h1 hne hs hd hb0 hb1), iN_c (by omega), iN_c (by omega), iN_c (by omega)]
  refine gW_wr.trans ?_
  constructor
  · rintro ⟨v, e, p⟩
    cases he.symm.trans e
    exact p
  · exact fun p => ⟨_, he, p⟩
theorem gW_CpQ {n0 n1 a0 a1 sp dp n : Nat} (h0 : u.1 a0 = some (.inl (6, n0))) (h1 : u.1 a1 = some (.inl (6, n1))) (hne : a0 ≠ a1) (hs : sp + n ≤ n0) (hd : dp + n ≤ n1) (hb0 : n0 < 2147483648) (hb1 : n1 < 2147483648) {P : Unit → g_H → Prop} : gW (gCpQ a0 (iN sp) a1 (iN dp) (iN n)) (iv, u) P ↔ P () (iv, u.1, va_up u.2.1 a1 (va_cpy (u.2.1 a0) (u.2.1 a1) sp dp n), u.2.2) := by
  have he : (if g_cpOk (iv, u) 6 a0 a1 (iN sp) (iN dp) (iN n) = true then some (va_up u.2.1 a1 (va_cpy (u.2.1 a0) (u.2.1 a1) (iN sp).toNatClampNeg (iN dp).toNatClampNeg (iN n).toNatClampNeg)) else none) = some (va_up u.2.1 a1 (va_cpy (u.2.1 a0) (u.2.1 a1) sp dp n)) := by
    rw [if_pos (g_cpT h0 h1 hne hs hd hb0 hb1), iN_c (by omega), iN_c (by omega), iN_c (by omega)]
  refine gW_wq.trans ?_
  constructor
  · rintro ⟨v, e, p⟩
    cases he.symm.trans e
    exact p
  · exact fun p => ⟨_, he, p⟩
/-- references of a row of lines change: the shapes stay -/
theorem SS.rv {b a : Nat} {f : Nat → Option Nat} (H : SS u b) (ha : u.1 a = some (.inl (6, 12))) : SS (u.1, va_up u.2.1 a f, u.2.2) b := by
  have ne : ∀ (c : Nat) (s : g_S), u.1 c = some s → s ≠ .inl (6, 12) → va_up u.2.1 a f c = u.2.1 c := fun c s h1 h2 => va_up_ne _ _ (fun e => by
    rw [e, ha] at h1
    exact h2 (Option.some.inj h1).symm)
  obtain ⟨h1, h2, h3, h4⟩ := H
  refine ⟨h1, fun j hj => ⟨?_, (h2 j hj).2⟩, fun p hp => ⟨?_, (h3 p hp).2⟩, fun o ho => ⟨?_, (h4 o ho).2⟩⟩
  · show va_up u.2.1 a f b j = _
    rw [ne b _ h1 (by decide)]; exact (h2 j hj).1
  · show va_up u.2.1 a f (b + 1) p = _
    rw [ne (b + 1) _ (h2 0 (by decide)).2 (by decide)]; exact (h3 p hp).1
  · show va_up u.2.1 a f (b + 2) o = _
    rw [ne (b + 2) _ (h2 1 (by decide)).2 (by decide)]; exact (h4 o ho).1
theorem MS.rv {m a : Nat} {f : Nat → Option Nat} (H : MS u m) (ha : u.1 a = some (.inl (6, 12))) : MS (u.1, va_up u.2.1 a f, u.2.2) m := by
  refine ⟨H.1, fun j hj => ⟨?_, (H.2 j hj).2⟩⟩
  show va_up u.2.1 a f m _ = _
  rw [va_up_ne _ _ (fun e => by have h1 := H.1; rw [e, ha] at h1; cases h1)]
  exact (H.2 j hj).1
theorem XS.rv {x a : Nat} {f : Nat → Option Nat} (H : XS u x) (ha : u.1 a = some (.inl (6, 12))) : XS (u.1, va_up u.2.1 a f, u.2.2) x := by
  have ne : ∀ (c : Nat) (s : g_S), u.1 c = some s → s ≠ .inl (6, 12) → va_up u.2.1 a f c = u.2.1 c := fun c s h1 h2 => va_up_ne _ _ (fun e => by
    rw [e, ha] at h1
    exact h2 (Option.some.inj h1).symm)
  obtain ⟨h1, h2, ⟨d1, d2, d3, d4, d5⟩, ⟨k1, k2, k3, k4, k5⟩, ⟨w1, w2, w3, w4, w5, w6, w7⟩, ⟨r1, r2, r3, r4, r5, r6, r7, r8, r9, r10⟩, t1, t2⟩ := H
  refine ⟨h1, fun j hj => ?_, ⟨d1.rv ha, d2.rv ha, d3.rv ha, d4.rv ha, fun k hk => ⟨?_, (d5 k hk).2.rv ha⟩⟩, ⟨k1, k2, k3, k4, k5⟩, ⟨?_, w2, ?_, w4, ?_, w6, ?_⟩, ⟨?_, r2, ?_, r4, ?_, r6, ?_, r8, ?_, ?_⟩, fun k hk => ?_, fun k hk => ?_⟩
  · exact (congrFun (ne _ _ h1.1 (by decide)) _).trans (h2 j hj)
  · exact (congrFun (ne _ _ k1 (by decide)) _).trans (d5 k hk).1
  · exact (congrFun (ne _ _ h1.2.2.2.1 (by decide)) _).trans w1
  · exact (congrFun (ne _ _ h1.2.2.2.1 (by decide)) _).trans w3
  · exact (congrFun (ne _ _ h1.2.2.2.1 (by decide)) _).trans w5
  · exact (congrFun (ne _ _ h1.2.2.2.1 (by decide)) _).trans w7
  · exact (congrFun (ne _ _ h1.2.1 (by decide)) _).trans r1
  · exact (congrFun (ne _ _ h1.2.1 (by decide)) _).trans r3
  · exact (congrFun (ne _ _ h1.2.1 (by decide)) _).trans r5
  · exact (congrFun (ne _ _ h1.2.1 (by decide)) _).trans r7
  · exact (congrFun (ne _ _ h1.2.1 (by decide)) _).trans r9
  · exact (congrFun (ne _ _ h1.2.1 (by decide)) _).trans r10
  · exact (congrFun (ne _ _ r4 (by decide)) _).trans (t1 k hk)
  · exact (congrFun (ne _ _ r6 (by decide)) _).trans (t2 k hk)
theorem w_X4be {a c : Nat} (ha : u.1 a = some (.inr 3)) (hc : u.1 c = some (.inr 3)) (hne : c ≠ a) {P : Unit → g_H → Prop} (hP : ∀ iv', (∀ f : Nat, f < 4 → iv' a f = iv c f) → (∀ d : Nat, d ≠ a → iv' d = iv d) → P () (iv', u)) : gW (f_X4_be a c) (iv, u) P := by
  unfold f_X4_be
  have e : ∀ (jv : gV) (k j : Nat) (v : Int32), g_u2 jv a k v c j = jv c j := fun jv k j v => by rw [g_u2_ne _ _ _ hne]
  simp only [gW_B, gW_ret, gW_FI ha, gW_FI hc, gW_PI ha, e]
  refine hP _ (fun f hf => ?_) (fun d hd => ?_)
  · match f, hf with
    | 0, _ => simp [g_u2, va_up]
    | 1, _ => simp [g_u2, va_up]
    | 2, _ => simp [g_u2, va_up]
    | 3, _ => simp [g_u2, va_up]
    | f + 4, h => omega
  · rw [g_u2_ne _ _ _ hd, g_u2_ne _ _ _ hd, g_u2_ne _ _ _ hd, g_u2_ne _ _ _ hd]
theorem w_X5be {a c : Nat} (ha : u.1 a = some (.inr 4)) (hc : u.1 c = some (.inr 4)) (hne : c ≠ a) {P : Unit → g_H → Prop} (hP : ∀ iv', (∀ f : Nat, f < 4 → iv' a f = iv c f) → (∀ d : Nat, d ≠ a → iv' d = iv d) → P () (iv', u)) : gW (f_X5_be a c) (iv, u) P := by
  unfold f_X5_be
  have e : ∀ (jv : gV) (k j : Nat) (v : Int32), g_u2 jv a k v c j = jv c j := fun jv k j v => by rw [g_u2_ne _ _ _ hne]
  simp only [gW_B, gW_ret, gW_FI ha, gW_FI hc, gW_PI ha, e]
  refine hP _ (fun f hf => ?_) (fun d hd => ?_)
  · match f, hf with
    | 0, _ => simp [g_u2, va_up]
    | 1, _ => simp [g_u2, va_up]
    | 2, _ => simp [g_u2, va_up]
    | 3, _ => simp [g_u2, va_up]
    | f + 4, h => omega
  · rw [g_u2_ne _ _ _ hd, g_u2_ne _ _ _ hd, g_u2_ne _ _ _ hd, g_u2_ne _ _ _ hd]
variable {b c : Nat}
theorem w_be_2 (Hd : SS u b) (Hs : SS u c) (hdis : b + 21 ≤ c ∨ c + 21 ≤ b) {pn : Nat} (hpn : pn ≤ 8) {P : Unit → g_H → Prop} : ∀ (k i n : Nat) (iv : gV), i + k = pn → k < n → iv c 6 = iN pn → (∀ iv', (∀ p : Nat, i ≤ p → p < pn → ∀ f : Nat, f < 4 → iv' (b + 7 + p) f = iv (c + 7 + p) f) → (∀ a : Nat, ¬ (b + 7 + i ≤ a ∧ a < b + 7 + pn) → iv' a = iv a) → gW (f_X3_be_31 b c) (iv', u) P) → gW (f_X3_be_2 n b c (iN i)) (iv, u) P := by
  intro k
  induction k with
  | zero =>
    intro i n iv h1 h2 h6 hP
    obtain ⟨n, rfl⟩ : ∃ n', n = n' + 1 := ⟨n - 1, by omega⟩
    rw [f_X3_be_2, gW_B, rSi Hs, h6, gW_ift (by rw [iN_le (by omega) (by omega)]; omega)]
    exact hP iv (fun p h3 h4 => by omega) (fun a _ => rfl)
  | succ k ih =>
    intro i n iv h1 h2 h6 hP
    obtain ⟨n, rfl⟩ : ∃ n', n = n' + 1 := ⟨n - 1, by omega⟩
    rw [f_X3_be_2, gW_B, rSi Hs, h6, gW_iff (by rw [iN_le (by omega) (by omega)]; omega)]
    simp (disch := omega) only [gW_B, gW_ret, gW_tr, gW_fa, iN_add, iN_mul, iN_sub, iN_m1, iNp1, iNp2, iNp3, iNp4, iNp5, iNp6, iNp8, iNp12, iNp16, iNp20, iNp305, iNl1, iNl6, iNl9, iNl12, iNl41, iNl65, iNl305, iNl306, iNl354, iNl1154, iNl1155, iNl1203, iNm2, iNm4, iNm6, iNm8, iNm10, iNm12, iNm60, iNm305, iNs1, iNs4, iNs8, rSi Hd, rSp Hd, rSc Hd, rSP Hd, rSO Hd, rSPi Hd, rSPp Hd, rSPc Hd, rSOi Hd, rSOp Hd, rSOc Hd, rSr0 Hd, rSr1 Hd, rSr2 Hd, rSr3 Hd, rSr4 Hd, rSr5 Hd, rSa3 Hd, rSa4 Hd, rSa5 Hd, rSs3 Hd, rSs4 Hd, rSs5 Hd, rSf0 Hd, rSf1 Hd, rSf2 Hd, rSf3 Hd, rSf4 Hd, rSf5 Hd, rSf6 Hd, rSf7 Hd, rSi Hs, rSp Hs, rSc Hs, rSP Hs, rSO Hs, rSPi Hs, rSPp Hs, rSPc Hs, rSOi Hs, rSOp Hs, rSOc Hs, rSr0 Hs, rSr1 Hs, rSr2 Hs, rSr3 Hs, rSr4 Hs, rSr5 Hs, rSa3 Hs, rSa4 Hs, rSa5 Hs, rSs3 Hs, rSs4 Hs, rSs5 Hs, rSf0 Hs, rSf1 Hs, rSf2 Hs, rSf3 Hs, rSf4 Hs, rSf5 Hs, rSf6 Hs, rSf7 Hs]
    refine w_X4be (Hd.2.2.1 i (by omega)).2 (Hs.2.2.1 i (by omega)).2 (by omega) (fun jv h3 h4 => ?_)
    refine ih (i + 1) n jv (by omega) (by omega) (by rw [h4 c (by omega)]; exact h6) (fun iv' h5 h7 => hP iv' (fun p g1 g2 f hf => ?_) (fun a ha => ?_))
    · by_cases e : p = i
      · subst e
        rw [h7 _ (by omega), h3 f hf]
      · rw [h5 p (by omega) g2 f hf, h4 _ (by omega)]
    · rw [h7 a (by omega), h4 a (by omega)]
theorem w_be_33 (Hd : SS u b) (Hs : SS u c) (hdis : b + 21 ≤ c ∨ c + 21 ≤ b) {on : Nat} (hon : on ≤ 6) {P : Unit → g_H → Prop} : ∀ (k i n : Nat) (iv : gV), i + k = on → k < n → iv c 7 = iN on → (∀ iv', (∀ p : Nat, i ≤ p → p < on → ∀ f : Nat, f < 4 → iv' (b + 15 + p) f = iv (c + 15 + p) f) → (∀ a : Nat, ¬ (b + 15 + i ≤ a ∧ a < b + 15 + on) → iv' a = iv a) → gW (f_X3_be_62 b c) (iv', u) P) → gW (f_X3_be_33 n b c (iN i)) (iv, u) P := by
  intro k
  induction k with
  | zero =>
    intro i n iv h1 h2 h6 hP
    obtain ⟨n, rfl⟩ : ∃ n', n = n' + 1 := ⟨n - 1, by omega⟩
    rw [f_X3_be_33, gW_B, rSi Hs, h6, gW_ift (by rw [iN_le (by omega) (by omega)]; omega)]
    exact hP iv (fun p h3 h4 => by omega) (fun a _ => rfl)
  | succ k ih =>
    intro i n iv h1 h2 h6 hP
    obtain ⟨n, rfl⟩ : ∃ n', n = n' + 1 := ⟨n - 1, by omega⟩
    rw [f_X3_be_33, gW_B, rSi Hs, h6, gW_iff (by rw [iN_le (by omega) (by omega)]; omega)]
    simp (disch := omega) only [gW_B, gW_ret, gW_tr, gW_fa, iN_add, iN_mul, iN_sub, iN_m1, iNp1, iNp2, iNp3, iNp4, iNp5, iNp6, iNp8, iNp12, iNp16, iNp20, iNp305, iNl1, iNl6, iNl9, iNl12, iNl41, iNl65, iNl305, iNl306, iNl354, iNl1154, iNl1155, iNl1203, iNm2, iNm4, iNm6, iNm8, iNm10, iNm12, iNm60, iNm305, iNs1, iNs4, iNs8, rSi Hd, rSp Hd, rSc Hd, rSP Hd, rSO Hd, rSPi Hd, rSPp Hd, rSPc Hd, rSOi Hd, rSOp Hd, rSOc Hd, rSr0 Hd, rSr1 Hd, rSr2 Hd, rSr3 Hd, rSr4 Hd, rSr5 Hd, rSa3 Hd, rSa4 Hd, rSa5 Hd, rSs3 Hd, rSs4 Hd, rSs5 Hd, rSf0 Hd, rSf1 Hd, rSf2 Hd, rSf3 Hd, rSf4 Hd, rSf5 Hd, rSf6 Hd, rSf7 Hd, rSi Hs, rSp Hs, rSc Hs, rSP Hs, rSO Hs, rSPi Hs, rSPp Hs, rSPc Hs, rSOi Hs, rSOp Hs, rSOc Hs, rSr0 Hs, rSr1 Hs, rSr2 Hs, rSr3 Hs, rSr4 Hs, rSr5 Hs, rSa3 Hs, rSa4 Hs, rSa5 Hs, rSs3 Hs, rSs4 Hs, rSs5 Hs, rSf0 Hs, rSf1 Hs, rSf2 Hs, rSf3 Hs, rSf4 Hs, rSf5 Hs, rSf6 Hs, rSf7 Hs]
    refine w_X5be (Hd.2.2.2 i (by omega)).2 (Hs.2.2.2 i (by omega)).2 (by omega) (fun jv h3 h4 => ?_)
    refine ih (i + 1) n jv (by omega) (by omega) (by rw [h4 c (by omega)]; exact h6) (fun iv' h5 h7 => hP iv' (fun p g1 g2 f hf => ?_) (fun a ha => ?_))
    · by_cases e : p = i
      · subst e
        rw [h7 _ (by omega), h3 f hf]
      · rw [h5 p (by omega) g2 f hf, h4 _ (by omega)]
    · rw [h7 a (by omega), h4 a (by omega)]
theorem w_be_62 (Hd : SS u b) (Hs : SS u c) (hdis : b + 21 ≤ c ∨ c + 21 ≤ b) {P : Unit → g_H → Prop} (hP : ∀ iv', (∀ k : Nat, 6 ≤ k → k < 15 → iv' b k = iv c k) → (∀ k : Nat, k < 10 → iv' (b + 4) k = iv (c + 4) k) → (∀ k : Nat, k < 240 → iv' (b + 6) k = iv (c + 6) k) → (∀ a : Nat, a ≠ b → a ≠ b + 4 → a ≠ b + 6 → iv' a = iv a) → P () (iv', u.1, va_up u.2.1 (b + 3) (va_cpy (u.2.1 (c + 3)) (u.2.1 (b + 3)) 0 0 12), u.2.2)) : gW (f_X3_be_62 b c) (iv, u) P := by
  unfold f_X3_be_62
  have ha : u.1 (b + 3) = some (.inl (6, 12)) := (Hd.2.1 2 (by decide)).2
  have hc : u.1 (c + 3) = some (.inl (6, 12)) := (Hs.2.1 2 (by decide)).2
  simp (disch := omega) only [gW_B, gW_ret, gW_tr, gW_fa, iN_add, iN_mul, iN_sub, iN_m1, iNp1, iNp2, iNp3, iNp4, iNp5, iNp6, iNp8, iNp12, iNp16, iNp20, iNp305, iNl1, iNl6, iNl9, iNl12, iNl41, iNl65, iNl305, iNl306, iNl354, iNl1154, iNl1155, iNl1203, iNm2, iNm4, iNm6, iNm8, iNm10, iNm12, iNm60, iNm305, iNs1, iNs4, iNs8, rSi Hd, rSp Hd, rSc Hd, rSP Hd, rSO Hd, rSPi Hd, rSPp Hd, rSPc Hd, rSOi Hd, rSOp Hd, rSOc Hd, rSr0 Hd, rSr1 Hd, rSr2 Hd, rSr3 Hd, rSr4 Hd, rSr5 Hd, rSa3 Hd, rSa4 Hd, rSa5 Hd, rSs3 Hd, rSs4 Hd, rSs5 Hd, rSf0 Hd, rSf1 Hd, rSf2 Hd, rSf3 Hd, rSf4 Hd, rSf5 Hd, rSf6 Hd, rSf7 Hd, rSi Hs, rSp Hs, rSc Hs, rSP Hs, rSO Hs, rSPi Hs, rSPp Hs, rSPc Hs, rSOi Hs, rSOp Hs, rSOc Hs, rSr0 Hs, rSr1 Hs, rSr2 Hs, rSr3 Hs, rSr4 Hs, rSr5 Hs, rSa3 Hs, rSa4 Hs, rSa5 Hs, rSs3 Hs, rSs4 Hs, rSs5 Hs, rSf0 Hs, rSf1 Hs, rSf2 Hs, rSf3 Hs, rSf4 Hs, rSf5 Hs, rSf6 Hs, rSf7 Hs]
  rw [show (0 : Int32) = iN 0 from rfl, show (12 : Int32) = iN 12 from rfl, show (10 : Int32) = iN 10 from rfl, show (240 : Int32) = iN 240 from rfl]
  rw [gW_CpQ hc ha (by omega) (by omega) (by omega) (by omega) (by omega)]
  have Hd2 := Hd.rv (f := va_cpy (u.2.1 (c + 3)) (u.2.1 (b + 3)) 0 0 12) ha
  have Hs2 := Hs.rv (f := va_cpy (u.2.1 (c + 3)) (u.2.1 (b + 3)) 0 0 12) ha
  simp (disch := omega) only [gW_B, gW_ret, gW_tr, gW_fa, iN_add, iN_mul, iN_sub, iN_m1, iNp1, iNp2, iNp3, iNp4, iNp5, iNp6, iNp8, iNp12, iNp16, iNp20, iNp305, iNl1, iNl6, iNl9, iNl12, iNl41, iNl65, iNl305, iNl306, iNl354, iNl1154, iNl1155, iNl1203, iNm2, iNm4, iNm6, iNm8, iNm10, iNm12, iNm60, iNm305, iNs1, iNs4, iNs8, rSi Hd2, rSp Hd2, rSc Hd2, rSP Hd2, rSO Hd2, rSPi Hd2, rSPp Hd2, rSPc Hd2, rSOi Hd2, rSOp Hd2, rSOc Hd2, rSr0 Hd2, rSr1 Hd2, rSr2 Hd2, rSr3 Hd2, rSr4 Hd2, rSr5 Hd2, rSa3 Hd2, rSa4 Hd2, rSa5 Hd2, rSs3 Hd2, rSs4 Hd2, rSs5 Hd2, rSf0 Hd2, rSf1 Hd2, rSf2 Hd2, rSf3 Hd2, rSf4 Hd2, rSf5 Hd2, rSf6 Hd2, rSf7 Hd2, rSi Hs2, rSp Hs2, rSc Hs2, rSP Hs2, rSO Hs2, rSPi Hs2, rSPp Hs2, rSPc Hs2, rSOi Hs2, rSOp Hs2, rSOc Hs2, rSr0 Hs2, rSr1 Hs2, rSr2 Hs2, rSr3 Hs2, rSr4 Hs2, rSr5 Hs2, rSa3 Hs2, rSa4 Hs2, rSa5 Hs2, rSs3 Hs2, rSs4 Hs2, rSs5 Hs2, rSf0 Hs2, rSf1 Hs2, rSf2 Hs2, rSf3 Hs2, rSf4 Hs2, rSf5 Hs2, rSf6 Hs2, rSf7 Hs2]
  rw [gW_CpI (Hs2.2.1 3 (by decide)).2 (Hd2.2.1 3 (by decide)).2 (by omega) (by omega) (by omega) (by omega) (by omega)]
  simp (disch := omega) only [gW_B, gW_ret, gW_tr, gW_fa, iN_add, iN_mul, iN_sub, iN_m1, iNp1, iNp2, iNp3, iNp4, iNp5, iNp6, iNp8, iNp12, iNp16, iNp20, iNp305, iNl1, iNl6, iNl9, iNl12, iNl41, iNl65, iNl305, iNl306, iNl354, iNl1154, iNl1155, iNl1203, iNm2, iNm4, iNm6, iNm8, iNm10, iNm12, iNm60, iNm305, iNs1, iNs4, iNs8, rSi Hd2, rSp Hd2, rSc Hd2, rSP Hd2, rSO Hd2, rSPi Hd2, rSPp Hd2, rSPc Hd2, rSOi Hd2, rSOp Hd2, rSOc Hd2, rSr0 Hd2, rSr1 Hd2, rSr2 Hd2, rSr3 Hd2, rSr4 Hd2, rSr5 Hd2, rSa3 Hd2, rSa4 Hd2, rSa5 Hd2, rSs3 Hd2, rSs4 Hd2, rSs5 Hd2, rSf0 Hd2, rSf1 Hd2, rSf2 Hd2, rSf3 Hd2, rSf4 Hd2, rSf5 Hd2, rSf6 Hd2, rSf7 Hd2, rSi Hs2, rSp Hs2, rSc Hs2, rSP Hs2, rSO Hs2, rSPi Hs2, rSPp Hs2, rSPc Hs2, rSOi Hs2, rSOp Hs2, rSOc Hs2, rSr0 Hs2, rSr1 Hs2, rSr2 Hs2, rSr3 Hs2, rSr4 Hs2, rSr5 Hs2, rSa3 Hs2, rSa4 Hs2, rSa5 Hs2, rSs3 Hs2, rSs4 Hs2, rSs5 Hs2, rSf0 Hs2, rSf1 Hs2, rSf2 Hs2, rSf3 Hs2, rSf4 Hs2, rSf5 Hs2, rSf6 Hs2, rSf7 Hs2]
  rw [gW_CpI (Hs2.2.1 5 (by decide)).2 (Hd2.2.1 5 (by decide)).2 (by omega) (by omega) (by omega) (by omega) (by omega)]
  generalize hj : va_up (va_up iv (b + 1 + 3) (va_cpy (iv (c + 1 + 3)) (iv (b + 1 + 3)) 0 0 10)) (b + 1 + 5) (va_cpy (va_up iv (b + 1 + 3) (va_cpy (iv (c + 1 + 3)) (iv (b + 1 + 3)) 0 0 10) (c + 1 + 5)) (va_up iv (b + 1 + 3) (va_cpy (iv (c + 1 + 3)) (iv (b + 1 + 3)) 0 0 10) (b + 1 + 5)) 0 0 240) = jv
  have j4 : ∀ k : Nat, k < 10 → jv (b + 4) k = iv (c + 4) k := fun k hk => by
    rw [← hj, va_up_ne _ _ (by omega), show b + 4 = b + 1 + 3 by omega, va_up_self]
    unfold va_cpy
    rw [if_pos ⟨by omega, by omega⟩]
    congr 1
    omega
  have j6 : ∀ k : Nat, k < 240 → jv (b + 6) k = iv (c + 6) k := fun k hk => by
    rw [← hj, show b + 6 = b + 1 + 5 by omega, va_up_self]
    unfold va_cpy
    rw [if_pos ⟨by omega, by omega⟩, va_up_ne _ _ (by omega)]
    congr 1
    omega
  have ja : ∀ a : Nat, a ≠ b + 4 → a ≠ b + 6 → jv a = iv a := fun a h1 h2 => by
    rw [← hj, va_up_ne _ _ (by omega), va_up_ne _ _ (by omega)]
  have e : ∀ (kv : gV) (k j : Nat) (v : Int32), g_u2 kv b k v c j = kv c j := fun kv k j v => by rw [g_u2_ne _ _ _ (by omega)]
  simp (disch := omega) only [gW_B, gW_ret, gW_tr, gW_fa, iN_add, iN_mul, iN_sub, iN_m1, iNp1, iNp2, iNp3, iNp4, iNp5, iNp6, iNp8, iNp12, iNp16, iNp20, iNp305, iNl1, iNl6, iNl9, iNl12, iNl41, iNl65, iNl305, iNl306, iNl354, iNl1154, iNl1155, iNl1203, iNm2, iNm4, iNm6, iNm8, iNm10, iNm12, iNm60, iNm305, iNs1, iNs4, iNs8, rSi Hd2, rSp Hd2, rSc Hd2, rSP Hd2, rSO Hd2, rSPi Hd2, rSPp Hd2, rSPc Hd2, rSOi Hd2, rSOp Hd2, rSOc Hd2, rSr0 Hd2, rSr1 Hd2, rSr2 Hd2, rSr3 Hd2, rSr4 Hd2, rSr5 Hd2, rSa3 Hd2, rSa4 Hd2, rSa5 Hd2, rSs3 Hd2, rSs4 Hd2, rSs5 Hd2, rSf0 Hd2, rSf1 Hd2, rSf2 Hd2, rSf3 Hd2, rSf4 Hd2, rSf5 Hd2, rSf6 Hd2, rSf7 Hd2, rSi Hs2, rSp Hs2, rSc Hs2, rSP Hs2, rSO Hs2, rSPi Hs2, rSPp Hs2, rSPc Hs2, rSOi Hs2, rSOp Hs2, rSOc Hs2, rSr0 Hs2, rSr1 Hs2, rSr2 Hs2, rSr3 Hs2, rSr4 Hs2, rSr5 Hs2, rSa3 Hs2, rSa4 Hs2, rSa5 Hs2, rSs3 Hs2, rSs4 Hs2, rSs5 Hs2, rSf0 Hs2, rSf1 Hs2, rSf2 Hs2, rSf3 Hs2, rSf4 Hs2, rSf5 Hs2, rSf6 Hs2, rSf7 Hs2, e]
  refine hP _ (fun k h1 h2 => ?_) (fun k hk => ?_) (fun k hk => ?_) (fun a h1 h2 h3 => ?_)
  · have hcc : jv c = iv c := ja c (by omega) (by omega)
    rw [hcc]
    have : k = 6 ∨ k = 7 ∨ k = 8 ∨ k = 9 ∨ k = 10 ∨ k = 11 ∨ k = 12 ∨ k = 13 ∨ k = 14 := by omega
    rcases this with rfl | rfl | rfl | rfl | rfl | rfl | rfl | rfl | rfl <;> simp [g_u2, va_up]
  · simp only [g_u2_ne _ _ _ (show b + 4 ≠ b by omega)]
    exact j4 k hk
  · simp only [g_u2_ne _ _ _ (show b + 6 ≠ b by omega)]
    exact j6 k hk
  · simp only [g_u2_ne _ _ _ h1]
    exact ja a h2 h3
/-- a State becomes as another is -/
theorem w_be (Hd : SS u b) (Hs : SS u c) (hdis : b + 21 ≤ c ∨ c + 21 ≤ b) {W : Nat → Int32} {pn on rm : Nat} (hS : cSt iv c W pn on rm) (hW : W 0 = iN pn ∧ pn ≤ 8 ∧ W 1 = iN on ∧ on ≤ 6) {P : Unit → g_H → Prop} (hP : ∀ iv', cSt iv' b W pn on rm → iv' b 8 = iv c 8 → (∀ a : Nat, a < b ∨ b + 21 ≤ a → iv' a = iv a) → P () (iv', u.1, va_up u.2.1 (b + 3) (va_cpy (u.2.1 (c + 3)) (u.2.1 (b + 3)) 0 0 12), u.2.2)) : gW (f_X3_be b c) (iv, u) P := by
  obtain ⟨⟨s1, s2, s3, s4, s5, s6, s7, s8⟩, sp, so, sl, sg, sr⟩ := hS
  obtain ⟨w1, w2, w3, w4⟩ := hW
  unfold f_X3_be
  refine w_be_2 Hd Hs hdis w2 pn 0 gN iv (by omega) (by rw [gN_eq]; omega) (s1.trans w1) (fun jv p1 p2 => ?_)
  unfold f_X3_be_31
  refine w_be_33 Hd Hs hdis w4 on 0 gN jv (by omega) (by rw [gN_eq]; omega) (by rw [p2 c (by omega)]; exact s2.trans w3) (fun kv o1 o2 => ?_)
  refine w_be_62 Hd Hs hdis (fun iv' q1 q2 q3 q4 => ?_)
  have kc : ∀ a : Nat, a < b ∨ b + 21 ≤ a → kv a = iv a := fun a ha => by rw [o2 a (by omega), p2 a (by omega)]
  have kc0 : kv c = iv c := kc c (by omega)
  refine hP iv' ⟨⟨?_, ?_, ?_, ?_, ?_, ?_, ?_, ?_⟩, fun p hp f hf => ?_, fun o ho f hf => ?_, fun s hs => ?_, sg, fun a ha f hf => ?_⟩ ?_ (fun a ha => ?_)
  · rw [q1 6 (by omega) (by omega), kc0]; exact s1
  · rw [q1 7 (by omega) (by omega), kc0]; exact s2
  · rw [q1 9 (by omega) (by omega), kc0]; exact s3
  · rw [q1 10 (by omega) (by omega), kc0]; exact s4
  · rw [q1 11 (by omega) (by omega), kc0]; exact s5
  · rw [q1 12 (by omega) (by omega), kc0]; exact s6
  · rw [q1 13 (by omega) (by omega), kc0]; exact s7
  · rw [q1 14 (by omega) (by omega), kc0]; exact s8
  · rw [q4 _ (by omega) (by omega) (by omega), o2 _ (by omega), p1 p (by omega) hp f hf]; exact sp p hp f hf
  · rw [q4 _ (by omega) (by omega) (by omega), o1 o (by omega) ho f hf, p2 _ (by omega)]; exact so o ho f hf
  · rw [q2 s hs, kc _ (by omega)]; exact sl s hs
  · rw [q3 _ (by omega), kc _ (by omega)]; exact sr a ha f hf
  · rw [q1 8 (by omega) (by omega), kc0]
  · rw [q4 a (by omega) (by omega) (by omega), kc a ha]
end CP
