/-! OPS: nail, down, inside -/
section O4
variable {iv jv kv lv : gV} {u v : gU} {x z n t : Nat} {W W' : Nat → Int32} {pn on rm : Nat}
theorem sIn_iff {y : Int32} (h : ∀ p : Nat, p < pn → (W' (9 + 4 * p + 3) = y ↔ W (9 + 4 * p + 3) = y)) : sIn W' pn y = sIn W pn y := by
  unfold sIn
  have : ∀ k i : Nat, i + k = pn → sInF W' y k i = sInF W y k i := by
    intro k
    induction k with
    | zero => exact fun _ _ => rfl
    | succ k ih =>
      intro i hi
      rw [sInF, sInF, ih (i + 1) (by omega)]
      by_cases c : W (9 + 4 * i + 3) = y
      · rw [if_pos c, if_pos ((h i (by omega)).mpr c)]
      · rw [if_neg c, if_neg (fun q => c ((h i (by omega)).mp q))]
  exact this pn 0 (by omega)
theorem sIn_no {y : Int32} (h : ∀ p : Nat, p < pn → W (9 + 4 * p + 3) ≠ y) : sIn W pn y = -1 := by
  rcases sIn_or W pn y with q | ⟨j, j1, j2, j3⟩
  · exact q
  · exact (h j j1 j3).elim
theorem sIn_none (hW : WI W pn on) {y : Int32} (h : sIn W pn y = -1) (hy : y ≠ -1) : ∀ p : Nat, p < pn → W (9 + 4 * p + 3) ≠ y := by
  intro p hp he
  have h1 := sIn_found hW hp (by rw [he]; exact hy)
  rw [he, h] at h1
  have := hW.1.2.1
  exact iN_eqm (by omega) h1.symm
theorem cSt.sl {b p : Nat} {y : Int32} (h : cSt iv b W pn on rm) (hW : WI W pn on) (hp : p < pn) (e1 : jv (b + 7 + p) = va_up (iv (b + 7 + p)) 3 y) (e4 : ∀ s : Nat, s < 10 → jv (b + 4) s = sIn (va_up W (9 + 4 * p + 3) y) pn (iN s)) (e : ∀ a : Nat, b ≤ a → a < b + 21 → a ≠ b + 7 + p → a ≠ b + 4 → jv a = iv a) : cSt jv b (va_up W (9 + 4 * p + 3) y) pn on rm := by
  have h8 := hW.1.2.1
  have h6 := hW.1.2.2.2
  obtain ⟨⟨s1, s2, s3, s4, s5, s6, s7, s8⟩, sp, so, sl, sg, sr⟩ := h
  refine ⟨⟨?_, ?_, ?_, ?_, ?_, ?_, ?_, ?_⟩, fun p' hp' i hi => ?_, fun o ho' i hi => ?_, e4, ?_, fun a ha i hi => ?_⟩
  · rw [e b (Nat.le_refl _) (by omega) (by omega) (by omega), va_up_ne _ _ (by omega)]; exact s1
  · rw [e b (Nat.le_refl _) (by omega) (by omega) (by omega), va_up_ne _ _ (by omega)]; exact s2
  · rw [e b (Nat.le_refl _) (by omega) (by omega) (by omega), va_up_ne _ _ (by omega)]; exact s3
  · rw [e b (Nat.le_refl _) (by omega) (by omega) (by omega), va_up_ne _ _ (by omega)]; exact s4
  · rw [e b (Nat.le_refl _) (by omega) (by omega) (by omega), va_up_ne _ _ (by omega)]; exact s5
  · rw [e b (Nat.le_refl _) (by omega) (by omega) (by omega), va_up_ne _ _ (by omega)]; exact s6
  · rw [e b (Nat.le_refl _) (by omega) (by omega) (by omega), va_up_ne _ _ (by omega)]; exact s7
  · rw [e b (Nat.le_refl _) (by omega) (by omega) (by omega)]; exact s8
  · by_cases eo : p' = p
    · subst eo
      rw [e1]
      by_cases ei : i = 3
      · rw [ei, va_up_self, va_up_self]
      · rw [va_up_ne _ _ ei, va_up_ne _ _ (by omega)]; exact sp p' hp' i hi
    · rw [e _ (by omega) (by omega) (by omega) (by omega), va_up_ne _ _ (by omega)]; exact sp p' hp' i hi
  · rw [e _ (by omega) (by omega) (by omega) (by omega), va_up_ne _ _ (by omega)]; exact so o ho' i hi
  · rw [va_up_ne _ _ (by omega)]; exact sg
  · rw [e _ (by omega) (by omega) (by omega) (by omega), va_up_ne _ _ (by omega)]; exact sr a ha i hi
theorem WI.slt {p : Nat} {y : Int32} (h : WI W pn on) (hp : p < pn) (hy : y = -1 ∨ ∃ s : Nat, s < 10 ∧ y = iN s) (hd : y ≠ -1 → ∀ q : Nat, q < pn → W (9 + 4 * q + 3) ≠ y) : WI (va_up W (9 + 4 * p + 3) y) pn on := by
  have h8 := h.1.2.1
  have hdd : ∀ q : Nat, q < pn → y ≠ -1 → W (9 + 4 * q + 3) ≠ y := fun q hq hn => hd hn q hq
  clear hd
  obtain ⟨⟨a1, a2, a3, a4⟩, b, c, d, f1, f2, f3, f4, f5⟩ := h
  have n0 : ∀ j k : Nat, j < 9 → j ≠ 9 + 4 * k + 3 := fun j k hj => by omega
  have n1 : ∀ j k f : Nat, f < 3 → 9 + 4 * j + f ≠ 9 + 4 * k + 3 := fun j k f hf => by omega
  have n2 : ∀ j k : Nat, j ≠ k → 9 + 4 * j + 3 ≠ 9 + 4 * k + 3 := fun j k hf => by omega
  have n3 : ∀ j f : Nat, 41 + 4 * j + f ≠ 9 + 4 * p + 3 := fun j f => by clear hy f1 f2 f3 f4 f5; omega
  refine ⟨⟨by rw [va_up_ne _ _ (n0 _ _ (by decide))]; exact a1, a2, by rw [va_up_ne _ _ (n0 _ _ (by decide))]; exact a3, a4⟩, fun p' hp' => ?_, fun p' q hp' hq => ?_, fun o' ho' => ?_, ?_, ?_, ?_, ?_, ?_⟩
  · obtain ⟨d3, d0, d1, d2⟩ := b p' hp'
    refine ⟨?_, by rw [va_up_ne _ _ (n1 _ _ _ (by decide))]; exact d0, by rw [va_up_ne _ _ (n1 _ _ _ (by decide))]; exact d1, by rw [va_up_ne _ _ (n1 _ _ _ (by decide))]; exact d2⟩
    by_cases ec : p' = p
    · rw [ec, va_up_self]; exact hy
    · rw [va_up_ne _ _ (n2 _ _ ec)]; exact d3
  · by_cases e1 : p' = p
    · by_cases e2 : q = p
      · rw [e1, e2]; exact fun _ _ => rfl
      · rw [e1, va_up_self, va_up_ne _ _ (n2 _ _ e2)]
        exact fun g1 g2 => (hdd q hq g2 g1.symm).elim
    · by_cases e2 : q = p
      · rw [e2, va_up_self, va_up_ne _ _ (n2 _ _ e1)]
        exact fun g1 g2 => (hdd p' hp' (by rw [← g1]; exact g2) g1).elim
      · rw [va_up_ne _ _ (n2 _ _ e1), va_up_ne _ _ (n2 _ _ e2)]; exact c p' q hp' hq
  · rw [va_up_ne _ _ (n3 _ _), va_up_ne _ _ (n3 _ _), va_up_ne _ _ (n3 _ _), va_up_ne _ _ (n3 _ _)]; exact d o' ho'
  · rw [va_up_ne _ _ (n0 _ _ (by decide))]; exact f1
  · rw [va_up_ne _ _ (n0 _ _ (by decide))]; exact f2
  · rw [va_up_ne _ _ (n0 _ _ (by decide))]; exact f3
  · rw [va_up_ne _ _ (n0 _ _ (by decide))]; exact f4
  · rw [va_up_ne _ _ (n0 _ _ (by decide))]; exact f5
/-- those accused whose state is y -/
def oMk (W : Nat → Int32) (y : Int32) : Nat → Nat → Int32 → Int32
  | 0, _, s => s
  | k + 1, i, s => oMk W y k (i + 1) (s ||| if W (41 + 4 * i + 3) = y then (1 : Int32) <<< (iN i &&& 31) else 0)
theorem w_those_4 {b : Nat} (H : SS u b) {y : Int32} (h7 : iv b 7 = iN on) (ho : on ≤ 6) (hs : ∀ o : Nat, o < on → iv (b + 15 + o) 3 = W (41 + 4 * o + 3)) {P : Int32 → g_H → Prop} : ∀ (k i n : Nat) (s : Int32), i + k = on → k < n → (gW (f_X3_those_4 n b y s (iN i)) (iv, u) P ↔ P (oMk W y k i s) (iv, u)) := by
  intro k
  induction k with
  | zero =>
    intro i n s h1 h2
    obtain ⟨n, rfl⟩ : ∃ n', n = n' + 1 := ⟨n - 1, by omega⟩
    have : i = on := by omega
    subst this
    unfold f_X3_those_4 f_X3_those_41
    rw [gW_B, rSi H, h7, gW_ift (Int32.le_refl _), gW_ret]
    rfl
  | succ k ih =>
    intro i n s h1 h2
    obtain ⟨n, rfl⟩ : ∃ n', n = n' + 1 := ⟨n - 1, by omega⟩
    rw [f_X3_those_4, gW_B, rSi H, h7, gW_iff (by rw [iN_le (by omega) (by omega)]; omega), gW_B, rSr1 H, gW_B, rSO H (by omega), gW_B, rSOi H (by omega), hs i (by omega), oMk]
    unfold f_X3_those_33
    by_cases c : W (41 + 4 * i + 3) = y
    · rw [gW_ift c, if_pos c, iNp1]
      exact ih (i + 1) n _ (by omega) (by omega)
    · rw [gW_iff c, if_neg c, iNp1]
      exact ih (i + 1) n _ (by omega) (by omega)
theorem w_those {b : Nat} (H : SS u b) {y : Int32} (h : cSt iv b W pn on rm) (hW : WI W pn on) {P : Int32 → g_H → Prop} : gW (f_X3_those b y) (iv, u) P ↔ P (oMk W y on 0 0) (iv, u) := by
  have := hW.1.2.2.2
  unfold f_X3_those
  show gW (f_X3_those_4 gN b y 0 (iN 0)) _ _ ↔ _
  exact w_those_4 H (h.1.2.1.trans hW.1.2.2.1) (by omega) (fun o ho => h.2.2.1 o ho 3 (by decide)) on 0 gN 0 (by omega) (by rw [gN_eq]; omega)
theorem w_ofState_4 (H : MS u (x + 353)) {y : Int32} (h7 : iv (x + 353 + 1) 1 = iN on) (ho : on ≤ 6) {P : Int32 → g_H → Prop} : ∀ (k i n : Nat) (s : Int32), i + k = on → k < n → (gW (f_X8_ofState_4 n (x + 353) y s (iN i)) (iv, u) P ↔ P (oMk (iv (x + 353 + 1)) y k i s) (iv, u)) := by
  intro k
  induction k with
  | zero =>
    intro i n s h1 h2
    obtain ⟨n, rfl⟩ : ∃ n', n = n' + 1 := ⟨n - 1, by omega⟩
    have : i = on := by omega
    subst this
    unfold f_X8_ofState_4 f_X8_ofState_38
    rw [gW_B, rMc H, gW_B, w_oneCount H, h7, gW_ift (Int32.le_refl _), gW_ret]
    rfl
  | succ k ih =>
    intro i n s h1 h2
    obtain ⟨n, rfl⟩ : ∃ n', n = n' + 1 := ⟨n - 1, by omega⟩
    rw [f_X8_ofState_4, gW_B, rMc H, gW_B, w_oneCount H, h7, gW_iff (by rw [iN_le (by omega) (by omega)]; omega), gW_B, rMc H, gW_B, w_of3 H (by omega), oMk]
    unfold f_X8_ofState_30
    by_cases c : iv (x + 353 + 1) (41 + 4 * i + 3) = y
    · rw [gW_ift c, if_pos c, iNp1]
      exact ih (i + 1) n _ (by omega) (by omega)
    · rw [gW_iff c, if_neg c, iNp1]
      exact ih (i + 1) n _ (by omega) (by omega)
theorem w_ofState (H : MS u (x + 353)) {y : Int32} (e : iv (x + 353 + 1) = W) (hW : WI W pn on) {P : Int32 → g_H → Prop} : gW (f_X8_ofState (x + 353) y) (iv, u) P ↔ P (oMk W y on 0 0) (iv, u) := by
  have := hW.1.2.2.2
  unfold f_X8_ofState
  rw [← e]
  show gW (f_X8_ofState_4 gN (x + 353) y 0 (iN 0)) _ _ ↔ _
  exact w_ofState_4 H (by rw [e]; exact hW.1.2.2.1) (by omega) on 0 gN 0 (by omega) (by rw [gN_eq]; omega)
variable {b : Nat}
theorem o_inside {a : Int32} : gOp x z b n t (f_X0_inside x a (x + 369)) (f_X8_inside (x + 353) a) := by
  intro iv u hR
  obtain ⟨pn, on, rm, L, q, r, hq, hr, g3, g4, g5, h1, h2, g6, hC, hM⟩ := hR.all
  have HX := hC.X
  have h8 := h1.2.1.1.2.1
  have h6 := h1.2.1.1.2.2.2
  have sO := hR.out
  unfold f_X0_inside f_X1_inside f_X1_inside_18
  rw [gW_B, rXc HX, gW_B, gW_B, rXc HX, gW_T]
  by_cases ha : 0 ≤ a ∧ a ≤ iN on - 1
  · obtain ⟨o, ho, rfl⟩ := i_get (by omega) ha
    rw [w_oneAt_t hC ho]
    dsimp only
    rw [gW_B, rSOi HX.nw (by omega), h1.1.2.2.1 o ho 3 (by decide)]
    by_cases c2 : iv (x + 354) (41 + 4 * o + 3) = 0
    · rw [gW_ift c2, gW_T, w_can_t rfl]
      dsimp only
      rw [gW_B, rXc HX, gW_B]
      refine c_rem HX hM.M h1.1 h1.2.1 hq hr g3 g5 (fun j1 v1 hA hk hj => ?_)
      have H1 := hA.2.1
      have M1 := hA.2.2.1
      have N1 := nowC h1.1 h1.2.1 hr hj
      have WN : WI (va_up (iv (x + 354)) (41 + 4 * o + 3) 3) pn on := h1.2.1.one ho (Or.inr rfl) ⟨fun q => absurd q (by decide), fun _ => ⟨3, by decide, rfl⟩⟩
      have e1 : ∀ a : Nat, a ≠ x + 28 + 15 + o → g_u2 j1 (x + 28 + 15 + o) 3 3 a = j1 a := fun a a1 => g_u2_ne _ _ _ a1
      have e2 : g_u2 j1 (x + 28 + 15 + o) 3 3 (x + 28 + 15 + o) = va_up (j1 (x + 28 + 15 + o)) 3 3 := g_u2_self _ _ _ _
      rw [gW_B, rSOp H1.nw (by omega)]
      generalize g_u2 j1 (x + 28 + 15 + o) 3 3 = j0 at e1 e2 ⊢
      have N0 := N1.one h1.2.1 ho (by decide) e2 (fun a a1 a2 a3 => e1 a a3)
      rw [gW_B, rXr1 H1, gW_B, rSc H1.nw, gW_B, w_those H1.nw N0 WN, gW_B, w_bitCount, gW_ret]
      show gW (gB (gSI (x + 369) 2 (0 : Int32) _) _) _ _
      generalize hB : bC (oMk (va_up (iv (x + 354)) (41 + 4 * o + 3) 3) 3 on 0 0) = y
      rw [gW_B, w_outS (u := v1) (by rw [hA.2.2.2.1]; exact sO), gW_ret]
      unfold f_X8_inside f_X8_inside_32 f_X8_inside_39
      have d1 : ∀ a : Nat, a ≠ x + 369 → g_u2 j0 (x + 369) 0 y a = j0 a := fun a a1 => g_u2_ne _ _ _ a1
      have d2 : g_u2 j0 (x + 369) 0 y (x + 369) 0 = y := by rw [g_u2_self, va_up_self]
      generalize g_u2 j0 (x + 369) 0 y = j2 at d1 d2 ⊢
      have eW : j2 (x + 354) = iv (x + 354) := by rw [d1 _ (by omega), e1 _ (by omega), hj _ (by omega) (by omega)]
      have hM2 : MI x j2 v1 (iv (x + 354)) pn on L := ⟨M1, eW, h1.2.1, h2⟩
      refine m_z hM2 (fun j3 z1 z2 z3 hM3 => ?_)
      have H := hM3.M
      have e3 : j3 (x + 353 + 1) = iv (x + 354) := hM3.vE
      rw [gW_B, rMc H, gW_B, m_noOne_t hM3 ho, gW_B, rMc H, gW_B, m_thr0, gW_ift rfl, gW_B, rMc H, gW_B, w_waits H (by omega), e3, bI_t c2, gW_iff (by decide), gW_B, rMc H, gW_B, m_thr0, gW_ift rfl, gW_B, rMc H, gW_B]
      refine m_rem (iv := iv) H hq (by rw [z1.2.2.2.1 7 (by omega), d1 _ (by omega), e1 _ (by omega), hj _ (by omega) (by omega)]; exact g4) e3 (by rw [z3 _ (by omega), d1 _ (by omega), e1 _ (by omega), hj _ (by omega) (by omega)]) (fun j4 m1 m2 m3 => ?_)
      have e4 : j4 (x + 353 + 1) = iv (x + 354) := by rw [m3 _ (by omega) (by omega)]; exact e3
      have e5 : g_u2 j4 (x + 353 + 1) (41 + 4 * o + 3) 3 (x + 353 + 1) = va_up (iv (x + 354)) (41 + 4 * o + 3) 3 := by rw [g_u2_self, e4]
      rw [gW_B, rMr0 H, gW_B, woA.2.2.2, gW_B, rMs0 H (by omega), gW_B, rMc H, gW_B, w_ofState H e5 WN, gW_B, w_bitCount, hB, gW_ret]
      have e5 : g_u2 j4 (x + 353 + 1) (41 + 4 * o + 3) 3 (x + 354) = va_up (iv (x + 354)) (41 + 4 * o + 3) 3 := e5
      refine ⟨?_, ?_, act_fin (j5 := g_u2 j4 (x + 353 + 1) (41 + 4 * o + 3) 3) hR h1 h2 hq hr g6 hA hk hj (fun a a1 a2 => by rw [d1 a a2, e1 a (by omega)]) z1 z3 m1 m2 m3 (fun a a1 => g_u2_ne _ _ _ a1) (pn' := pn) (on' := on) (rm' := rm) ?_ ?_ (by have := h1.2.2.1; omega) (by rw [d1 _ (by omega), e1 _ (by omega)]) (fun k hk => ?_)⟩
      · show g_u2 j4 (x + 353 + 1) _ 3 (x + 353) 0 = 0
        rw [g_u2_ne _ _ _ (by omega), m2 0 (by decide)]; exact z2
      · rw [oE0]
        show g_u2 j4 (x + 353 + 1) _ 3 (x + 369) 0 = _
        rw [g_u2_ne _ _ _ (by omega), m3 _ (by omega) (by omega), z3 _ (by omega)]; exact d2
      · rw [e5]
        exact N0.fr h8 h6 (fun k _ => by rw [d1 _ (by omega)]) (fun a a1 a2 _ => d1 a (by omega))
      · rw [e5]
        exact WN
      · rw [e5, va_up_ne _ _ (by omega)]
    · rw [gW_iff c2, gW_T]
      refine w_can_f rfl (fun a' jv v hT => ?_)
      show gW (gIf ((13 : Nat) = 19) (gRet 1) (gIf ((13 : Nat) = 13) (gRet 2) gFail)) (jv, v) _
      rw [gW_iff (by decide), gW_ift rfl, gW_ret]
      refine op_thr hR hT (by decide) ?_
      unfold f_X8_inside f_X8_inside_32 f_X8_inside_39
      refine m_z (hM.th hR.nx hT) (fun lv z1 z2 z3 hM2 => ?_)
      have H := hM2.M
      rw [gW_B, rMc H, gW_B, m_noOne_t hM2 ho, gW_B, rMc H, gW_B, m_thr0, gW_ift rfl, gW_B, rMc H, gW_B, w_waits H (by omega), show lv (x + 353 + 1) = iv (x + 354) from hM2.vE, bI_f c2, gW_ift rfl, gW_B, rMc H, gW_B, m_thr1 H, gW_iff (by decide), gW_ret]
      exact m_te z1
  · refine w_oneAt_f hC ha (fun a' jv v hT => ?_)
    simp only [gW_tr, gW_fa, gW_ret, cN1, cN2, cN3, cN4]
    refine op_thr hR hT (by decide) ?_
    unfold f_X8_inside f_X8_inside_39
    refine m_z (hM.th hR.nx hT) (fun lv z1 z2 z3 hM2 => ?_)
    have H := hM2.M
    rw [gW_B, rMc H, gW_B, m_noOne_f hM2 ha, gW_B, rMc H, gW_B, m_thr1 H, gW_iff (by decide), gW_ret]
    exact m_te z1
end O4
