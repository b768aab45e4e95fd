/-! A RIDE -/
section RD
variable {iv iv0 : gV} {u : gU} {m : Nat} {h : g_H}
theorem sInF_or (W : Nat → Int32) (x : Int32) : ∀ k p : Nat, sInF W x k p = -1 ∨ ∃ j : Nat, p ≤ j ∧ j < p + k ∧ sInF W x k p = iN j ∧ W (9 + 4 * j + 3) = x := by
  intro k
  induction k with
  | zero => exact fun p => Or.inl rfl
  | succ k ih =>
    intro p
    rw [sInF]
    by_cases hx : W (9 + 4 * p + 3) = x
    · rw [if_pos hx]
      exact Or.inr ⟨p, Nat.le_refl _, by omega, rfl, hx⟩
    · rw [if_neg hx]
      rcases ih (p + 1) with h | ⟨j, h1, h2, h3, h4⟩
      · exact Or.inl h
      · exact Or.inr ⟨j, by omega, by omega, h3, h4⟩
theorem sIn_or (W : Nat → Int32) (pn : Nat) (x : Int32) : sIn W pn x = -1 ∨ ∃ j : Nat, j < pn ∧ sIn W pn x = iN j ∧ W (9 + 4 * j + 3) = x := by
  rcases sInF_or W x pn 0 with h | ⟨j, h1, h2, h3, h4⟩
  · exact Or.inl h
  · exact Or.inr ⟨j, by omega, h3, h4⟩
/-- the prop on the way in a slot, some being taken down -/
def sOn (W : Nat → Int32) (pn : Nat) (taken : Int32) (s : Nat) : Int32 := if sIn W pn (iN s) = -1 then -1 else if (taken >>> (sIn W pn (iN s) &&& 31)) &&& 1 = 1 then -1 else sIn W pn (iN s)
theorem sOn_or (W : Nat → Int32) (pn : Nat) (t : Int32) (s : Nat) : sOn W pn t s = -1 ∨ ∃ j : Nat, j < pn ∧ sOn W pn t s = iN j ∧ W (9 + 4 * j + 3) = iN s := by
  unfold sOn
  by_cases h1 : sIn W pn (iN s) = -1
  · rw [if_pos h1]; exact Or.inl rfl
  · rw [if_neg h1]
    by_cases h2 : (t >>> (sIn W pn (iN s) &&& 31)) &&& 1 = 1
    · rw [if_pos h2]; exact Or.inl rfl
    · rw [if_neg h2]; exact sIn_or W pn (iN s)
theorem w_propOnTheWay (H : MS u m) {s pn : Nat} (hp : iv (m + 1) 0 = iN pn) (hpn : pn ≤ 8) {P : Int32 → g_H → Prop} : gW (f_X8_propOnTheWay m (iN s)) (iv, u) P ↔ P (sOn (iv (m + 1)) pn (iv m 23) s) (iv, u) := by
  unfold f_X8_propOnTheWay f_X8_propOnTheWay_26 f_X8_propOnTheWay_27 sOn
  simp (disch := omega) only [gW_B, gW_ret, gW_tr, gW_fa, rMi H, rMp H, rMc H, rMr0 H, rMr1 H, rMr2 H, rMr3 H, rMr4 H, rMr5 H, rMr6 H, rMr7 H, rMr8 H, rMr9 H, rMr10 H, rMr11 H, rMr12 H, rMr13 H, rMr14 H, rMa0 H, rMa1 H, rMa2 H, rMa3 H, rMa4 H, rMa5 H, rMa6 H, rMa7 H, rMa8 H, rMa9 H, rMa10 H, rMa11 H, rMa12 H, rMa13 H, rMa14 H, rMs0 H, rMs1 H, rMs2 H, rMs3 H, rMs4 H, rMs5 H, rMs6 H, rMs7 H, rMs8 H, rMs9 H, rMs10 H, rMs11 H, rMs12 H, rMs13 H, rMs14 H, rMA0_0 H, rMA0_1 H, rMA0_2 H, rMA0_3 H, rMA0_4 H, rMA0_5 H, rMA0_6 H, rMA0_7 H, rMA0_8 H, rMA0_65 H, rMA0_66 H, rMA0_67 H, rMA0_68 H, rMA0_305 H, rMA0_1154 H, rMS0_0 H, rMS0_1 H, rMS0_2 H, rMS0_3 H, rMS0_4 H, rMS0_5 H, rMS0_6 H, rMS0_7 H, rMS0_8 H, rMS0_65 H, rMS0_66 H, rMS0_67 H, rMS0_68 H, rMS0_305 H, rMS0_1154 H, rMA7_0 H, rMS6_0 H, rMS6_1 H, rMS6_2 H, rMS6_3 H, rMS6_4 H, iN_add, iN_mul, iN_sub, iN_m1, iNp1, iNp2, iNp3, iNp4, iNp5, iNp6, iNp8, iNp12, iNp16, iNp20, iNp305, iNl1, iNl6, iNl9, iNl12, iNl41, iNl65, iNl305, iNl306, iNl354, iNl1154, iNl1155, iNl1203, iNm2, iNm4, iNm6, iNm8, iNm10, iNm12, iNm60, iNm305, iNs1, iNs4, iNs8, w_propIn H hp hpn]
  by_cases h1 : sIn (iv (m + 1)) pn (iN s) = -1
  · rw [gW_ift h1, if_pos h1, h1, gW_ret]
  · rw [gW_iff h1, if_neg h1]
    simp (disch := omega) only [gW_B, gW_ret, gW_tr, gW_fa, rMi H, rMp H, rMc H, rMr0 H, rMr1 H, rMr2 H, rMr3 H, rMr4 H, rMr5 H, rMr6 H, rMr7 H, rMr8 H, rMr9 H, rMr10 H, rMr11 H, rMr12 H, rMr13 H, rMr14 H, rMa0 H, rMa1 H, rMa2 H, rMa3 H, rMa4 H, rMa5 H, rMa6 H, rMa7 H, rMa8 H, rMa9 H, rMa10 H, rMa11 H, rMa12 H, rMa13 H, rMa14 H, rMs0 H, rMs1 H, rMs2 H, rMs3 H, rMs4 H, rMs5 H, rMs6 H, rMs7 H, rMs8 H, rMs9 H, rMs10 H, rMs11 H, rMs12 H, rMs13 H, rMs14 H, rMA0_0 H, rMA0_1 H, rMA0_2 H, rMA0_3 H, rMA0_4 H, rMA0_5 H, rMA0_6 H, rMA0_7 H, rMA0_8 H, rMA0_65 H, rMA0_66 H, rMA0_67 H, rMA0_68 H, rMA0_305 H, rMA0_1154 H, rMS0_0 H, rMS0_1 H, rMS0_2 H, rMS0_3 H, rMS0_4 H, rMS0_5 H, rMS0_6 H, rMS0_7 H, rMS0_8 H, rMS0_65 H, rMS0_66 H, rMS0_67 H, rMS0_68 H, rMS0_305 H, rMS0_1154 H, rMA7_0 H, rMS6_0 H, rMS6_1 H, rMS6_2 H, rMS6_3 H, rMS6_4 H, iN_add, iN_mul, iN_sub, iN_m1, iNp1, iNp2, iNp3, iNp4, iNp5, iNp6, iNp8, iNp12, iNp16, iNp20, iNp305, iNl1, iNl6, iNl9, iNl12, iNl41, iNl65, iNl305, iNl306, iNl354, iNl1154, iNl1155, iNl1203, iNm2, iNm4, iNm6, iNm8, iNm10, iNm12, iNm60, iNm305, iNs1, iNs4, iNs8, w_has]
    by_cases h2 : (iv m 23 >>> (sIn (iv (m + 1)) pn (iN s) &&& 31)) &&& 1 = 1
    · rw [gW_iff (by rw [bI_0]; exact fun q => q h2), if_pos h2, gW_ret]
    · rw [gW_ift (by rw [bI_0]; exact h2), if_neg h2, gW_ret]
theorem w_calmer (H : MS u m) {t : Int32} {P : Int32 → g_H → Prop} : gW (f_X8_calmer m t) (iv, u) P ↔ P (mX 0 (t - iv (m + 1) 5)) (iv, u) := by
  unfold f_X8_calmer
  simp (disch := omega) only [gW_B, gW_ret, gW_tr, gW_fa, rMi H, rMp H, rMc H, rMr0 H, rMr1 H, rMr2 H, rMr3 H, rMr4 H, rMr5 H, rMr6 H, rMr7 H, rMr8 H, rMr9 H, rMr10 H, rMr11 H, rMr12 H, rMr13 H, rMr14 H, rMa0 H, rMa1 H, rMa2 H, rMa3 H, rMa4 H, rMa5 H, rMa6 H, rMa7 H, rMa8 H, rMa9 H, rMa10 H, rMa11 H, rMa12 H, rMa13 H, rMa14 H, rMs0 H, rMs1 H, rMs2 H, rMs3 H, rMs4 H, rMs5 H, rMs6 H, rMs7 H, rMs8 H, rMs9 H, rMs10 H, rMs11 H, rMs12 H, rMs13 H, rMs14 H, rMA0_0 H, rMA0_1 H, rMA0_2 H, rMA0_3 H, rMA0_4 H, rMA0_5 H, rMA0_6 H, rMA0_7 H, rMA0_8 H, rMA0_65 H, rMA0_66 H, rMA0_67 H, rMA0_68 H, rMA0_305 H, rMA0_1154 H, rMS0_0 H, rMS0_1 H, rMS0_2 H, rMS0_3 H, rMS0_4 H, rMS0_5 H, rMS0_6 H, rMS0_7 H, rMS0_8 H, rMS0_65 H, rMS0_66 H, rMS0_67 H, rMS0_68 H, rMS0_305 H, rMS0_1154 H, rMA7_0 H, rMS6_0 H, rMS6_1 H, rMS6_2 H, rMS6_3 H, rMS6_4 H, iN_add, iN_mul, iN_sub, iN_m1, iNp1, iNp2, iNp3, iNp4, iNp5, iNp6, iNp8, iNp12, iNp16, iNp20, iNp305, iNl1, iNl6, iNl9, iNl12, iNl41, iNl65, iNl305, iNl306, iNl354, iNl1154, iNl1155, iNl1203, iNm2, iNm4, iNm6, iNm8, iNm10, iNm12, iNm60, iNm305, iNs1, iNs4, iNs8, w_max]
def sDr (seed : Int32) : Int32 × Int32 := (1103515245 * seed + 12345, (((1103515245 * seed + 12345) >>> ((16 : Int32) &&& 31)) &&& 32767) - (((1103515245 * seed + 12345) >>> ((16 : Int32) &&& 31)) &&& 32767) / 3 * 3)
theorem w_drawn (H : MS u m) {P : Int32 → g_H → Prop} : gW (f_X8_drawn m (3 : Int32)) (iv, u) P ↔ P (sDr (iv (m + 1) 8)).2 (g_u2 iv (m + 1) 8 (sDr (iv (m + 1) 8)).1, u) := by
  unfold f_X8_drawn sDr
  have e : ∀ x, g_u2 iv (m + 1) 8 x (m + 1) 8 = x := fun x => by simp [g_u2, va_up]
  simp (disch := omega) only [gW_B, gW_ret, gW_tr, gW_fa, rMi H, rMp H, rMc H, rMr0 H, rMr1 H, rMr2 H, rMr3 H, rMr4 H, rMr5 H, rMr6 H, rMr7 H, rMr8 H, rMr9 H, rMr10 H, rMr11 H, rMr12 H, rMr13 H, rMr14 H, rMa0 H, rMa1 H, rMa2 H, rMa3 H, rMa4 H, rMa5 H, rMa6 H, rMa7 H, rMa8 H, rMa9 H, rMa10 H, rMa11 H, rMa12 H, rMa13 H, rMa14 H, rMs0 H, rMs1 H, rMs2 H, rMs3 H, rMs4 H, rMs5 H, rMs6 H, rMs7 H, rMs8 H, rMs9 H, rMs10 H, rMs11 H, rMs12 H, rMs13 H, rMs14 H, rMA0_0 H, rMA0_1 H, rMA0_2 H, rMA0_3 H, rMA0_4 H, rMA0_5 H, rMA0_6 H, rMA0_7 H, rMA0_8 H, rMA0_65 H, rMA0_66 H, rMA0_67 H, rMA0_68 H, rMA0_305 H, rMA0_1154 H, rMS0_0 H, rMS0_1 H, rMS0_2 H, rMS0_3 H, rMS0_4 H, rMS0_5 H, rMS0_6 H, rMS0_7 H, rMS0_8 H, rMS0_65 H, rMS0_66 H, rMS0_67 H, rMS0_68 H, rMS0_305 H, rMS0_1154 H, rMA7_0 H, rMS6_0 H, rMS6_1 H, rMS6_2 H, rMS6_3 H, rMS6_4 H, iN_add, iN_mul, iN_sub, iN_m1, iNp1, iNp2, iNp3, iNp4, iNp5, iNp6, iNp8, iNp12, iNp16, iNp20, iNp305, iNl1, iNl6, iNl9, iNl12, iNl41, iNl65, iNl305, iNl306, iNl354, iNl1154, iNl1155, iNl1203, iNm2, iNm4, iNm6, iNm8, iNm10, iNm12, iNm60, iNm305, iNs1, iNs4, iNs8, gW_gd, e]
  exact ⟨fun z => z.2, fun z => ⟨by decide, z⟩⟩
abbrev gRq : Type := Int32 × Int32 × Int32 × (Nat → Int32)
abbrev gRz : Type := gRq × Int32 × (Nat → Int32) × (Nat → Int32)
/-- a slot of a ride: how tense, what is come to, the seed, what is worn; by how much one was frighted -/
def rdStep (fr wr : Nat → Int32 → Int32) (on calm : Int32) (draws : Bool) (es : Int32) (q : gRq) : gRq × Int32 :=
  if on = -1 then ((mX 0 (q.1 - calm), q.2.1, q.2.2.1, q.2.2.2), 0)
  else ((q.1 + ((if (es >>> (on &&& 31)) &&& 1 = 1 then 0 else fr on.toNatClampNeg q.1) + (if draws = true then (sDr q.2.2.1).2 else 1)), q.2.1 ||| ((1 : Int32) <<< (on &&& 31)), (if draws = true then (sDr q.2.2.1).1 else q.2.2.1), va_up q.2.2.2 on.toNatClampNeg (wr on.toNatClampNeg q.1)), (if (es >>> (on &&& 31)) &&& 1 = 1 then 0 else fr on.toNatClampNeg q.1))
def rdLoop (fr wr : Nat → Int32 → Int32) (on : Nat → Int32) (calm nerve : Int32) (draws toEnd : Bool) (es : Int32) : Nat → Nat → gRz → gRz
  | 0, _, z => z
  | k + 1, s, z => rdLoop fr wr on calm nerve draws toEnd es k (s + 1) (if z.2.1 = -1 then ((rdStep fr wr (on s) calm draws es z.1).1, (if nerve < (rdStep fr wr (on s) calm draws es z.1).1.1 ∧ toEnd = false then iN s else -1), va_up z.2.2.1 s (rdStep fr wr (on s) calm draws es z.1).1.1, va_up z.2.2.2 s (rdStep fr wr (on s) calm draws es z.1).2) else (z.1, z.2.1, va_up z.2.2.1 s (-1), va_up z.2.2.2 s 0))
/-- how a ride lies in the model -/
def mRd (iv0 iv : gV) (m : Nat) (z : gRz) : Prop := iv (m + 1) = va_up (iv0 (m + 1)) 8 z.1.2.2.1 ∧ iv (m + 9) = z.2.2.1 ∧ iv (m + 10) = z.2.2.2 ∧ iv (m + 11) = z.1.2.2.2 ∧ iv m 28 = z.2.1 ∧ iv m 29 = z.1.2.1 ∧ iv m 30 = z.1.1 ∧ (∀ k : Nat, k ≠ 21 → k ≠ 22 → k ≠ 28 → k ≠ 29 → k ≠ 30 → iv m k = iv0 m k) ∧ ∀ a : Nat, a ≠ m → a ≠ m + 1 → a ≠ m + 8 → a ≠ m + 9 → a ≠ m + 10 → a ≠ m + 11 → iv a = iv0 a
theorem mL_seed {W : Nat → Int32} {lm : Nat} {K N : Nat → Int32} {C : Nat → (Nat → Int32) → Bool} {x : Int32} (h : mL W lm K N C) : mL (va_up W 8 x) lm K N C := by
  have e : ∀ k : Nat, k ≠ 8 → va_up W 8 x k = W k := fun k hk => va_up_ne _ _ hk
  have er : ∀ (F : Nat → Int32) (k i : Nat) (q : gQs), sRun (va_up W 8 x) F k i q = sRun W F k i q := by
    intro F k
    induction k with
    | zero => exact fun i q => rfl
    | succ k ih => intro i q; rw [sRun, sRun, ih, e _ (by omega), e _ (by omega)]
  have eo : ∀ (F : Nat → Int32) (k i : Nat) (q : gQs), sRok (va_up W 8 x) F k i q ↔ sRok W F k i q := by
    intro F k
    induction k with
    | zero => exact fun i q => Iff.rfl
    | succ k ih => intro i q; rw [sRok, sRok, ih, e _ (by omega), e _ (by omega)]
  rcases h with ⟨h1, h2⟩ | ⟨h1, h2, h3, h4⟩
  · exact Or.inl ⟨by rw [e _ (by omega)]; exact h1, h2⟩
  · refine Or.inr ⟨by rw [e _ (by omega)]; exact h1, by rw [e _ (by omega)]; exact h2, h3, fun n hn => ?_⟩
    obtain ⟨a1, a2, b, f, a3, a4, a5, a6, a7⟩ := h4 n hn
    refine ⟨by rw [e _ (by omega)]; exact a1, by rw [e _ (by omega)]; exact a2, b, f, by rw [e _ (by omega)]; exact a3, by rw [e _ (by omega)]; exact a4, a5, a6, fun F st hF => ?_⟩
    rw [er, eo]
    exact a7 F st hF
theorem sF_seed {W : Nat → Int32} {x : Int32} {p : Nat} {t d n k : Int32} : sF (va_up W 8 x) p t d n k = sF W p t d n k := by
  have e : ∀ k : Nat, k ≠ 8 → va_up W 8 x k = W k := fun k hk => va_up_ne _ _ hk
  funext j
  unfold sF
  rw [e _ (by omega), e _ (by omega), e _ (by omega), e _ (by omega)]
theorem sIn_seed {W : Nat → Int32} {x y : Int32} {pn : Nat} : sIn (va_up W 8 x) pn y = sIn W pn y := by
  have e : ∀ k : Nat, k ≠ 8 → va_up W 8 x k = W k := fun k hk => va_up_ne _ _ hk
  unfold sIn
  generalize 0 = p
  induction pn generalizing p with
  | zero => rfl
  | succ k ih => rw [sInF, sInF, e _ (by omega), ih]
theorem sOn_seed {W : Nat → Int32} {x t : Int32} {pn s : Nat} : sOn (va_up W 8 x) pn t s = sOn W pn t s := by
  unfold sOn
  rw [sIn_seed]
theorem sFr_seed {W : Nat → Int32} {x : Int32} {lm : Nat} {K N : Nat → Int32} {C : Nat → (Nat → Int32) → Bool} {p : Nat} {F : Nat → Int32} : sFr (va_up W 8 x) lm K N C p F = sFr W lm K N C p F := by
  have e : ∀ k : Nat, k ≠ 8 → va_up W 8 x k = W k := fun k hk => va_up_ne _ _ hk
  unfold sFr
  rw [e _ (by omega), e _ (by omega)]
theorem w_comesTo_44 (H : MS u m) {p s : Nat} (hs : s < 10) {f j : Int32} {P : Unit → g_H → Prop} : gW (f_X8_comesTo_44 m (iN p) (iN s) j (m + 10) (iN s) f) (iv, u) P ↔ P () (g_u2 (g_u2 (g_u2 iv (m + 10) s f) m 29 (iv m 29 ||| ((1 : Int32) <<< (iN p &&& 31)))) m 30 (iv m 30 + (f + j)), u) := by
  unfold f_X8_comesTo_44
  have e1 : g_u2 iv (m + 10) s f m = iv m := g_u2_ne _ _ _ (by omega)
  have e2 : ∀ x, g_u2 (g_u2 iv (m + 10) s f) m 29 x m 30 = iv m 30 := fun x => by rw [g_u2_self, va_up_ne _ _ (by decide), e1]
  have e3 : ∀ x, g_u2 (g_u2 iv (m + 10) s f) m 29 x (m + 10) s = f := fun x => by rw [g_u2_ne _ _ _ (by omega), g_u2_self, va_up_self]
  simp (disch := omega) only [gW_B, gW_ret, gW_tr, gW_fa, rMi H, rMp H, rMc H, rMr0 H, rMr1 H, rMr2 H, rMr3 H, rMr4 H, rMr5 H, rMr6 H, rMr7 H, rMr8 H, rMr9 H, rMr10 H, rMr11 H, rMr12 H, rMr13 H, rMr14 H, rMa0 H, rMa1 H, rMa2 H, rMa3 H, rMa4 H, rMa5 H, rMa6 H, rMa7 H, rMa8 H, rMa9 H, rMa10 H, rMa11 H, rMa12 H, rMa13 H, rMa14 H, rMs0 H, rMs1 H, rMs2 H, rMs3 H, rMs4 H, rMs5 H, rMs6 H, rMs7 H, rMs8 H, rMs9 H, rMs10 H, rMs11 H, rMs12 H, rMs13 H, rMs14 H, rMA0_0 H, rMA0_1 H, rMA0_2 H, rMA0_3 H, rMA0_4 H, rMA0_5 H, rMA0_6 H, rMA0_7 H, rMA0_8 H, rMA0_65 H, rMA0_66 H, rMA0_67 H, rMA0_68 H, rMA0_305 H, rMA0_1154 H, rMS0_0 H, rMS0_1 H, rMS0_2 H, rMS0_3 H, rMS0_4 H, rMS0_5 H, rMS0_6 H, rMS0_7 H, rMS0_8 H, rMS0_65 H, rMS0_66 H, rMS0_67 H, rMS0_68 H, rMS0_305 H, rMS0_1154 H, rMA7_0 H, rMS6_0 H, rMS6_1 H, rMS6_2 H, rMS6_3 H, rMS6_4 H, iN_add, iN_mul, iN_sub, iN_m1, iNp1, iNp2, iNp3, iNp4, iNp5, iNp6, iNp8, iNp12, iNp16, iNp20, iNp305, iNl1, iNl6, iNl9, iNl12, iNl41, iNl65, iNl305, iNl306, iNl354, iNl1154, iNl1155, iNl1203, iNm2, iNm4, iNm6, iNm8, iNm10, iNm12, iNm60, iNm305, iNs1, iNs4, iNs8, e1, e2, e3]
/-- behind a step of a ride that comes to prop p -/
def mCt (iv iv' : gV) (m p s : Nat) (w f j : Int32) : Prop := iv' (m + 11) = va_up (iv (m + 11)) p w ∧ iv' (m + 10) = va_up (iv (m + 10)) s f ∧ iv' m 29 = iv m 29 ||| ((1 : Int32) <<< (iN p &&& 31)) ∧ iv' m 30 = iv m 30 + (f + j) ∧ (∀ k : Nat, k ≠ 21 → k ≠ 22 → k ≠ 29 → k ≠ 30 → iv' m k = iv m k) ∧ ∀ a : Nat, a ≠ m → a ≠ m + 8 → a ≠ m + 10 → a ≠ m + 11 → iv' a = iv a
theorem w_comesTo (H : MS u m) {p s : Nat} (hp : p < 8) (hs : s < 10) {lm : Nat} {K N : Nat → Int32} {C : Nat → (Nat → Int32) → Bool} (hL : mL (iv (m + 1)) lm K N C) {j : Int32} {P : Unit → g_H → Prop}
    (hP : ∀ iv', mCt iv iv' m p s (sWr lm K N C (sF (iv (m + 1)) p (iv m 30) (iv m 18) (iv m 19) (iv m 20))) (if (iv m 24 >>> (iN p &&& 31)) &&& 1 = 1 then 0 else sFr (iv (m + 1)) lm K N C p (sF (iv (m + 1)) p (iv m 30) (iv m 18) (iv m 19) (iv m 20))) j → P () (iv', u)) : gW (f_X8_comesTo m (iN p) (iN s) j) (iv, u) P := by
  unfold f_X8_comesTo
  simp (disch := omega) only [gW_B, gW_ret, gW_tr, gW_fa, rMi H, rMp H, rMc H, rMr0 H, rMr1 H, rMr2 H, rMr3 H, rMr4 H, rMr5 H, rMr6 H, rMr7 H, rMr8 H, rMr9 H, rMr10 H, rMr11 H, rMr12 H, rMr13 H, rMr14 H, rMa0 H, rMa1 H, rMa2 H, rMa3 H, rMa4 H, rMa5 H, rMa6 H, rMa7 H, rMa8 H, rMa9 H, rMa10 H, rMa11 H, rMa12 H, rMa13 H, rMa14 H, rMs0 H, rMs1 H, rMs2 H, rMs3 H, rMs4 H, rMs5 H, rMs6 H, rMs7 H, rMs8 H, rMs9 H, rMs10 H, rMs11 H, rMs12 H, rMs13 H, rMs14 H, rMA0_0 H, rMA0_1 H, rMA0_2 H, rMA0_3 H, rMA0_4 H, rMA0_5 H, rMA0_6 H, rMA0_7 H, rMA0_8 H, rMA0_65 H, rMA0_66 H, rMA0_67 H, rMA0_68 H, rMA0_305 H, rMA0_1154 H, rMS0_0 H, rMS0_1 H, rMS0_2 H, rMS0_3 H, rMS0_4 H, rMS0_5 H, rMS0_6 H, rMS0_7 H, rMS0_8 H, rMS0_65 H, rMS0_66 H, rMS0_67 H, rMS0_68 H, rMS0_305 H, rMS0_1154 H, rMA7_0 H, rMS6_0 H, rMS6_1 H, rMS6_2 H, rMS6_3 H, rMS6_4 H, iN_add, iN_mul, iN_sub, iN_m1, iNp1, iNp2, iNp3, iNp4, iNp5, iNp6, iNp8, iNp12, iNp16, iNp20, iNp305, iNl1, iNl6, iNl9, iNl12, iNl41, iNl65, iNl305, iNl306, iNl354, iNl1154, iNl1155, iNl1203, iNm2, iNm4, iNm6, iNm8, iNm10, iNm12, iNm60, iNm305, iNs1, iNs4, iNs8]
  refine w_wearsBy H hp hL (fun st => ?_)
  generalize hj : g_u2 (va_up (g_u2 (g_u2 iv m 21 (iN p)) m 22 (iv m 30)) (m + 8) st) (m + 11) p (sWr lm K N C (sF (iv (m + 1)) p (iv m 30) (iv m 18) (iv m 19) (iv m 20))) = jv
  have e24 : jv m 24 = iv m 24 := by rw [← hj]; simp [g_u2, va_up]
  have e30 : jv m 30 = iv m 30 := by rw [← hj]; simp [g_u2, va_up]
  have e29 : jv m 29 = iv m 29 := by rw [← hj]; simp [g_u2, va_up]
  have e18 : jv m 18 = iv m 18 := by rw [← hj]; simp [g_u2, va_up]
  have e19 : jv m 19 = iv m 19 := by rw [← hj]; simp [g_u2, va_up]
  have e20 : jv m 20 = iv m 20 := by rw [← hj]; simp [g_u2, va_up]
  have e1 : jv (m + 1) = iv (m + 1) := by rw [← hj]; simp [g_u2, va_up]
  have e10 : jv (m + 10) = iv (m + 10) := by rw [← hj]; simp [g_u2, va_up]
  have e11 : jv (m + 11) = va_up (iv (m + 11)) p (sWr lm K N C (sF (iv (m + 1)) p (iv m 30) (iv m 18) (iv m 19) (iv m 20))) := by rw [← hj]; simp [g_u2, va_up]
  have ek : ∀ k : Nat, k ≠ 21 → k ≠ 22 → jv m k = iv m k := fun k h1 h2 => by rw [← hj]; simp [g_u2, va_up, h1, h2]
  have ea : ∀ a : Nat, a ≠ m → a ≠ m + 8 → a ≠ m + 11 → jv a = iv a := fun a h1 h2 h3 => by rw [← hj]; simp [g_u2, va_up, h1, h2, h3]
  simp (disch := omega) only [gW_B, gW_ret, gW_tr, gW_fa, rMi H, rMp H, rMc H, rMr0 H, rMr1 H, rMr2 H, rMr3 H, rMr4 H, rMr5 H, rMr6 H, rMr7 H, rMr8 H, rMr9 H, rMr10 H, rMr11 H, rMr12 H, rMr13 H, rMr14 H, rMa0 H, rMa1 H, rMa2 H, rMa3 H, rMa4 H, rMa5 H, rMa6 H, rMa7 H, rMa8 H, rMa9 H, rMa10 H, rMa11 H, rMa12 H, rMa13 H, rMa14 H, rMs0 H, rMs1 H, rMs2 H, rMs3 H, rMs4 H, rMs5 H, rMs6 H, rMs7 H, rMs8 H, rMs9 H, rMs10 H, rMs11 H, rMs12 H, rMs13 H, rMs14 H, rMA0_0 H, rMA0_1 H, rMA0_2 H, rMA0_3 H, rMA0_4 H, rMA0_5 H, rMA0_6 H, rMA0_7 H, rMA0_8 H, rMA0_65 H, rMA0_66 H, rMA0_67 H, rMA0_68 H, rMA0_305 H, rMA0_1154 H, rMS0_0 H, rMS0_1 H, rMS0_2 H, rMS0_3 H, rMS0_4 H, rMS0_5 H, rMS0_6 H, rMS0_7 H, rMS0_8 H, rMS0_65 H, rMS0_66 H, rMS0_67 H, rMS0_68 H, rMS0_305 H, rMS0_1154 H, rMA7_0 H, rMS6_0 H, rMS6_1 H, rMS6_2 H, rMS6_3 H, rMS6_4 H, iN_add, iN_mul, iN_sub, iN_m1, iNp1, iNp2, iNp3, iNp4, iNp5, iNp6, iNp8, iNp12, iNp16, iNp20, iNp305, iNl1, iNl6, iNl9, iNl12, iNl41, iNl65, iNl305, iNl306, iNl354, iNl1154, iNl1155, iNl1203, iNm2, iNm4, iNm6, iNm8, iNm10, iNm12, iNm60, iNm305, iNs1, iNs4, iNs8, hj, e24, w_has]
  by_cases h1 : (iv m 24 >>> (iN p &&& 31)) &&& 1 = 1
  · rw [gW_iff (by rw [bI_0]; exact fun q => q h1), w_comesTo_44 H hs]
    rw [if_pos h1] at hP
    refine hP _ ⟨?_, ?_, ?_, ?_, fun k h2 h3 h4 h5 => ?_, fun a h2 h3 h4 h5 => ?_⟩
    · simp [g_u2, va_up, e11]
    · simp [g_u2, va_up, e10]
    · simp [g_u2, va_up, e29]
    · simp [g_u2, va_up, e30]
    · simp [g_u2, va_up, h4, h5, ek k h2 h3]
    · simp [g_u2, va_up, h2, h4, ea a h2 h3 h5]
  · rw [gW_ift (by rw [bI_0]; exact h1)]
    rw [if_neg h1] at hP
    simp (disch := omega) only [gW_B, gW_ret, gW_tr, gW_fa, rMi H, rMp H, rMc H, rMr0 H, rMr1 H, rMr2 H, rMr3 H, rMr4 H, rMr5 H, rMr6 H, rMr7 H, rMr8 H, rMr9 H, rMr10 H, rMr11 H, rMr12 H, rMr13 H, rMr14 H, rMa0 H, rMa1 H, rMa2 H, rMa3 H, rMa4 H, rMa5 H, rMa6 H, rMa7 H, rMa8 H, rMa9 H, rMa10 H, rMa11 H, rMa12 H, rMa13 H, rMa14 H, rMs0 H, rMs1 H, rMs2 H, rMs3 H, rMs4 H, rMs5 H, rMs6 H, rMs7 H, rMs8 H, rMs9 H, rMs10 H, rMs11 H, rMs12 H, rMs13 H, rMs14 H, rMA0_0 H, rMA0_1 H, rMA0_2 H, rMA0_3 H, rMA0_4 H, rMA0_5 H, rMA0_6 H, rMA0_7 H, rMA0_8 H, rMA0_65 H, rMA0_66 H, rMA0_67 H, rMA0_68 H, rMA0_305 H, rMA0_1154 H, rMS0_0 H, rMS0_1 H, rMS0_2 H, rMS0_3 H, rMS0_4 H, rMS0_5 H, rMS0_6 H, rMS0_7 H, rMS0_8 H, rMS0_65 H, rMS0_66 H, rMS0_67 H, rMS0_68 H, rMS0_305 H, rMS0_1154 H, rMA7_0 H, rMS6_0 H, rMS6_1 H, rMS6_2 H, rMS6_3 H, rMS6_4 H, iN_add, iN_mul, iN_sub, iN_m1, iNp1, iNp2, iNp3, iNp4, iNp5, iNp6, iNp8, iNp12, iNp16, iNp20, iNp305, iNl1, iNl6, iNl9, iNl12, iNl41, iNl65, iNl305, iNl306, iNl354, iNl1154, iNl1155, iNl1203, iNm2, iNm4, iNm6, iNm8, iNm10, iNm12, iNm60, iNm305, iNs1, iNs4, iNs8]
    refine w_frightsBy H hp (by rw [e1]; exact hL) (fun st' => ?_)
    rw [e1, e18, e19, e20, e30, w_comesTo_44 H hs]
    refine hP _ ⟨?_, ?_, ?_, ?_, fun k h2 h3 h4 h5 => ?_, fun a h2 h3 h4 h5 => ?_⟩
    · simp [g_u2, va_up, e11]
    · simp [g_u2, va_up, e10]
    · simp [g_u2, va_up, e29]
    · simp [g_u2, va_up, e30]
    · simp [g_u2, va_up, h2, h3, h4, h5, ek k h2 h3]
    · simp [g_u2, va_up, h2, h3, h4, ea a h2 h3 h5]
theorem w_55 (H : MS u m) {s : Nat} (hs : s < 10) {te : Bool} {q : gRq} {tA fA : Nat → Int32} (hM : mRd iv0 iv m (q, -1, tA, fA)) {P : Unit → g_H → Prop} (hP : ∀ iv', mRd iv0 iv' m (q, (if iv0 m 19 < q.1 ∧ te = false then iN s else -1), va_up tA s q.1, fA) → P () (iv', u)) : gW (f_X8_rideSlot_55 m (iN s) (bI (te = true))) (iv, u) P := by
  obtain ⟨a1, a2, a3, a4, a5, a6, a7, a8, a9⟩ := hM
  unfold f_X8_rideSlot_55 f_X8_rideSlot_85
  have e1 : ∀ x, g_u2 iv (m + 9) s x m = iv m := fun x => g_u2_ne _ _ _ (by omega)
  have e19 : iv m 19 = iv0 m 19 := a8 19 (by decide) (by decide) (by decide) (by decide) (by decide)
  have e30 : iv m 30 = q.1 := a7
  simp (disch := omega) only [gW_B, gW_ret, gW_tr, gW_fa, rMi H, rMp H, rMc H, rMr0 H, rMr1 H, rMr2 H, rMr3 H, rMr4 H, rMr5 H, rMr6 H, rMr7 H, rMr8 H, rMr9 H, rMr10 H, rMr11 H, rMr12 H, rMr13 H, rMr14 H, rMa0 H, rMa1 H, rMa2 H, rMa3 H, rMa4 H, rMa5 H, rMa6 H, rMa7 H, rMa8 H, rMa9 H, rMa10 H, rMa11 H, rMa12 H, rMa13 H, rMa14 H, rMs0 H, rMs1 H, rMs2 H, rMs3 H, rMs4 H, rMs5 H, rMs6 H, rMs7 H, rMs8 H, rMs9 H, rMs10 H, rMs11 H, rMs12 H, rMs13 H, rMs14 H, rMA0_0 H, rMA0_1 H, rMA0_2 H, rMA0_3 H, rMA0_4 H, rMA0_5 H, rMA0_6 H, rMA0_7 H, rMA0_8 H, rMA0_65 H, rMA0_66 H, rMA0_67 H, rMA0_68 H, rMA0_305 H, rMA0_1154 H, rMS0_0 H, rMS0_1 H, rMS0_2 H, rMS0_3 H, rMS0_4 H, rMS0_5 H, rMS0_6 H, rMS0_7 H, rMS0_8 H, rMS0_65 H, rMS0_66 H, rMS0_67 H, rMS0_68 H, rMS0_305 H, rMS0_1154 H, rMA7_0 H, rMS6_0 H, rMS6_1 H, rMS6_2 H, rMS6_3 H, rMS6_4 H, iN_add, iN_mul, iN_sub, iN_m1, iNp1, iNp2, iNp3, iNp4, iNp5, iNp6, iNp8, iNp12, iNp16, iNp20, iNp305, iNl1, iNl6, iNl9, iNl12, iNl41, iNl65, iNl305, iNl306, iNl354, iNl1154, iNl1155, iNl1203, iNm2, iNm4, iNm6, iNm8, iNm10, iNm12, iNm60, iNm305, iNs1, iNs4, iNs8, e1, e19, e30]
  have base : ∀ (sc : Int32) (iv' : gV), (∀ b, b ≠ m → b ≠ m + 9 → iv' b = iv b) → iv' (m + 9) = va_up tA s q.1 → (∀ k, k ≠ 28 → iv' m k = iv m k) → iv' m 28 = sc → mRd iv0 iv' m (q, sc, va_up tA s q.1, fA) := by
    intro sc iv' b1 b2 b3 b4
    exact ⟨by rw [b1 _ (by omega) (by omega)]; exact a1, b2, by rw [b1 _ (by omega) (by omega)]; exact a3, by rw [b1 _ (by omega) (by omega)]; exact a4, b4, by rw [b3 _ (by decide)]; exact a6, by rw [b3 _ (by decide)]; exact a7, fun k h1 h2 h3 h4 h5 => by rw [b3 k h3]; exact a8 k h1 h2 h3 h4 h5, fun a h1 h2 h3 h4 h5 h6 => by rw [b1 a h1 h4]; exact a9 a h1 h2 h3 h4 h5 h6⟩
  have n1 : ∀ b, b ≠ m → b ≠ m + 9 → g_u2 iv (m + 9) s q.1 b = iv b := fun b _ h2 => g_u2_ne _ _ _ h2
  have n2 : g_u2 iv (m + 9) s q.1 (m + 9) = va_up tA s q.1 := by rw [g_u2_self]; exact congrArg (fun z => va_up z s q.1) a2
  by_cases h1 : q.1 ≤ iv0 m 19
  · rw [gW_ift h1, gW_ret]
    refine hP _ ?_
    rw [if_neg (fun z => Int32.not_lt.mpr h1 z.1)]
    exact base (-1) _ n1 n2 (fun k _ => by rw [e1]) (by rw [e1]; exact a5)
  · rw [gW_iff h1]
    cases te with
    | true =>
      rw [bI_t rfl, gW_iff (by decide), gW_ret]
      refine hP _ ?_
      rw [if_neg (fun z => by cases z.2)]
      exact base (-1) _ n1 n2 (fun k _ => by rw [e1]) (by rw [e1]; exact a5)
    | false =>
      rw [bI_f (by decide), gW_ift rfl]
      simp (disch := omega) only [gW_B, gW_ret, gW_tr, gW_fa, rMi H, rMp H, rMc H, rMr0 H, rMr1 H, rMr2 H, rMr3 H, rMr4 H, rMr5 H, rMr6 H, rMr7 H, rMr8 H, rMr9 H, rMr10 H, rMr11 H, rMr12 H, rMr13 H, rMr14 H, rMa0 H, rMa1 H, rMa2 H, rMa3 H, rMa4 H, rMa5 H, rMa6 H, rMa7 H, rMa8 H, rMa9 H, rMa10 H, rMa11 H, rMa12 H, rMa13 H, rMa14 H, rMs0 H, rMs1 H, rMs2 H, rMs3 H, rMs4 H, rMs5 H, rMs6 H, rMs7 H, rMs8 H, rMs9 H, rMs10 H, rMs11 H, rMs12 H, rMs13 H, rMs14 H, rMA0_0 H, rMA0_1 H, rMA0_2 H, rMA0_3 H, rMA0_4 H, rMA0_5 H, rMA0_6 H, rMA0_7 H, rMA0_8 H, rMA0_65 H, rMA0_66 H, rMA0_67 H, rMA0_68 H, rMA0_305 H, rMA0_1154 H, rMS0_0 H, rMS0_1 H, rMS0_2 H, rMS0_3 H, rMS0_4 H, rMS0_5 H, rMS0_6 H, rMS0_7 H, rMS0_8 H, rMS0_65 H, rMS0_66 H, rMS0_67 H, rMS0_68 H, rMS0_305 H, rMS0_1154 H, rMA7_0 H, rMS6_0 H, rMS6_1 H, rMS6_2 H, rMS6_3 H, rMS6_4 H, iN_add, iN_mul, iN_sub, iN_m1, iNp1, iNp2, iNp3, iNp4, iNp5, iNp6, iNp8, iNp12, iNp16, iNp20, iNp305, iNl1, iNl6, iNl9, iNl12, iNl41, iNl65, iNl305, iNl306, iNl354, iNl1154, iNl1155, iNl1203, iNm2, iNm4, iNm6, iNm8, iNm10, iNm12, iNm60, iNm305, iNs1, iNs4, iNs8]
      refine hP _ ?_
      rw [if_pos ⟨Int32.not_le.mp h1, rfl⟩]
      refine base (iN s) _ (fun b h2 h3 => ?_) ?_ (fun k hk => ?_) ?_
      · rw [g_u2_ne _ _ _ h2]; exact n1 b h2 h3
      · rw [g_u2_ne _ _ _ (by omega)]; exact n2
      · rw [g_u2_self, va_up_ne _ _ hk, e1]
      · rw [g_u2_self, va_up_self]
abbrev mFr (iv0 : gV) (m lm : Nat) (K N : Nat → Int32) (C : Nat → (Nat → Int32) → Bool) (p : Nat) (t : Int32) : Int32 := sFr (iv0 (m + 1)) lm K N C p (sF (iv0 (m + 1)) p t (iv0 m 18) (iv0 m 19) (iv0 m 20))
abbrev mWr (iv0 : gV) (m lm : Nat) (K N : Nat → Int32) (C : Nat → (Nat → Int32) → Bool) (p : Nat) (t : Int32) : Int32 := sWr lm K N C (sF (iv0 (m + 1)) p t (iv0 m 18) (iv0 m 19) (iv0 m 20))
theorem w_rideSlot (H : MS u m) {s pn : Nat} (hs : s < 10) (hpn : iv0 (m + 1) 0 = iN pn) (hp8 : pn ≤ 8) {lm : Nat} {K N : Nat → Int32} {C : Nat → (Nat → Int32) → Bool} (hL : mL (iv0 (m + 1)) lm K N C) {dr te : Bool} {q : gRq} {tA fA : Nat → Int32} (hM : mRd iv0 iv m (q, -1, tA, fA)) {P : Unit → g_H → Prop}
    (hP : ∀ iv', mRd iv0 iv' m ((rdStep (mFr iv0 m lm K N C) (mWr iv0 m lm K N C) (sOn (iv0 (m + 1)) pn (iv0 m 23) s) (iv0 (m + 1) 5) dr (iv0 m 24) q).1, (if iv0 m 19 < (rdStep (mFr iv0 m lm K N C) (mWr iv0 m lm K N C) (sOn (iv0 (m + 1)) pn (iv0 m 23) s) (iv0 (m + 1) 5) dr (iv0 m 24) q).1.1 ∧ te = false then iN s else -1), va_up tA s (rdStep (mFr iv0 m lm K N C) (mWr iv0 m lm K N C) (sOn (iv0 (m + 1)) pn (iv0 m 23) s) (iv0 (m + 1) 5) dr (iv0 m 24) q).1.1, va_up fA s (rdStep (mFr iv0 m lm K N C) (mWr iv0 m lm K N C) (sOn (iv0 (m + 1)) pn (iv0 m 23) s) (iv0 (m + 1) 5) dr (iv0 m 24) q).2) → P () (iv', u)) : gW (f_X8_rideSlot m (iN s) (bI (dr = true)) (bI (te = true))) (iv, u) P := by
  obtain ⟨a1, a2, a3, a4, a5, a6, a7, a8, a9⟩ := id hM
  have a1 : iv (m + 1) = va_up (iv0 (m + 1)) 8 q.2.2.1 := a1
  have a2 : iv (m + 9) = tA := a2
  have a3 : iv (m + 10) = fA := a3
  have a4 : iv (m + 11) = q.2.2.2 := a4
  have a5 : iv m 28 = -1 := a5
  have a6 : iv m 29 = q.2.1 := a6
  have a7 : iv m 30 = q.1 := a7
  have w0 : iv (m + 1) 0 = iN pn := by rw [a1, va_up_ne _ _ (by decide)]; exact hpn
  have e23 : iv m 23 = iv0 m 23 := a8 23 (by decide) (by decide) (by decide) (by decide) (by decide)
  have e24 : iv m 24 = iv0 m 24 := a8 24 (by decide) (by decide) (by decide) (by decide) (by decide)
  have e18 : iv m 18 = iv0 m 18 := a8 18 (by decide) (by decide) (by decide) (by decide) (by decide)
  have e19 : iv m 19 = iv0 m 19 := a8 19 (by decide) (by decide) (by decide) (by decide) (by decide)
  have e20 : iv m 20 = iv0 m 20 := a8 20 (by decide) (by decide) (by decide) (by decide) (by decide)
  unfold f_X8_rideSlot
  simp (disch := omega) only [gW_B, gW_ret, gW_tr, gW_fa, rMi H, rMp H, rMc H, rMr0 H, rMr1 H, rMr2 H, rMr3 H, rMr4 H, rMr5 H, rMr6 H, rMr7 H, rMr8 H, rMr9 H, rMr10 H, rMr11 H, rMr12 H, rMr13 H, rMr14 H, rMa0 H, rMa1 H, rMa2 H, rMa3 H, rMa4 H, rMa5 H, rMa6 H, rMa7 H, rMa8 H, rMa9 H, rMa10 H, rMa11 H, rMa12 H, rMa13 H, rMa14 H, rMs0 H, rMs1 H, rMs2 H, rMs3 H, rMs4 H, rMs5 H, rMs6 H, rMs7 H, rMs8 H, rMs9 H, rMs10 H, rMs11 H, rMs12 H, rMs13 H, rMs14 H, rMA0_0 H, rMA0_1 H, rMA0_2 H, rMA0_3 H, rMA0_4 H, rMA0_5 H, rMA0_6 H, rMA0_7 H, rMA0_8 H, rMA0_65 H, rMA0_66 H, rMA0_67 H, rMA0_68 H, rMA0_305 H, rMA0_1154 H, rMS0_0 H, rMS0_1 H, rMS0_2 H, rMS0_3 H, rMS0_4 H, rMS0_5 H, rMS0_6 H, rMS0_7 H, rMS0_8 H, rMS0_65 H, rMS0_66 H, rMS0_67 H, rMS0_68 H, rMS0_305 H, rMS0_1154 H, rMA7_0 H, rMS6_0 H, rMS6_1 H, rMS6_2 H, rMS6_3 H, rMS6_4 H, iN_add, iN_mul, iN_sub, iN_m1, iNp1, iNp2, iNp3, iNp4, iNp5, iNp6, iNp8, iNp12, iNp16, iNp20, iNp305, iNl1, iNl6, iNl9, iNl12, iNl41, iNl65, iNl305, iNl306, iNl354, iNl1154, iNl1155, iNl1203, iNm2, iNm4, iNm6, iNm8, iNm10, iNm12, iNm60, iNm305, iNs1, iNs4, iNs8, w_propOnTheWay H w0 hp8, a1, sOn_seed, e23]
  generalize hj : g_u2 iv (m + 10) s 0 = jv
  have j1 : jv (m + 1) = va_up (iv0 (m + 1)) 8 q.2.2.1 := by rw [← hj, g_u2_ne _ _ _ (by omega)]; exact a1
  have j0 : jv m = iv m := by rw [← hj, g_u2_ne _ _ _ (by omega)]
  have j10 : jv (m + 10) = va_up fA s 0 := by rw [← hj, g_u2_self, a3]
  have ja : ∀ a, a ≠ m + 10 → jv a = iv a := fun a h => by rw [← hj, g_u2_ne _ _ _ h]
  rcases sOn_or (iv0 (m + 1)) pn (iv0 m 23) s with hon | ⟨p, hpp, hon, -⟩
  · rw [hon] at hP ⊢
    have hst : rdStep (mFr iv0 m lm K N C) (mWr iv0 m lm K N C) (-1) (iv0 (m + 1) 5) dr (iv0 m 24) q = ((mX 0 (q.1 - iv0 (m + 1) 5), q.2.1, q.2.2.1, q.2.2.2), 0) := if_pos rfl
    rw [hst] at hP
    rw [gW_ift rfl]
    simp (disch := omega) only [gW_B, gW_ret, gW_tr, gW_fa, rMi H, rMp H, rMc H, rMr0 H, rMr1 H, rMr2 H, rMr3 H, rMr4 H, rMr5 H, rMr6 H, rMr7 H, rMr8 H, rMr9 H, rMr10 H, rMr11 H, rMr12 H, rMr13 H, rMr14 H, rMa0 H, rMa1 H, rMa2 H, rMa3 H, rMa4 H, rMa5 H, rMa6 H, rMa7 H, rMa8 H, rMa9 H, rMa10 H, rMa11 H, rMa12 H, rMa13 H, rMa14 H, rMs0 H, rMs1 H, rMs2 H, rMs3 H, rMs4 H, rMs5 H, rMs6 H, rMs7 H, rMs8 H, rMs9 H, rMs10 H, rMs11 H, rMs12 H, rMs13 H, rMs14 H, rMA0_0 H, rMA0_1 H, rMA0_2 H, rMA0_3 H, rMA0_4 H, rMA0_5 H, rMA0_6 H, rMA0_7 H, rMA0_8 H, rMA0_65 H, rMA0_66 H, rMA0_67 H, rMA0_68 H, rMA0_305 H, rMA0_1154 H, rMS0_0 H, rMS0_1 H, rMS0_2 H, rMS0_3 H, rMS0_4 H, rMS0_5 H, rMS0_6 H, rMS0_7 H, rMS0_8 H, rMS0_65 H, rMS0_66 H, rMS0_67 H, rMS0_68 H, rMS0_305 H, rMS0_1154 H, rMA7_0 H, rMS6_0 H, rMS6_1 H, rMS6_2 H, rMS6_3 H, rMS6_4 H, iN_add, iN_mul, iN_sub, iN_m1, iNp1, iNp2, iNp3, iNp4, iNp5, iNp6, iNp8, iNp12, iNp16, iNp20, iNp305, iNl1, iNl6, iNl9, iNl12, iNl41, iNl65, iNl305, iNl306, iNl354, iNl1154, iNl1155, iNl1203, iNm2, iNm4, iNm6, iNm8, iNm10, iNm12, iNm60, iNm305, iNs1, iNs4, iNs8, w_calmer H, j0, j1, a7]
    refine w_55 H hs (iv0 := iv0) (q := (mX 0 (q.1 - iv0 (m + 1) 5), q.2.1, q.2.2.1, q.2.2.2)) (tA := tA) (fA := va_up fA s 0) ?_ hP
    rw [va_up_ne _ _ (by decide)]
    have k1 : ∀ a, a ≠ m → g_u2 jv m 30 (mX 0 (q.1 - iv0 (m + 1) 5)) a = jv a := fun a h => g_u2_ne _ _ _ h
    have k2 : ∀ k, k ≠ 30 → g_u2 jv m 30 (mX 0 (q.1 - iv0 (m + 1) 5)) m k = iv m k := fun k h => by rw [g_u2_self, va_up_ne _ _ h, j0]
    exact ⟨by rw [k1 _ (by omega)]; exact j1, by rw [k1 _ (by omega), ja _ (by omega)]; exact a2, by rw [k1 _ (by omega)]; exact j10, by rw [k1 _ (by omega), ja _ (by omega)]; exact a4, by rw [k2 _ (by decide)]; exact a5, by rw [k2 _ (by decide)]; exact a6, by rw [g_u2_self, va_up_self], fun k h1 h2 h3 h4 h5 => by rw [k2 k h5]; exact a8 k h1 h2 h3 h4 h5, fun a h1 h2 h3 h4 h5 h6 => by rw [k1 a h1, ja a h5]; exact a9 a h1 h2 h3 h4 h5 h6⟩
  · have hne : ¬ iN p = (-1 : Int32) := iN_eqm (by omega)
    rw [hon] at hP ⊢
    rw [gW_iff hne]
    have hpc : (iN p).toNatClampNeg = p := iN_c (by omega)
    -- the jolt
    have main : ∀ (sd jo : Int32) (kv : gV), kv (m + 1) = va_up (iv0 (m + 1)) 8 sd → (∀ a, a ≠ m + 1 → kv a = jv a) → (rdStep (mFr iv0 m lm K N C) (mWr iv0 m lm K N C) (iN p) (iv0 (m + 1) 5) dr (iv0 m 24) q = ((q.1 + ((if (iv0 m 24 >>> (iN p &&& 31)) &&& 1 = 1 then 0 else mFr iv0 m lm K N C p q.1) + jo), q.2.1 ||| ((1 : Int32) <<< (iN p &&& 31)), sd, va_up q.2.2.2 p (mWr iv0 m lm K N C p q.1)), (if (iv0 m 24 >>> (iN p &&& 31)) &&& 1 = 1 then 0 else mFr iv0 m lm K N C p q.1))) → gW (f_X8_rideSlot_52 m (iN s) (bI (te = true)) m (iN p) (iN s) jo) (kv, u) P := by
      intro sd jo kv b1 b2 b3
      rw [b3] at hP
      unfold f_X8_rideSlot_52
      simp (disch := omega) only [gW_B, gW_ret, gW_tr, gW_fa, rMi H, rMp H, rMc H, rMr0 H, rMr1 H, rMr2 H, rMr3 H, rMr4 H, rMr5 H, rMr6 H, rMr7 H, rMr8 H, rMr9 H, rMr10 H, rMr11 H, rMr12 H, rMr13 H, rMr14 H, rMa0 H, rMa1 H, rMa2 H, rMa3 H, rMa4 H, rMa5 H, rMa6 H, rMa7 H, rMa8 H, rMa9 H, rMa10 H, rMa11 H, rMa12 H, rMa13 H, rMa14 H, rMs0 H, rMs1 H, rMs2 H, rMs3 H, rMs4 H, rMs5 H, rMs6 H, rMs7 H, rMs8 H, rMs9 H, rMs10 H, rMs11 H, rMs12 H, rMs13 H, rMs14 H, rMA0_0 H, rMA0_1 H, rMA0_2 H, rMA0_3 H, rMA0_4 H, rMA0_5 H, rMA0_6 H, rMA0_7 H, rMA0_8 H, rMA0_65 H, rMA0_66 H, rMA0_67 H, rMA0_68 H, rMA0_305 H, rMA0_1154 H, rMS0_0 H, rMS0_1 H, rMS0_2 H, rMS0_3 H, rMS0_4 H, rMS0_5 H, rMS0_6 H, rMS0_7 H, rMS0_8 H, rMS0_65 H, rMS0_66 H, rMS0_67 H, rMS0_68 H, rMS0_305 H, rMS0_1154 H, rMA7_0 H, rMS6_0 H, rMS6_1 H, rMS6_2 H, rMS6_3 H, rMS6_4 H, iN_add, iN_mul, iN_sub, iN_m1, iNp1, iNp2, iNp3, iNp4, iNp5, iNp6, iNp8, iNp12, iNp16, iNp20, iNp305, iNl1, iNl6, iNl9, iNl12, iNl41, iNl65, iNl305, iNl306, iNl354, iNl1154, iNl1155, iNl1203, iNm2, iNm4, iNm6, iNm8, iNm10, iNm12, iNm60, iNm305, iNs1, iNs4, iNs8]
      have k0 : kv m = iv m := by rw [b2 _ (by omega), j0]
      refine w_comesTo H (by omega) hs (lm := lm) (K := K) (N := N) (C := C) (by rw [b1]; exact mL_seed hL) (fun iv' hc => ?_)
      obtain ⟨c1, c2, c3, c4, c5, c6⟩ := hc
      rw [b1, sF_seed, k0, e18, e19, e20, a7] at c1
      rw [b1, sF_seed, sFr_seed, k0, e18, e19, e20, e24, a7, b2 _ (by omega), j10, va_up_up] at c2
      rw [b1, sF_seed, sFr_seed, k0, e18, e19, e20, e24, a7] at c4
      rw [k0, a6] at c3
      rw [b2 _ (by omega), ja _ (by omega), a4] at c1
      refine w_55 H hs (iv0 := iv0) (q := ((q.1 + ((if (iv0 m 24 >>> (iN p &&& 31)) &&& 1 = 1 then 0 else mFr iv0 m lm K N C p q.1) + jo), q.2.1 ||| ((1 : Int32) <<< (iN p &&& 31)), sd, va_up q.2.2.2 p (mWr iv0 m lm K N C p q.1)))) (tA := tA) (fA := va_up fA s (if (iv0 m 24 >>> (iN p &&& 31)) &&& 1 = 1 then 0 else mFr iv0 m lm K N C p q.1)) ?_ hP
      refine ⟨by rw [c6 _ (by omega) (by omega) (by omega) (by omega)]; exact b1, by rw [c6 _ (by omega) (by omega) (by omega) (by omega), b2 _ (by omega), ja _ (by omega)]; exact a2, c2, c1, by rw [c5 _ (by decide) (by decide) (by decide) (by decide), k0]; exact a5, c3, c4, fun k h1 h2 h3 h4 h5 => by rw [c5 k h1 h2 h4 h5, k0]; exact a8 k h1 h2 h3 h4 h5, fun a h1 h2 h3 h4 h5 h6 => by rw [c6 a h1 h3 h5 h6, b2 a h2, ja a h5]; exact a9 a h1 h2 h3 h4 h5 h6⟩
    cases dr with
    | false =>
      rw [bI_f (by decide), gW_ift rfl]
      refine main q.2.2.1 1 jv j1 (fun _ _ => rfl) ?_
      unfold rdStep
      rw [if_neg hne, hpc]
      rfl
    | true =>
      rw [bI_t rfl, gW_iff (by decide)]
      simp (disch := omega) only [gW_B, gW_ret, gW_tr, gW_fa, rMi H, rMp H, rMc H, rMr0 H, rMr1 H, rMr2 H, rMr3 H, rMr4 H, rMr5 H, rMr6 H, rMr7 H, rMr8 H, rMr9 H, rMr10 H, rMr11 H, rMr12 H, rMr13 H, rMr14 H, rMa0 H, rMa1 H, rMa2 H, rMa3 H, rMa4 H, rMa5 H, rMa6 H, rMa7 H, rMa8 H, rMa9 H, rMa10 H, rMa11 H, rMa12 H, rMa13 H, rMa14 H, rMs0 H, rMs1 H, rMs2 H, rMs3 H, rMs4 H, rMs5 H, rMs6 H, rMs7 H, rMs8 H, rMs9 H, rMs10 H, rMs11 H, rMs12 H, rMs13 H, rMs14 H, rMA0_0 H, rMA0_1 H, rMA0_2 H, rMA0_3 H, rMA0_4 H, rMA0_5 H, rMA0_6 H, rMA0_7 H, rMA0_8 H, rMA0_65 H, rMA0_66 H, rMA0_67 H, rMA0_68 H, rMA0_305 H, rMA0_1154 H, rMS0_0 H, rMS0_1 H, rMS0_2 H, rMS0_3 H, rMS0_4 H, rMS0_5 H, rMS0_6 H, rMS0_7 H, rMS0_8 H, rMS0_65 H, rMS0_66 H, rMS0_67 H, rMS0_68 H, rMS0_305 H, rMS0_1154 H, rMA7_0 H, rMS6_0 H, rMS6_1 H, rMS6_2 H, rMS6_3 H, rMS6_4 H, iN_add, iN_mul, iN_sub, iN_m1, iNp1, iNp2, iNp3, iNp4, iNp5, iNp6, iNp8, iNp12, iNp16, iNp20, iNp305, iNl1, iNl6, iNl9, iNl12, iNl41, iNl65, iNl305, iNl306, iNl354, iNl1154, iNl1155, iNl1203, iNm2, iNm4, iNm6, iNm8, iNm10, iNm12, iNm60, iNm305, iNs1, iNs4, iNs8, w_drawn H, j1, va_up_self]
      refine main (sDr q.2.2.1).1 (sDr q.2.2.1).2 _ ?_ (fun a h => g_u2_ne _ _ _ h) ?_
      · rw [g_u2_self, j1, va_up_up]
      · unfold rdStep
        rw [if_neg hne, hpc]
        rfl
theorem w_rides_6 (H : MS u m) {pn : Nat} (hpn : iv0 (m + 1) 0 = iN pn) (hp8 : pn ≤ 8) {lm : Nat} {K N : Nat → Int32} {C : Nat → (Nat → Int32) → Bool} (hL : mL (iv0 (m + 1)) lm K N C) {dr te : Bool} {P : Int32 → g_H → Prop} :
    ∀ (k s n : Nat) (iv : gV) (z : gRz), s + k = 10 → k < n → mRd iv0 iv m z → (∀ iv', mRd iv0 iv' m (rdLoop (mFr iv0 m lm K N C) (mWr iv0 m lm K N C) (sOn (iv0 (m + 1)) pn (iv0 m 23)) (iv0 (m + 1) 5) (iv0 m 19) dr te (iv0 m 24) k s z) → P (rdLoop (mFr iv0 m lm K N C) (mWr iv0 m lm K N C) (sOn (iv0 (m + 1)) pn (iv0 m 23)) (iv0 (m + 1) 5) (iv0 m 19) dr te (iv0 m 24) k s z).2.1 (iv', u)) → gW (f_X8_rides_6 n m (bI (dr = true)) (bI (te = true)) (iN s)) (iv, u) P := by
  intro k
  induction k with
  | zero =>
    intro s n iv z h1 h2 hM hP
    obtain ⟨n, rfl⟩ : ∃ n', n = n' + 1 := ⟨n - 1, by omega⟩
    rw [f_X8_rides_6, gW_ift (by rw [show (10 : Int32) = iN 10 from rfl, iN_le (by omega) (by omega)]; omega)]
    unfold f_X8_rides_47
    simp (disch := omega) only [gW_B, gW_ret, gW_tr, gW_fa, rMi H, rMp H, rMc H, rMr0 H, rMr1 H, rMr2 H, rMr3 H, rMr4 H, rMr5 H, rMr6 H, rMr7 H, rMr8 H, rMr9 H, rMr10 H, rMr11 H, rMr12 H, rMr13 H, rMr14 H, rMa0 H, rMa1 H, rMa2 H, rMa3 H, rMa4 H, rMa5 H, rMa6 H, rMa7 H, rMa8 H, rMa9 H, rMa10 H, rMa11 H, rMa12 H, rMa13 H, rMa14 H, rMs0 H, rMs1 H, rMs2 H, rMs3 H, rMs4 H, rMs5 H, rMs6 H, rMs7 H, rMs8 H, rMs9 H, rMs10 H, rMs11 H, rMs12 H, rMs13 H, rMs14 H, rMA0_0 H, rMA0_1 H, rMA0_2 H, rMA0_3 H, rMA0_4 H, rMA0_5 H, rMA0_6 H, rMA0_7 H, rMA0_8 H, rMA0_65 H, rMA0_66 H, rMA0_67 H, rMA0_68 H, rMA0_305 H, rMA0_1154 H, rMS0_0 H, rMS0_1 H, rMS0_2 H, rMS0_3 H, rMS0_4 H, rMS0_5 H, rMS0_6 H, rMS0_7 H, rMS0_8 H, rMS0_65 H, rMS0_66 H, rMS0_67 H, rMS0_68 H, rMS0_305 H, rMS0_1154 H, rMA7_0 H, rMS6_0 H, rMS6_1 H, rMS6_2 H, rMS6_3 H, rMS6_4 H, iN_add, iN_mul, iN_sub, iN_m1, iNp1, iNp2, iNp3, iNp4, iNp5, iNp6, iNp8, iNp12, iNp16, iNp20, iNp305, iNl1, iNl6, iNl9, iNl12, iNl41, iNl65, iNl305, iNl306, iNl354, iNl1154, iNl1155, iNl1203, iNm2, iNm4, iNm6, iNm8, iNm10, iNm12, iNm60, iNm305, iNs1, iNs4, iNs8]
    rw [hM.2.2.2.2.1]
    exact hP iv hM
  | succ k ih =>
    intro s n iv z h1 h2 hM hP
    obtain ⟨n, rfl⟩ : ∃ n', n = n' + 1 := ⟨n - 1, by omega⟩
    obtain ⟨a1, a2, a3, a4, a5, a6, a7, a8, a9⟩ := id hM
    rw [f_X8_rides_6, gW_iff (by rw [show (10 : Int32) = iN 10 from rfl, iN_le (by omega) (by omega)]; omega)]
    simp (disch := omega) only [gW_B, gW_ret, gW_tr, gW_fa, rMi H, rMp H, rMc H, rMr0 H, rMr1 H, rMr2 H, rMr3 H, rMr4 H, rMr5 H, rMr6 H, rMr7 H, rMr8 H, rMr9 H, rMr10 H, rMr11 H, rMr12 H, rMr13 H, rMr14 H, rMa0 H, rMa1 H, rMa2 H, rMa3 H, rMa4 H, rMa5 H, rMa6 H, rMa7 H, rMa8 H, rMa9 H, rMa10 H, rMa11 H, rMa12 H, rMa13 H, rMa14 H, rMs0 H, rMs1 H, rMs2 H, rMs3 H, rMs4 H, rMs5 H, rMs6 H, rMs7 H, rMs8 H, rMs9 H, rMs10 H, rMs11 H, rMs12 H, rMs13 H, rMs14 H, rMA0_0 H, rMA0_1 H, rMA0_2 H, rMA0_3 H, rMA0_4 H, rMA0_5 H, rMA0_6 H, rMA0_7 H, rMA0_8 H, rMA0_65 H, rMA0_66 H, rMA0_67 H, rMA0_68 H, rMA0_305 H, rMA0_1154 H, rMS0_0 H, rMS0_1 H, rMS0_2 H, rMS0_3 H, rMS0_4 H, rMS0_5 H, rMS0_6 H, rMS0_7 H, rMS0_8 H, rMS0_65 H, rMS0_66 H, rMS0_67 H, rMS0_68 H, rMS0_305 H, rMS0_1154 H, rMA7_0 H, rMS6_0 H, rMS6_1 H, rMS6_2 H, rMS6_3 H, rMS6_4 H, iN_add, iN_mul, iN_sub, iN_m1, iNp1, iNp2, iNp3, iNp4, iNp5, iNp6, iNp8, iNp12, iNp16, iNp20, iNp305, iNl1, iNl6, iNl9, iNl12, iNl41, iNl65, iNl305, iNl306, iNl354, iNl1154, iNl1155, iNl1203, iNm2, iNm4, iNm6, iNm8, iNm10, iNm12, iNm60, iNm305, iNs1, iNs4, iNs8]
    generalize hj : g_u2 (g_u2 iv (m + 9) s (-1)) (m + 10) s 0 = jv
    have hJ : mRd iv0 jv m (z.1, z.2.1, va_up z.2.2.1 s (-1), va_up z.2.2.2 s 0) := by
      have k1 : ∀ a, a ≠ m + 9 → a ≠ m + 10 → jv a = iv a := fun a h h' => by rw [← hj, g_u2_ne _ _ _ h', g_u2_ne _ _ _ h]
      refine ⟨by rw [k1 _ (by omega) (by omega)]; exact a1, ?_, ?_, by rw [k1 _ (by omega) (by omega)]; exact a4, by rw [k1 _ (by omega) (by omega)]; exact a5, by rw [k1 _ (by omega) (by omega)]; exact a6, by rw [k1 _ (by omega) (by omega)]; exact a7, fun k h1 h2 h3 h4 h5 => by rw [k1 _ (by omega) (by omega)]; exact a8 k h1 h2 h3 h4 h5, fun a h1 h2 h3 h4 h5 h6 => by rw [k1 a h4 h5]; exact a9 a h1 h2 h3 h4 h5 h6⟩
      · rw [← hj, g_u2_ne _ _ _ (by omega), g_u2_self, a2]
      · rw [← hj, g_u2_self, g_u2_ne _ _ _ (by omega), a3]
    rw [hJ.2.2.2.2.1]
    rw [rdLoop] at hP
    by_cases hz : z.2.1 = -1
    · rw [if_pos hz] at hP
      rw [gW_ift hz]
      simp (disch := omega) only [gW_B, gW_ret, gW_tr, gW_fa, rMi H, rMp H, rMc H, rMr0 H, rMr1 H, rMr2 H, rMr3 H, rMr4 H, rMr5 H, rMr6 H, rMr7 H, rMr8 H, rMr9 H, rMr10 H, rMr11 H, rMr12 H, rMr13 H, rMr14 H, rMa0 H, rMa1 H, rMa2 H, rMa3 H, rMa4 H, rMa5 H, rMa6 H, rMa7 H, rMa8 H, rMa9 H, rMa10 H, rMa11 H, rMa12 H, rMa13 H, rMa14 H, rMs0 H, rMs1 H, rMs2 H, rMs3 H, rMs4 H, rMs5 H, rMs6 H, rMs7 H, rMs8 H, rMs9 H, rMs10 H, rMs11 H, rMs12 H, rMs13 H, rMs14 H, rMA0_0 H, rMA0_1 H, rMA0_2 H, rMA0_3 H, rMA0_4 H, rMA0_5 H, rMA0_6 H, rMA0_7 H, rMA0_8 H, rMA0_65 H, rMA0_66 H, rMA0_67 H, rMA0_68 H, rMA0_305 H, rMA0_1154 H, rMS0_0 H, rMS0_1 H, rMS0_2 H, rMS0_3 H, rMS0_4 H, rMS0_5 H, rMS0_6 H, rMS0_7 H, rMS0_8 H, rMS0_65 H, rMS0_66 H, rMS0_67 H, rMS0_68 H, rMS0_305 H, rMS0_1154 H, rMA7_0 H, rMS6_0 H, rMS6_1 H, rMS6_2 H, rMS6_3 H, rMS6_4 H, iN_add, iN_mul, iN_sub, iN_m1, iNp1, iNp2, iNp3, iNp4, iNp5, iNp6, iNp8, iNp12, iNp16, iNp20, iNp305, iNl1, iNl6, iNl9, iNl12, iNl41, iNl65, iNl305, iNl306, iNl354, iNl1154, iNl1155, iNl1203, iNm2, iNm4, iNm6, iNm8, iNm10, iNm12, iNm60, iNm305, iNs1, iNs4, iNs8]
      have hJ2 : mRd iv0 jv m (z.1, -1, va_up z.2.2.1 s (-1), va_up z.2.2.2 s 0) := by have hJ3 := hJ; rw [hz] at hJ3; exact hJ3
      refine w_rideSlot H (by omega) hpn hp8 hL hJ2 (fun iv' hM' => ?_)
      rw [va_up_up, va_up_up] at hM'
      unfold f_X8_rides_41
      simp (disch := omega) only [gW_B, gW_ret, gW_tr, gW_fa, rMi H, rMp H, rMc H, rMr0 H, rMr1 H, rMr2 H, rMr3 H, rMr4 H, rMr5 H, rMr6 H, rMr7 H, rMr8 H, rMr9 H, rMr10 H, rMr11 H, rMr12 H, rMr13 H, rMr14 H, rMa0 H, rMa1 H, rMa2 H, rMa3 H, rMa4 H, rMa5 H, rMa6 H, rMa7 H, rMa8 H, rMa9 H, rMa10 H, rMa11 H, rMa12 H, rMa13 H, rMa14 H, rMs0 H, rMs1 H, rMs2 H, rMs3 H, rMs4 H, rMs5 H, rMs6 H, rMs7 H, rMs8 H, rMs9 H, rMs10 H, rMs11 H, rMs12 H, rMs13 H, rMs14 H, rMA0_0 H, rMA0_1 H, rMA0_2 H, rMA0_3 H, rMA0_4 H, rMA0_5 H, rMA0_6 H, rMA0_7 H, rMA0_8 H, rMA0_65 H, rMA0_66 H, rMA0_67 H, rMA0_68 H, rMA0_305 H, rMA0_1154 H, rMS0_0 H, rMS0_1 H, rMS0_2 H, rMS0_3 H, rMS0_4 H, rMS0_5 H, rMS0_6 H, rMS0_7 H, rMS0_8 H, rMS0_65 H, rMS0_66 H, rMS0_67 H, rMS0_68 H, rMS0_305 H, rMS0_1154 H, rMA7_0 H, rMS6_0 H, rMS6_1 H, rMS6_2 H, rMS6_3 H, rMS6_4 H, iN_add, iN_mul, iN_sub, iN_m1, iNp1, iNp2, iNp3, iNp4, iNp5, iNp6, iNp8, iNp12, iNp16, iNp20, iNp305, iNl1, iNl6, iNl9, iNl12, iNl41, iNl65, iNl305, iNl306, iNl354, iNl1154, iNl1155, iNl1203, iNm2, iNm4, iNm6, iNm8, iNm10, iNm12, iNm60, iNm305, iNs1, iNs4, iNs8]
      exact ih (s + 1) n iv' _ (by omega) (by omega) hM' hP
    · rw [if_neg hz] at hP
      rw [gW_iff hz]
      unfold f_X8_rides_41
      simp (disch := omega) only [gW_B, gW_ret, gW_tr, gW_fa, rMi H, rMp H, rMc H, rMr0 H, rMr1 H, rMr2 H, rMr3 H, rMr4 H, rMr5 H, rMr6 H, rMr7 H, rMr8 H, rMr9 H, rMr10 H, rMr11 H, rMr12 H, rMr13 H, rMr14 H, rMa0 H, rMa1 H, rMa2 H, rMa3 H, rMa4 H, rMa5 H, rMa6 H, rMa7 H, rMa8 H, rMa9 H, rMa10 H, rMa11 H, rMa12 H, rMa13 H, rMa14 H, rMs0 H, rMs1 H, rMs2 H, rMs3 H, rMs4 H, rMs5 H, rMs6 H, rMs7 H, rMs8 H, rMs9 H, rMs10 H, rMs11 H, rMs12 H, rMs13 H, rMs14 H, rMA0_0 H, rMA0_1 H, rMA0_2 H, rMA0_3 H, rMA0_4 H, rMA0_5 H, rMA0_6 H, rMA0_7 H, rMA0_8 H, rMA0_65 H, rMA0_66 H, rMA0_67 H, rMA0_68 H, rMA0_305 H, rMA0_1154 H, rMS0_0 H, rMS0_1 H, rMS0_2 H, rMS0_3 H, rMS0_4 H, rMS0_5 H, rMS0_6 H, rMS0_7 H, rMS0_8 H, rMS0_65 H, rMS0_66 H, rMS0_67 H, rMS0_68 H, rMS0_305 H, rMS0_1154 H, rMA7_0 H, rMS6_0 H, rMS6_1 H, rMS6_2 H, rMS6_3 H, rMS6_4 H, iN_add, iN_mul, iN_sub, iN_m1, iNp1, iNp2, iNp3, iNp4, iNp5, iNp6, iNp8, iNp12, iNp16, iNp20, iNp305, iNl1, iNl6, iNl9, iNl12, iNl41, iNl65, iNl305, iNl306, iNl354, iNl1154, iNl1155, iNl1203, iNm2, iNm4, iNm6, iNm8, iNm10, iNm12, iNm60, iNm305, iNs1, iNs4, iNs8]
      exact ih (s + 1) n jv _ (by omega) (by omega) hJ hP
/-- a ride of whoever is looked at, from the heap iv0 -/
def mZ0 (iv0 : gV) (m : Nat) : gRz := ((0, 0, iv0 (m + 1) 8, iv0 (m + 11)), -1, iv0 (m + 9), iv0 (m + 10))
def mRide (iv0 : gV) (m pn lm : Nat) (K N : Nat → Int32) (C : Nat → (Nat → Int32) → Bool) (dr te : Bool) : gRz := rdLoop (mFr iv0 m lm K N C) (mWr iv0 m lm K N C) (sOn (iv0 (m + 1)) pn (iv0 m 23)) (iv0 (m + 1) 5) (iv0 m 19) dr te (iv0 m 24) 10 0 (mZ0 iv0 m)
theorem w_rides (H : MS u m) {pn : Nat} (hpn : iv0 (m + 1) 0 = iN pn) (hp8 : pn ≤ 8) {lm : Nat} {K N : Nat → Int32} {C : Nat → (Nat → Int32) → Bool} (hL : mL (iv0 (m + 1)) lm K N C) {dr te : Bool} {P : Int32 → g_H → Prop} (hP : ∀ iv', mRd iv0 iv' m (mRide iv0 m pn lm K N C dr te) → P (mRide iv0 m pn lm K N C dr te).2.1 (iv', u)) : gW (f_X8_rides m (bI (dr = true)) (bI (te = true))) (iv0, u) P := by
  unfold f_X8_rides
  simp (disch := omega) only [gW_B, gW_ret, gW_tr, gW_fa, rMi H, rMp H, rMc H, rMr0 H, rMr1 H, rMr2 H, rMr3 H, rMr4 H, rMr5 H, rMr6 H, rMr7 H, rMr8 H, rMr9 H, rMr10 H, rMr11 H, rMr12 H, rMr13 H, rMr14 H, rMa0 H, rMa1 H, rMa2 H, rMa3 H, rMa4 H, rMa5 H, rMa6 H, rMa7 H, rMa8 H, rMa9 H, rMa10 H, rMa11 H, rMa12 H, rMa13 H, rMa14 H, rMs0 H, rMs1 H, rMs2 H, rMs3 H, rMs4 H, rMs5 H, rMs6 H, rMs7 H, rMs8 H, rMs9 H, rMs10 H, rMs11 H, rMs12 H, rMs13 H, rMs14 H, rMA0_0 H, rMA0_1 H, rMA0_2 H, rMA0_3 H, rMA0_4 H, rMA0_5 H, rMA0_6 H, rMA0_7 H, rMA0_8 H, rMA0_65 H, rMA0_66 H, rMA0_67 H, rMA0_68 H, rMA0_305 H, rMA0_1154 H, rMS0_0 H, rMS0_1 H, rMS0_2 H, rMS0_3 H, rMS0_4 H, rMS0_5 H, rMS0_6 H, rMS0_7 H, rMS0_8 H, rMS0_65 H, rMS0_66 H, rMS0_67 H, rMS0_68 H, rMS0_305 H, rMS0_1154 H, rMA7_0 H, rMS6_0 H, rMS6_1 H, rMS6_2 H, rMS6_3 H, rMS6_4 H, iN_add, iN_mul, iN_sub, iN_m1, iNp1, iNp2, iNp3, iNp4, iNp5, iNp6, iNp8, iNp12, iNp16, iNp20, iNp305, iNl1, iNl6, iNl9, iNl12, iNl41, iNl65, iNl305, iNl306, iNl354, iNl1154, iNl1155, iNl1203, iNm2, iNm4, iNm6, iNm8, iNm10, iNm12, iNm60, iNm305, iNs1, iNs4, iNs8, w_begins H]
  unfold mRide at hP
  refine w_rides_6 H hpn hp8 hL 10 0 gN (g_u2 (g_u2 (g_u2 iv0 m 28 (-1)) m 29 0) m 30 0) (mZ0 iv0 m) (by omega) (by rw [gN_eq]; omega) ?_ hP
  refine ⟨?_, ?_, ?_, ?_, ?_, ?_, ?_, fun k h1 h2 h3 h4 h5 => ?_, fun a h1 h2 h3 h4 h5 h6 => ?_⟩
  · show g_u2 (g_u2 (g_u2 iv0 m 28 (-1)) m 29 0) m 30 0 (m + 1) = va_up (iv0 (m + 1)) 8 (iv0 (m + 1) 8)
    rw [g_u2_ne _ _ _ (by omega), g_u2_ne _ _ _ (by omega), g_u2_ne _ _ _ (by omega)]
    funext k
    by_cases hk : k = 8
    · subst hk; rw [va_up_self]
    · rw [va_up_ne _ _ hk]
  · simp [g_u2, va_up, mZ0]
  · simp [g_u2, va_up, mZ0]
  · simp [g_u2, va_up, mZ0]
  · simp [g_u2, va_up, mZ0]
  · simp [g_u2, va_up, mZ0]
  · simp [g_u2, va_up, mZ0]
  · simp [g_u2, va_up, h3, h4, h5]
  · simp [g_u2, va_up, h1]
/-- who is looked at -/
abbrev mLk (iv : gV) (m a : Nat) : gV := g_u2 (g_u2 (g_u2 iv m 18 (iv (m + 1) (41 + 4 * a + 0))) m 19 (iv (m + 1) (41 + 4 * a + 1))) m 20 (iv (m + 1) (41 + 4 * a + 2))
theorem w_ridesStraight (H : MS u m) {pn a : Nat} (ha : a < 6) (hpn : iv0 (m + 1) 0 = iN pn) (hp8 : pn ≤ 8) {lm : Nat} {K N : Nat → Int32} {C : Nat → (Nat → Int32) → Bool} (hL : mL (iv0 (m + 1)) lm K N C) {P : Int32 → g_H → Prop} (hP : ∀ iv', mRd (mLk iv0 m a) iv' m (mRide (mLk iv0 m a) m pn lm K N C false false) → P (mRide (mLk iv0 m a) m pn lm K N C false false).2.1 (iv', u)) : gW (f_X8_ridesStraight m (iN a)) (iv0, u) P := by
  unfold f_X8_ridesStraight
  simp (disch := omega) only [gW_B, gW_ret, gW_tr, gW_fa, rMi H, rMp H, rMc H, rMr0 H, rMr1 H, rMr2 H, rMr3 H, rMr4 H, rMr5 H, rMr6 H, rMr7 H, rMr8 H, rMr9 H, rMr10 H, rMr11 H, rMr12 H, rMr13 H, rMr14 H, rMa0 H, rMa1 H, rMa2 H, rMa3 H, rMa4 H, rMa5 H, rMa6 H, rMa7 H, rMa8 H, rMa9 H, rMa10 H, rMa11 H, rMa12 H, rMa13 H, rMa14 H, rMs0 H, rMs1 H, rMs2 H, rMs3 H, rMs4 H, rMs5 H, rMs6 H, rMs7 H, rMs8 H, rMs9 H, rMs10 H, rMs11 H, rMs12 H, rMs13 H, rMs14 H, rMA0_0 H, rMA0_1 H, rMA0_2 H, rMA0_3 H, rMA0_4 H, rMA0_5 H, rMA0_6 H, rMA0_7 H, rMA0_8 H, rMA0_65 H, rMA0_66 H, rMA0_67 H, rMA0_68 H, rMA0_305 H, rMA0_1154 H, rMS0_0 H, rMS0_1 H, rMS0_2 H, rMS0_3 H, rMS0_4 H, rMS0_5 H, rMS0_6 H, rMS0_7 H, rMS0_8 H, rMS0_65 H, rMS0_66 H, rMS0_67 H, rMS0_68 H, rMS0_305 H, rMS0_1154 H, rMA7_0 H, rMS6_0 H, rMS6_1 H, rMS6_2 H, rMS6_3 H, rMS6_4 H, iN_add, iN_mul, iN_sub, iN_m1, iNp1, iNp2, iNp3, iNp4, iNp5, iNp6, iNp8, iNp12, iNp16, iNp20, iNp305, iNl1, iNl6, iNl9, iNl12, iNl41, iNl65, iNl305, iNl306, iNl354, iNl1154, iNl1155, iNl1203, iNm2, iNm4, iNm6, iNm8, iNm10, iNm12, iNm60, iNm305, iNs1, iNs4, iNs8, w_looksAt H]
  have e1 : mLk iv0 m a (m + 1) = iv0 (m + 1) := by simp [g_u2, va_up]
  have := w_rides (iv0 := mLk iv0 m a) (P := P) H (by rw [e1]; exact hpn) hp8 (by rw [e1]; exact hL) (dr := false) (te := false) hP
  rw [bI_f (by decide)] at this
  exact this
end RD
