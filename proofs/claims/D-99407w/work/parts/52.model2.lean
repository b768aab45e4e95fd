/-! TRUTHS AS INTS -/
def bI (c : Prop) [Decidable c] : Int32 := if c then 1 else 0
theorem bI_t {c : Prop} [Decidable c] (h : c) : bI c = 1 := if_pos h
theorem bI_f {c : Prop} [Decidable c] (h : ¬ c) : bI c = 0 := if_neg h
theorem bI_0 {c : Prop} [Decidable c] : bI c = 0 ↔ ¬ c := by
  by_cases h : c
  · rw [bI_t h]; exact ⟨fun q => absurd q (by decide), fun q => (q h).elim⟩
  · rw [bI_f h]; exact ⟨fun _ => h, fun _ => rfl⟩
theorem bI_1 {c : Prop} [Decidable c] : bI c = 1 ↔ c := by
  by_cases h : c
  · rw [bI_t h]; exact ⟨fun _ => h, fun _ => rfl⟩
  · rw [bI_f h]; exact ⟨fun q => absurd q (by decide), fun q => (h q).elim⟩
theorem bI_o {c : Prop} [Decidable c] : bI c = 0 ∨ bI c = 1 := by
  by_cases h : c
  · exact Or.inr (bI_t h)
  · exact Or.inl (bI_f h)
theorem bI_c {c d : Prop} [Decidable c] [Decidable d] (h : c ↔ d) : bI c = bI d := by
  by_cases q : c
  · rw [bI_t q, bI_t (h.mp q)]
  · rw [bI_f q, bI_f (fun z => q (h.mpr z))]

def mX (a b : Int32) : Int32 := if a < b then b else a
def mN (a b : Int32) : Int32 := if b < a then b else a
theorem w_max {h : g_H} {a b : Int32} {P : Int32 → g_H → Prop} : gW (f_J13_max a b) h P ↔ P (mX a b) h := by
  unfold f_J13_max f_J13_max_10 mX
  by_cases h1 : a < b
  · rw [gW_ift h1, if_pos h1, gW_ret]
  · rw [gW_iff h1, if_neg h1, gW_ret]
theorem w_min {h : g_H} {a b : Int32} {P : Int32 → g_H → Prop} : gW (f_J13_min a b) h P ↔ P (mN a b) h := by
  unfold f_J13_min f_J13_min_10 mN
  by_cases h1 : b < a
  · rw [gW_ift h1, if_pos h1, gW_ret]
  · rw [gW_iff h1, if_neg h1, gW_ret]
section MG
variable {iv : gV} {u : gU} {m : Nat} {h : g_H}
theorem w_in {x l t : Int32} {P : Int32 → g_H → Prop} : gW (f_X8_in x l t) h P ↔ P (bI (l ≤ x ∧ x ≤ t)) h := by
  unfold f_X8_in f_X8_in_14 f_X8_in_15
  by_cases h1 : x < l
  · rw [gW_ift h1, bI_f (fun q => Int32.not_lt.mpr q.1 h1)]
    simp [gW_B, gW_gd, gW_ret]
  · rw [gW_iff h1]
    by_cases h2 : t < x
    · rw [gW_ift h2, bI_f (fun q => Int32.not_lt.mpr q.2 h2)]
      simp [gW_B, gW_gd, gW_ret]
    · rw [gW_iff h2, bI_t ⟨Int32.not_lt.mp h1, Int32.not_lt.mp h2⟩]
      simp [gW_B, gW_gd, gW_ret]
theorem w_has {s k : Int32} {P : Int32 → g_H → Prop} : gW (f_X8_has s k) h P ↔ P (bI ((s >>> (k &&& 31)) &&& 1 = 1)) h := by
  unfold f_X8_has f_X8_has_14
  by_cases h1 : (s >>> (k &&& 31)) &&& 1 = 1
  · rw [gW_ift h1, bI_t h1]
    simp [gW_B, gW_gd, gW_ret]
  · rw [gW_iff h1, bI_f h1]
    simp [gW_B, gW_gd, gW_ret]
theorem w_noSlot {x : Int32} {P : Int32 → g_H → Prop} : gW (f_X8_noSlot x) h P ↔ P (bI (¬ (0 ≤ x ∧ x ≤ 9))) h := by
  unfold f_X8_noSlot f_X8_noSlot_15
  rw [gW_B, w_in]
  by_cases h1 : (0 ≤ x ∧ x ≤ 9)
  · rw [gW_iff (by rw [bI_0]; exact fun q => q h1), bI_f (fun q => q h1)]
    simp [gW_B, gW_gd, gW_ret]
  · rw [gW_ift (by rw [bI_0]; exact h1), bI_t h1]
    simp [gW_B, gW_gd, gW_ret]
theorem w_throwsIf (H : MS u m) {c : Prop} [Decidable c] {x : Int32} {P : Int32 → g_H → Prop} : gW (f_X8_throwsIf m (bI c) x) (iv, u) P ↔ (if c then P 1 (g_u2 iv m 0 x, u) else P 0 (iv, u)) := by
  unfold f_X8_throwsIf f_X8_throwsIf_9
  by_cases h1 : c
  · rw [if_pos h1, gW_iff (by rw [bI_0]; exact fun q => q h1), bI_t h1, gW_B, rMp H]
    simp [gW_B, gW_gd, gW_ret]
  · rw [if_neg h1, gW_ift (by rw [bI_0]; exact h1), bI_f h1]
    simp [gW_B, gW_gd, gW_ret]
theorem w_waits (H : MS u m) {a : Nat} (ha : a < 6) {P : Int32 → g_H → Prop} : gW (f_X8_waits m (iN a)) (iv, u) P ↔ P (bI (iv (m + 1) (41 + 4 * a + 3) = 0)) (iv, u) := by
  unfold f_X8_waits f_X8_waits_14
  simp (disch := omega) only [gW_B, gW_ret, gW_tr, gW_fa, rMi H, rMp H, rMc H, rMr0 H, rMr1 H, rMr2 H, rMr3 H, rMr4 H, rMr5 H, rMr6 H, rMr7 H, rMr8 H, rMr9 H, rMr10 H, rMr11 H, rMr12 H, rMr13 H, rMr14 H, rMa0 H, rMa1 H, rMa2 H, rMa3 H, rMa4 H, rMa5 H, rMa6 H, rMa7 H, rMa8 H, rMa9 H, rMa10 H, rMa11 H, rMa12 H, rMa13 H, rMa14 H, rMs0 H, rMs1 H, rMs2 H, rMs3 H, rMs4 H, rMs5 H, rMs6 H, rMs7 H, rMs8 H, rMs9 H, rMs10 H, rMs11 H, rMs12 H, rMs13 H, rMs14 H, rMA0_0 H, rMA0_1 H, rMA0_2 H, rMA0_3 H, rMA0_4 H, rMA0_5 H, rMA0_6 H, rMA0_7 H, rMA0_8 H, rMA0_65 H, rMA0_66 H, rMA0_67 H, rMA0_68 H, rMA0_305 H, rMA0_1154 H, rMS0_0 H, rMS0_1 H, rMS0_2 H, rMS0_3 H, rMS0_4 H, rMS0_5 H, rMS0_6 H, rMS0_7 H, rMS0_8 H, rMS0_65 H, rMS0_66 H, rMS0_67 H, rMS0_68 H, rMS0_305 H, rMS0_1154 H, rMA7_0 H, rMS6_0 H, rMS6_1 H, rMS6_2 H, rMS6_3 H, rMS6_4 H, iN_add, iN_mul, iN_sub, iN_m1, iNp1, iNp2, iNp3, iNp4, iNp5, iNp6, iNp8, iNp12, iNp16, iNp20, iNp305, iNl1, iNl6, iNl9, iNl12, iNl41, iNl65, iNl305, iNl306, iNl354, iNl1154, iNl1155, iNl1203, iNm2, iNm4, iNm6, iNm8, iNm10, iNm12, iNm60, iNm305, iNs1, iNs4, iNs8, w_of0 H, w_of1 H, w_of2 H, w_of3 H]
  by_cases h1 : iv (m + 1) (41 + 4 * a + 3) = 0
  · rw [gW_ift h1, bI_t h1]
    simp [gW_B, gW_gd, gW_ret]
  · rw [gW_iff h1, bI_f h1]
    simp [gW_B, gW_gd, gW_ret]
theorem w_isInnocent (H : MS u m) {a : Nat} (ha : a < 6) {P : Int32 → g_H → Prop} : gW (f_X8_isInnocent m (iN a)) (iv, u) P ↔ P (bI (iv (m + 1) (41 + 4 * a + 0) = 0)) (iv, u) := by
  unfold f_X8_isInnocent f_X8_isInnocent_14
  simp (disch := omega) only [gW_B, gW_ret, gW_tr, gW_fa, rMi H, rMp H, rMc H, rMr0 H, rMr1 H, rMr2 H, rMr3 H, rMr4 H, rMr5 H, rMr6 H, rMr7 H, rMr8 H, rMr9 H, rMr10 H, rMr11 H, rMr12 H, rMr13 H, rMr14 H, rMa0 H, rMa1 H, rMa2 H, rMa3 H, rMa4 H, rMa5 H, rMa6 H, rMa7 H, rMa8 H, rMa9 H, rMa10 H, rMa11 H, rMa12 H, rMa13 H, rMa14 H, rMs0 H, rMs1 H, rMs2 H, rMs3 H, rMs4 H, rMs5 H, rMs6 H, rMs7 H, rMs8 H, rMs9 H, rMs10 H, rMs11 H, rMs12 H, rMs13 H, rMs14 H, rMA0_0 H, rMA0_1 H, rMA0_2 H, rMA0_3 H, rMA0_4 H, rMA0_5 H, rMA0_6 H, rMA0_7 H, rMA0_8 H, rMA0_65 H, rMA0_66 H, rMA0_67 H, rMA0_68 H, rMA0_305 H, rMA0_1154 H, rMS0_0 H, rMS0_1 H, rMS0_2 H, rMS0_3 H, rMS0_4 H, rMS0_5 H, rMS0_6 H, rMS0_7 H, rMS0_8 H, rMS0_65 H, rMS0_66 H, rMS0_67 H, rMS0_68 H, rMS0_305 H, rMS0_1154 H, rMA7_0 H, rMS6_0 H, rMS6_1 H, rMS6_2 H, rMS6_3 H, rMS6_4 H, iN_add, iN_mul, iN_sub, iN_m1, iNp1, iNp2, iNp3, iNp4, iNp5, iNp6, iNp8, iNp12, iNp16, iNp20, iNp305, iNl1, iNl6, iNl9, iNl12, iNl41, iNl65, iNl305, iNl306, iNl354, iNl1154, iNl1155, iNl1203, iNm2, iNm4, iNm6, iNm8, iNm10, iNm12, iNm60, iNm305, iNs1, iNs4, iNs8, w_of0 H, w_of1 H, w_of2 H, w_of3 H]
  by_cases h1 : iv (m + 1) (41 + 4 * a + 0) = 0
  · rw [gW_ift h1, bI_t h1]
    simp [gW_B, gW_gd, gW_ret]
  · rw [gW_iff h1, bI_f h1]
    simp [gW_B, gW_gd, gW_ret]
theorem w_isNailed (H : MS u m) {a : Nat} (ha : a < 8) {P : Int32 → g_H → Prop} : gW (f_X8_isNailed m (iN a)) (iv, u) P ↔ P (bI (¬ iv (m + 1) (9 + 4 * a + 3) = -1)) (iv, u) := by
  unfold f_X8_isNailed f_X8_isNailed_15
  simp (disch := omega) only [gW_B, gW_ret, gW_tr, gW_fa, rMi H, rMp H, rMc H, rMr0 H, rMr1 H, rMr2 H, rMr3 H, rMr4 H, rMr5 H, rMr6 H, rMr7 H, rMr8 H, rMr9 H, rMr10 H, rMr11 H, rMr12 H, rMr13 H, rMr14 H, rMa0 H, rMa1 H, rMa2 H, rMa3 H, rMa4 H, rMa5 H, rMa6 H, rMa7 H, rMa8 H, rMa9 H, rMa10 H, rMa11 H, rMa12 H, rMa13 H, rMa14 H, rMs0 H, rMs1 H, rMs2 H, rMs3 H, rMs4 H, rMs5 H, rMs6 H, rMs7 H, rMs8 H, rMs9 H, rMs10 H, rMs11 H, rMs12 H, rMs13 H, rMs14 H, rMA0_0 H, rMA0_1 H, rMA0_2 H, rMA0_3 H, rMA0_4 H, rMA0_5 H, rMA0_6 H, rMA0_7 H, rMA0_8 H, rMA0_65 H, rMA0_66 H, rMA0_67 H, rMA0_68 H, rMA0_305 H, rMA0_1154 H, rMS0_0 H, rMS0_1 H, rMS0_2 H, rMS0_3 H, rMS0_4 H, rMS0_5 H, rMS0_6 H, rMS0_7 H, rMS0_8 H, rMS0_65 H, rMS0_66 H, rMS0_67 H, rMS0_68 H, rMS0_305 H, rMS0_1154 H, rMA7_0 H, rMS6_0 H, rMS6_1 H, rMS6_2 H, rMS6_3 H, rMS6_4 H, iN_add, iN_mul, iN_sub, iN_m1, iNp1, iNp2, iNp3, iNp4, iNp5, iNp6, iNp8, iNp12, iNp16, iNp20, iNp305, iNl1, iNl6, iNl9, iNl12, iNl41, iNl65, iNl305, iNl306, iNl354, iNl1154, iNl1155, iNl1203, iNm2, iNm4, iNm6, iNm8, iNm10, iNm12, iNm60, iNm305, iNs1, iNs4, iNs8, w_ofProp0 H, w_ofProp1 H, w_ofProp2 H, w_ofProp3 H]
  by_cases h1 : iv (m + 1) (9 + 4 * a + 3) = -1
  · rw [gW_ift h1, bI_f (fun q => q h1)]
    simp [gW_B, gW_gd, gW_ret]
  · rw [gW_iff h1, bI_t h1]
    simp [gW_B, gW_gd, gW_ret]
theorem w_noProp (H : MS u m) {x : Int32} {P : Int32 → g_H → Prop} : gW (f_X8_noProp m x) (iv, u) P ↔ P (bI (¬ (0 ≤ x ∧ x ≤ iv (m + 1) 0 - 1))) (iv, u) := by
  unfold f_X8_noProp f_X8_noProp_19
  simp only [gW_B, gW_ret, gW_tr, gW_fa, rMi H, rMp H, rMc H, rMr0 H, rMr1 H, rMr2 H, rMr3 H, rMr4 H, rMr5 H, rMr6 H, rMr7 H, rMr8 H, rMr9 H, rMr10 H, rMr11 H, rMr12 H, rMr13 H, rMr14 H, rMa0 H, rMa1 H, rMa2 H, rMa3 H, rMa4 H, rMa5 H, rMa6 H, rMa7 H, rMa8 H, rMa9 H, rMa10 H, rMa11 H, rMa12 H, rMa13 H, rMa14 H, rMs0 H, rMs1 H, rMs2 H, rMs3 H, rMs4 H, rMs5 H, rMs6 H, rMs7 H, rMs8 H, rMs9 H, rMs10 H, rMs11 H, rMs12 H, rMs13 H, rMs14 H, rMA0_0 H, rMA0_1 H, rMA0_2 H, rMA0_3 H, rMA0_4 H, rMA0_5 H, rMA0_6 H, rMA0_7 H, rMA0_8 H, rMA0_65 H, rMA0_66 H, rMA0_67 H, rMA0_68 H, rMA0_305 H, rMA0_1154 H, rMS0_0 H, rMS0_1 H, rMS0_2 H, rMS0_3 H, rMS0_4 H, rMS0_5 H, rMS0_6 H, rMS0_7 H, rMS0_8 H, rMS0_65 H, rMS0_66 H, rMS0_67 H, rMS0_68 H, rMS0_305 H, rMS0_1154 H, rMA7_0 H, rMS6_0 H, rMS6_1 H, rMS6_2 H, rMS6_3 H, rMS6_4 H, iN_add, iN_mul, iN_sub, iN_m1, iNp1, iNp2, iNp3, iNp4, iNp5, iNp6, iNp8, iNp12, iNp16, iNp20, iNp305, iNl1, iNl6, iNl9, iNl12, iNl41, iNl65, iNl305, iNl306, iNl354, iNl1154, iNl1155, iNl1203, iNm2, iNm4, iNm6, iNm8, iNm10, iNm12, iNm60, iNm305, iNs1, iNs4, iNs8, w_props H, w_in]
  by_cases h1 : (0 ≤ x ∧ x ≤ iv (m + 1) 0 - 1)
  · rw [gW_iff (by rw [bI_0]; exact fun q => q h1), bI_f (fun q => q h1)]
    simp [gW_B, gW_gd, gW_ret]
  · rw [gW_ift (by rw [bI_0]; exact h1), bI_t h1]
    simp [gW_B, gW_gd, gW_ret]
theorem w_noOne (H : MS u m) {x : Int32} {P : Int32 → g_H → Prop} : gW (f_X8_noOne m x) (iv, u) P ↔ P (bI (¬ (0 ≤ x ∧ x ≤ iv (m + 1) 1 - 1))) (iv, u) := by
  unfold f_X8_noOne f_X8_noOne_19
  simp only [gW_B, gW_ret, gW_tr, gW_fa, rMi H, rMp H, rMc H, rMr0 H, rMr1 H, rMr2 H, rMr3 H, rMr4 H, rMr5 H, rMr6 H, rMr7 H, rMr8 H, rMr9 H, rMr10 H, rMr11 H, rMr12 H, rMr13 H, rMr14 H, rMa0 H, rMa1 H, rMa2 H, rMa3 H, rMa4 H, rMa5 H, rMa6 H, rMa7 H, rMa8 H, rMa9 H, rMa10 H, rMa11 H, rMa12 H, rMa13 H, rMa14 H, rMs0 H, rMs1 H, rMs2 H, rMs3 H, rMs4 H, rMs5 H, rMs6 H, rMs7 H, rMs8 H, rMs9 H, rMs10 H, rMs11 H, rMs12 H, rMs13 H, rMs14 H, rMA0_0 H, rMA0_1 H, rMA0_2 H, rMA0_3 H, rMA0_4 H, rMA0_5 H, rMA0_6 H, rMA0_7 H, rMA0_8 H, rMA0_65 H, rMA0_66 H, rMA0_67 H, rMA0_68 H, rMA0_305 H, rMA0_1154 H, rMS0_0 H, rMS0_1 H, rMS0_2 H, rMS0_3 H, rMS0_4 H, rMS0_5 H, rMS0_6 H, rMS0_7 H, rMS0_8 H, rMS0_65 H, rMS0_66 H, rMS0_67 H, rMS0_68 H, rMS0_305 H, rMS0_1154 H, rMA7_0 H, rMS6_0 H, rMS6_1 H, rMS6_2 H, rMS6_3 H, rMS6_4 H, iN_add, iN_mul, iN_sub, iN_m1, iNp1, iNp2, iNp3, iNp4, iNp5, iNp6, iNp8, iNp12, iNp16, iNp20, iNp305, iNl1, iNl6, iNl9, iNl12, iNl41, iNl65, iNl305, iNl306, iNl354, iNl1154, iNl1155, iNl1203, iNm2, iNm4, iNm6, iNm8, iNm10, iNm12, iNm60, iNm305, iNs1, iNs4, iNs8, w_oneCount H, w_in]
  by_cases h1 : (0 ≤ x ∧ x ≤ iv (m + 1) 1 - 1)
  · rw [gW_iff (by rw [bI_0]; exact fun q => q h1), bI_f (fun q => q h1)]
    simp [gW_B, gW_gd, gW_ret]
  · rw [gW_ift (by rw [bI_0]; exact h1), bI_t h1]
    simp [gW_B, gW_gd, gW_ret]
theorem w_looksAt (H : MS u m) {a : Nat} (ha : a < 6) {P : Unit → g_H → Prop} : gW (f_X8_looksAt m (iN a)) (iv, u) P ↔ P () (g_u2 (g_u2 (g_u2 iv m 18 (iv (m + 1) (41 + 4 * a + 0))) m 19 (iv (m + 1) (41 + 4 * a + 1))) m 20 (iv (m + 1) (41 + 4 * a + 2)), u) := by
  have e : ∀ (f : gV) (k k' : Nat) (x : Int32), g_u2 f m k x (m + 1) k' = f (m + 1) k' := fun f k k' x => by rw [g_u2_ne _ _ _ (by omega)]
  unfold f_X8_looksAt
  simp (disch := omega) only [gW_B, gW_ret, gW_tr, gW_fa, rMi H, rMp H, rMc H, rMr0 H, rMr1 H, rMr2 H, rMr3 H, rMr4 H, rMr5 H, rMr6 H, rMr7 H, rMr8 H, rMr9 H, rMr10 H, rMr11 H, rMr12 H, rMr13 H, rMr14 H, rMa0 H, rMa1 H, rMa2 H, rMa3 H, rMa4 H, rMa5 H, rMa6 H, rMa7 H, rMa8 H, rMa9 H, rMa10 H, rMa11 H, rMa12 H, rMa13 H, rMa14 H, rMs0 H, rMs1 H, rMs2 H, rMs3 H, rMs4 H, rMs5 H, rMs6 H, rMs7 H, rMs8 H, rMs9 H, rMs10 H, rMs11 H, rMs12 H, rMs13 H, rMs14 H, rMA0_0 H, rMA0_1 H, rMA0_2 H, rMA0_3 H, rMA0_4 H, rMA0_5 H, rMA0_6 H, rMA0_7 H, rMA0_8 H, rMA0_65 H, rMA0_66 H, rMA0_67 H, rMA0_68 H, rMA0_305 H, rMA0_1154 H, rMS0_0 H, rMS0_1 H, rMS0_2 H, rMS0_3 H, rMS0_4 H, rMS0_5 H, rMS0_6 H, rMS0_7 H, rMS0_8 H, rMS0_65 H, rMS0_66 H, rMS0_67 H, rMS0_68 H, rMS0_305 H, rMS0_1154 H, rMA7_0 H, rMS6_0 H, rMS6_1 H, rMS6_2 H, rMS6_3 H, rMS6_4 H, iN_add, iN_mul, iN_sub, iN_m1, iNp1, iNp2, iNp3, iNp4, iNp5, iNp6, iNp8, iNp12, iNp16, iNp20, iNp305, iNl1, iNl6, iNl9, iNl12, iNl41, iNl65, iNl305, iNl306, iNl354, iNl1154, iNl1155, iNl1203, iNm2, iNm4, iNm6, iNm8, iNm10, iNm12, iNm60, iNm305, iNs1, iNs4, iNs8, w_of0 H, w_of1 H, w_of2 H, w_of3 H, e]
theorem w_begins (H : MS u m) {P : Unit → g_H → Prop} : gW (f_X8_begins m) (iv, u) P ↔ P () (g_u2 (g_u2 (g_u2 iv m 28 (-1)) m 29 0) m 30 0, u) := by
  unfold f_X8_begins
  simp (disch := omega) only [gW_B, gW_ret, gW_tr, gW_fa, rMi H, rMp H, rMc H, rMr0 H, rMr1 H, rMr2 H, rMr3 H, rMr4 H, rMr5 H, rMr6 H, rMr7 H, rMr8 H, rMr9 H, rMr10 H, rMr11 H, rMr12 H, rMr13 H, rMr14 H, rMa0 H, rMa1 H, rMa2 H, rMa3 H, rMa4 H, rMa5 H, rMa6 H, rMa7 H, rMa8 H, rMa9 H, rMa10 H, rMa11 H, rMa12 H, rMa13 H, rMa14 H, rMs0 H, rMs1 H, rMs2 H, rMs3 H, rMs4 H, rMs5 H, rMs6 H, rMs7 H, rMs8 H, rMs9 H, rMs10 H, rMs11 H, rMs12 H, rMs13 H, rMs14 H, rMA0_0 H, rMA0_1 H, rMA0_2 H, rMA0_3 H, rMA0_4 H, rMA0_5 H, rMA0_6 H, rMA0_7 H, rMA0_8 H, rMA0_65 H, rMA0_66 H, rMA0_67 H, rMA0_68 H, rMA0_305 H, rMA0_1154 H, rMS0_0 H, rMS0_1 H, rMS0_2 H, rMS0_3 H, rMS0_4 H, rMS0_5 H, rMS0_6 H, rMS0_7 H, rMS0_8 H, rMS0_65 H, rMS0_66 H, rMS0_67 H, rMS0_68 H, rMS0_305 H, rMS0_1154 H, rMA7_0 H, rMS6_0 H, rMS6_1 H, rMS6_2 H, rMS6_3 H, rMS6_4 H, iN_add, iN_mul, iN_sub, iN_m1, iNp1, iNp2, iNp3, iNp4, iNp5, iNp6, iNp8, iNp12, iNp16, iNp20, iNp305, iNl1, iNl6, iNl9, iNl12, iNl41, iNl65, iNl305, iNl306, iNl354, iNl1154, iNl1155, iNl1203, iNm2, iNm4, iNm6, iNm8, iNm10, iNm12, iNm60, iNm305, iNs1, iNs4, iNs8]
end MG
