/-! THE LAW'S LINES: what a row of steps says -/
/-- what there is to look at, at prop p -/
def sF (W : Nat → Int32) (p : Nat) (tense deeds nerve knows : Int32) (j : Nat) : Int32 :=
  if j = 0 then iN p else if j = 1 then W (9 + 4 * p + 3) else if j = 2 then W (9 + 4 * p + 1) else if j = 3 then W (9 + 4 * p + 2) else if j = 4 then tense else if j = 5 then nerve else if j = 6 then bI ((knows >>> (iN p &&& 31)) &&& 1 = 1) else bI ((deeds >>> (W (9 + 4 * p + 0) &&& 31)) &&& 1 = 1)
def sFact (F : Nat → Int32) (x n : Int32) : Int32 :=
  if x = 0 then F 0 else if x = 1 then F 1 else if x = 2 then F 2 else if x = 3 then F 3 else if x = 4 then F 4 else if x = 5 then F 5 else if x = 6 then F 6 else if x = 7 then F 7 else n
def sBin (op a b : Int32) : Int32 :=
  if op = 9 then a + b else if op = 10 then bI (a < b) else if op = 11 then bI (b < a) else if op = 13 then bI (a + b = 2) else bI (0 < a + b)
abbrev gQs : Type := Nat × (Nat → Int32)
def sStp (F : Nat → Int32) (op n : Int32) (q : gQs) : gQs :=
  if 8 < op then (if op = 12 then (q.1, va_up q.2 (q.1 - 1) (1 - q.2 (q.1 - 1))) else (q.1 - 1, va_up q.2 (q.1 - 2) (sBin op (q.2 (q.1 - 2)) (q.2 (q.1 - 1))))) else (q.1 + 1, va_up q.2 q.1 (sFact F op n))
def sOk1 (op : Int32) (top : Nat) : Prop := if 8 < op then (if op = 12 then 1 ≤ top ∧ top ≤ 400 else 2 ≤ top ∧ top ≤ 400) else top < 400
def sRun (W F : Nat → Int32) : Nat → Nat → gQs → gQs
  | 0, _, q => q
  | k + 1, i, q => sRun W F k (i + 1) (sStp F (W (354 + 2 * i)) (W (354 + 2 * i + 1)) q)
def sRok (W F : Nat → Int32) : Nat → Nat → gQs → Prop
  | 0, _, _ => True
  | k + 1, i, q => sOk1 (W (354 + 2 * i)) q.1 ∧ sRok W F k (i + 1) (sStp F (W (354 + 2 * i)) (W (354 + 2 * i + 1)) q)
section LW
variable {iv : gV} {u : gU} {m : Nat} {h : g_H}
theorem w_factOf (H : MS u m) {x n : Int32} {p : Nat} (hp : p < 8) (hm : iv m 21 = iN p) {P : Int32 → g_H → Prop} : gW (f_X8_factOf m x n) (iv, u) P ↔ P (sFact (sF (iv (m + 1)) p (iv m 22) (iv m 18) (iv m 19) (iv m 20)) x n) (iv, u) := by
  unfold f_X8_factOf sFact
  by_cases h0 : x = 0
  · rw [gW_ift h0, if_pos h0]
    simp only [gW_B, gW_ret, gW_tr, gW_fa, rMi H, rMp H, rMc H, rMr0 H, rMr1 H, rMr2 H, rMr3 H, rMr4 H, rMr5 H, rMr6 H, rMr7 H, rMr8 H, rMr9 H, rMr10 H, rMr11 H, rMr12 H, rMr13 H, rMr14 H, rMa0 H, rMa1 H, rMa2 H, rMa3 H, rMa4 H, rMa5 H, rMa6 H, rMa7 H, rMa8 H, rMa9 H, rMa10 H, rMa11 H, rMa12 H, rMa13 H, rMa14 H, rMs0 H, rMs1 H, rMs2 H, rMs3 H, rMs4 H, rMs5 H, rMs6 H, rMs7 H, rMs8 H, rMs9 H, rMs10 H, rMs11 H, rMs12 H, rMs13 H, rMs14 H, rMA0_0 H, rMA0_1 H, rMA0_2 H, rMA0_3 H, rMA0_4 H, rMA0_5 H, rMA0_6 H, rMA0_7 H, rMA0_8 H, rMA0_65 H, rMA0_66 H, rMA0_67 H, rMA0_68 H, rMA0_305 H, rMA0_1154 H, rMS0_0 H, rMS0_1 H, rMS0_2 H, rMS0_3 H, rMS0_4 H, rMS0_5 H, rMS0_6 H, rMS0_7 H, rMS0_8 H, rMS0_65 H, rMS0_66 H, rMS0_67 H, rMS0_68 H, rMS0_305 H, rMS0_1154 H, rMA7_0 H, rMS6_0 H, rMS6_1 H, rMS6_2 H, rMS6_3 H, rMS6_4 H, iN_add, iN_mul, iN_sub, iN_m1, iNp1, iNp2, iNp3, iNp4, iNp5, iNp6, iNp8, iNp12, iNp16, iNp20, iNp305, iNl1, iNl6, iNl9, iNl12, iNl41, iNl65, iNl305, iNl306, iNl354, iNl1154, iNl1155, iNl1203, iNm2, iNm4, iNm6, iNm8, iNm10, iNm12, iNm60, iNm305, iNs1, iNs4, iNs8, hm]
    exact Iff.rfl
  rw [gW_iff h0, if_neg h0]
  by_cases h0 : x = 1
  · rw [gW_ift h0, if_pos h0]
    simp (disch := omega) only [gW_B, gW_ret, gW_tr, gW_fa, rMi H, rMp H, rMc H, rMr0 H, rMr1 H, rMr2 H, rMr3 H, rMr4 H, rMr5 H, rMr6 H, rMr7 H, rMr8 H, rMr9 H, rMr10 H, rMr11 H, rMr12 H, rMr13 H, rMr14 H, rMa0 H, rMa1 H, rMa2 H, rMa3 H, rMa4 H, rMa5 H, rMa6 H, rMa7 H, rMa8 H, rMa9 H, rMa10 H, rMa11 H, rMa12 H, rMa13 H, rMa14 H, rMs0 H, rMs1 H, rMs2 H, rMs3 H, rMs4 H, rMs5 H, rMs6 H, rMs7 H, rMs8 H, rMs9 H, rMs10 H, rMs11 H, rMs12 H, rMs13 H, rMs14 H, rMA0_0 H, rMA0_1 H, rMA0_2 H, rMA0_3 H, rMA0_4 H, rMA0_5 H, rMA0_6 H, rMA0_7 H, rMA0_8 H, rMA0_65 H, rMA0_66 H, rMA0_67 H, rMA0_68 H, rMA0_305 H, rMA0_1154 H, rMS0_0 H, rMS0_1 H, rMS0_2 H, rMS0_3 H, rMS0_4 H, rMS0_5 H, rMS0_6 H, rMS0_7 H, rMS0_8 H, rMS0_65 H, rMS0_66 H, rMS0_67 H, rMS0_68 H, rMS0_305 H, rMS0_1154 H, rMA7_0 H, rMS6_0 H, rMS6_1 H, rMS6_2 H, rMS6_3 H, rMS6_4 H, iN_add, iN_mul, iN_sub, iN_m1, iNp1, iNp2, iNp3, iNp4, iNp5, iNp6, iNp8, iNp12, iNp16, iNp20, iNp305, iNl1, iNl6, iNl9, iNl12, iNl41, iNl65, iNl305, iNl306, iNl354, iNl1154, iNl1155, iNl1203, iNm2, iNm4, iNm6, iNm8, iNm10, iNm12, iNm60, iNm305, iNs1, iNs4, iNs8, hm, w_ofProp0 H, w_ofProp1 H, w_ofProp2 H, w_ofProp3 H]
    exact Iff.rfl
  rw [gW_iff h0, if_neg h0]
  by_cases h0 : x = 2
  · rw [gW_ift h0, if_pos h0]
    simp (disch := omega) only [gW_B, gW_ret, gW_tr, gW_fa, rMi H, rMp H, rMc H, rMr0 H, rMr1 H, rMr2 H, rMr3 H, rMr4 H, rMr5 H, rMr6 H, rMr7 H, rMr8 H, rMr9 H, rMr10 H, rMr11 H, rMr12 H, rMr13 H, rMr14 H, rMa0 H, rMa1 H, rMa2 H, rMa3 H, rMa4 H, rMa5 H, rMa6 H, rMa7 H, rMa8 H, rMa9 H, rMa10 H, rMa11 H, rMa12 H, rMa13 H, rMa14 H, rMs0 H, rMs1 H, rMs2 H, rMs3 H, rMs4 H, rMs5 H, rMs6 H, rMs7 H, rMs8 H, rMs9 H, rMs10 H, rMs11 H, rMs12 H, rMs13 H, rMs14 H, rMA0_0 H, rMA0_1 H, rMA0_2 H, rMA0_3 H, rMA0_4 H, rMA0_5 H, rMA0_6 H, rMA0_7 H, rMA0_8 H, rMA0_65 H, rMA0_66 H, rMA0_67 H, rMA0_68 H, rMA0_305 H, rMA0_1154 H, rMS0_0 H, rMS0_1 H, rMS0_2 H, rMS0_3 H, rMS0_4 H, rMS0_5 H, rMS0_6 H, rMS0_7 H, rMS0_8 H, rMS0_65 H, rMS0_66 H, rMS0_67 H, rMS0_68 H, rMS0_305 H, rMS0_1154 H, rMA7_0 H, rMS6_0 H, rMS6_1 H, rMS6_2 H, rMS6_3 H, rMS6_4 H, iN_add, iN_mul, iN_sub, iN_m1, iNp1, iNp2, iNp3, iNp4, iNp5, iNp6, iNp8, iNp12, iNp16, iNp20, iNp305, iNl1, iNl6, iNl9, iNl12, iNl41, iNl65, iNl305, iNl306, iNl354, iNl1154, iNl1155, iNl1203, iNm2, iNm4, iNm6, iNm8, iNm10, iNm12, iNm60, iNm305, iNs1, iNs4, iNs8, hm, w_ofProp0 H, w_ofProp1 H, w_ofProp2 H, w_ofProp3 H]
    exact Iff.rfl
  rw [gW_iff h0, if_neg h0]
  by_cases h0 : x = 3
  · rw [gW_ift h0, if_pos h0]
    simp (disch := omega) only [gW_B, gW_ret, gW_tr, gW_fa, rMi H, rMp H, rMc H, rMr0 H, rMr1 H, rMr2 H, rMr3 H, rMr4 H, rMr5 H, rMr6 H, rMr7 H, rMr8 H, rMr9 H, rMr10 H, rMr11 H, rMr12 H, rMr13 H, rMr14 H, rMa0 H, rMa1 H, rMa2 H, rMa3 H, rMa4 H, rMa5 H, rMa6 H, rMa7 H, rMa8 H, rMa9 H, rMa10 H, rMa11 H, rMa12 H, rMa13 H, rMa14 H, rMs0 H, rMs1 H, rMs2 H, rMs3 H, rMs4 H, rMs5 H, rMs6 H, rMs7 H, rMs8 H, rMs9 H, rMs10 H, rMs11 H, rMs12 H, rMs13 H, rMs14 H, rMA0_0 H, rMA0_1 H, rMA0_2 H, rMA0_3 H, rMA0_4 H, rMA0_5 H, rMA0_6 H, rMA0_7 H, rMA0_8 H, rMA0_65 H, rMA0_66 H, rMA0_67 H, rMA0_68 H, rMA0_305 H, rMA0_1154 H, rMS0_0 H, rMS0_1 H, rMS0_2 H, rMS0_3 H, rMS0_4 H, rMS0_5 H, rMS0_6 H, rMS0_7 H, rMS0_8 H, rMS0_65 H, rMS0_66 H, rMS0_67 H, rMS0_68 H, rMS0_305 H, rMS0_1154 H, rMA7_0 H, rMS6_0 H, rMS6_1 H, rMS6_2 H, rMS6_3 H, rMS6_4 H, iN_add, iN_mul, iN_sub, iN_m1, iNp1, iNp2, iNp3, iNp4, iNp5, iNp6, iNp8, iNp12, iNp16, iNp20, iNp305, iNl1, iNl6, iNl9, iNl12, iNl41, iNl65, iNl305, iNl306, iNl354, iNl1154, iNl1155, iNl1203, iNm2, iNm4, iNm6, iNm8, iNm10, iNm12, iNm60, iNm305, iNs1, iNs4, iNs8, hm, w_ofProp0 H, w_ofProp1 H, w_ofProp2 H, w_ofProp3 H]
    exact Iff.rfl
  rw [gW_iff h0, if_neg h0]
  by_cases h0 : x = 4
  · rw [gW_ift h0, if_pos h0]
    simp only [gW_B, gW_ret, gW_tr, gW_fa, rMi H, rMp H, rMc H, rMr0 H, rMr1 H, rMr2 H, rMr3 H, rMr4 H, rMr5 H, rMr6 H, rMr7 H, rMr8 H, rMr9 H, rMr10 H, rMr11 H, rMr12 H, rMr13 H, rMr14 H, rMa0 H, rMa1 H, rMa2 H, rMa3 H, rMa4 H, rMa5 H, rMa6 H, rMa7 H, rMa8 H, rMa9 H, rMa10 H, rMa11 H, rMa12 H, rMa13 H, rMa14 H, rMs0 H, rMs1 H, rMs2 H, rMs3 H, rMs4 H, rMs5 H, rMs6 H, rMs7 H, rMs8 H, rMs9 H, rMs10 H, rMs11 H, rMs12 H, rMs13 H, rMs14 H, rMA0_0 H, rMA0_1 H, rMA0_2 H, rMA0_3 H, rMA0_4 H, rMA0_5 H, rMA0_6 H, rMA0_7 H, rMA0_8 H, rMA0_65 H, rMA0_66 H, rMA0_67 H, rMA0_68 H, rMA0_305 H, rMA0_1154 H, rMS0_0 H, rMS0_1 H, rMS0_2 H, rMS0_3 H, rMS0_4 H, rMS0_5 H, rMS0_6 H, rMS0_7 H, rMS0_8 H, rMS0_65 H, rMS0_66 H, rMS0_67 H, rMS0_68 H, rMS0_305 H, rMS0_1154 H, rMA7_0 H, rMS6_0 H, rMS6_1 H, rMS6_2 H, rMS6_3 H, rMS6_4 H, iN_add, iN_mul, iN_sub, iN_m1, iNp1, iNp2, iNp3, iNp4, iNp5, iNp6, iNp8, iNp12, iNp16, iNp20, iNp305, iNl1, iNl6, iNl9, iNl12, iNl41, iNl65, iNl305, iNl306, iNl354, iNl1154, iNl1155, iNl1203, iNm2, iNm4, iNm6, iNm8, iNm10, iNm12, iNm60, iNm305, iNs1, iNs4, iNs8]
    exact Iff.rfl
  rw [gW_iff h0, if_neg h0]
  by_cases h0 : x = 5
  · rw [gW_ift h0, if_pos h0]
    simp only [gW_B, gW_ret, gW_tr, gW_fa, rMi H, rMp H, rMc H, rMr0 H, rMr1 H, rMr2 H, rMr3 H, rMr4 H, rMr5 H, rMr6 H, rMr7 H, rMr8 H, rMr9 H, rMr10 H, rMr11 H, rMr12 H, rMr13 H, rMr14 H, rMa0 H, rMa1 H, rMa2 H, rMa3 H, rMa4 H, rMa5 H, rMa6 H, rMa7 H, rMa8 H, rMa9 H, rMa10 H, rMa11 H, rMa12 H, rMa13 H, rMa14 H, rMs0 H, rMs1 H, rMs2 H, rMs3 H, rMs4 H, rMs5 H, rMs6 H, rMs7 H, rMs8 H, rMs9 H, rMs10 H, rMs11 H, rMs12 H, rMs13 H, rMs14 H, rMA0_0 H, rMA0_1 H, rMA0_2 H, rMA0_3 H, rMA0_4 H, rMA0_5 H, rMA0_6 H, rMA0_7 H, rMA0_8 H, rMA0_65 H, rMA0_66 H, rMA0_67 H, rMA0_68 H, rMA0_305 H, rMA0_1154 H, rMS0_0 H, rMS0_1 H, rMS0_2 H, rMS0_3 H, rMS0_4 H, rMS0_5 H, rMS0_6 H, rMS0_7 H, rMS0_8 H, rMS0_65 H, rMS0_66 H, rMS0_67 H, rMS0_68 H, rMS0_305 H, rMS0_1154 H, rMA7_0 H, rMS6_0 H, rMS6_1 H, rMS6_2 H, rMS6_3 H, rMS6_4 H, iN_add, iN_mul, iN_sub, iN_m1, iNp1, iNp2, iNp3, iNp4, iNp5, iNp6, iNp8, iNp12, iNp16, iNp20, iNp305, iNl1, iNl6, iNl9, iNl12, iNl41, iNl65, iNl305, iNl306, iNl354, iNl1154, iNl1155, iNl1203, iNm2, iNm4, iNm6, iNm8, iNm10, iNm12, iNm60, iNm305, iNs1, iNs4, iNs8]
    exact Iff.rfl
  rw [gW_iff h0, if_neg h0]
  by_cases h0 : x = 6
  · rw [gW_ift h0, if_pos h0]
    simp only [gW_B, gW_ret, gW_tr, gW_fa, rMi H, rMp H, rMc H, rMr0 H, rMr1 H, rMr2 H, rMr3 H, rMr4 H, rMr5 H, rMr6 H, rMr7 H, rMr8 H, rMr9 H, rMr10 H, rMr11 H, rMr12 H, rMr13 H, rMr14 H, rMa0 H, rMa1 H, rMa2 H, rMa3 H, rMa4 H, rMa5 H, rMa6 H, rMa7 H, rMa8 H, rMa9 H, rMa10 H, rMa11 H, rMa12 H, rMa13 H, rMa14 H, rMs0 H, rMs1 H, rMs2 H, rMs3 H, rMs4 H, rMs5 H, rMs6 H, rMs7 H, rMs8 H, rMs9 H, rMs10 H, rMs11 H, rMs12 H, rMs13 H, rMs14 H, rMA0_0 H, rMA0_1 H, rMA0_2 H, rMA0_3 H, rMA0_4 H, rMA0_5 H, rMA0_6 H, rMA0_7 H, rMA0_8 H, rMA0_65 H, rMA0_66 H, rMA0_67 H, rMA0_68 H, rMA0_305 H, rMA0_1154 H, rMS0_0 H, rMS0_1 H, rMS0_2 H, rMS0_3 H, rMS0_4 H, rMS0_5 H, rMS0_6 H, rMS0_7 H, rMS0_8 H, rMS0_65 H, rMS0_66 H, rMS0_67 H, rMS0_68 H, rMS0_305 H, rMS0_1154 H, rMA7_0 H, rMS6_0 H, rMS6_1 H, rMS6_2 H, rMS6_3 H, rMS6_4 H, iN_add, iN_mul, iN_sub, iN_m1, iNp1, iNp2, iNp3, iNp4, iNp5, iNp6, iNp8, iNp12, iNp16, iNp20, iNp305, iNl1, iNl6, iNl9, iNl12, iNl41, iNl65, iNl305, iNl306, iNl354, iNl1154, iNl1155, iNl1203, iNm2, iNm4, iNm6, iNm8, iNm10, iNm12, iNm60, iNm305, iNs1, iNs4, iNs8, hm, w_has, f_X8_factOf_112]
    show _ ↔ P (bI _) _
    by_cases h1 : (iv m 20 >>> (iN p &&& 31)) &&& 1 = 1
    · rw [gW_iff (by rw [bI_0]; exact fun q => q h1), bI_t h1, gW_ret]
    · rw [gW_ift (by rw [bI_0]; exact h1), bI_f h1, gW_ret]
  rw [gW_iff h0, if_neg h0]
  by_cases h0 : x = 7
  · rw [gW_ift h0, if_pos h0]
    simp (disch := omega) only [gW_B, gW_ret, gW_tr, gW_fa, rMi H, rMp H, rMc H, rMr0 H, rMr1 H, rMr2 H, rMr3 H, rMr4 H, rMr5 H, rMr6 H, rMr7 H, rMr8 H, rMr9 H, rMr10 H, rMr11 H, rMr12 H, rMr13 H, rMr14 H, rMa0 H, rMa1 H, rMa2 H, rMa3 H, rMa4 H, rMa5 H, rMa6 H, rMa7 H, rMa8 H, rMa9 H, rMa10 H, rMa11 H, rMa12 H, rMa13 H, rMa14 H, rMs0 H, rMs1 H, rMs2 H, rMs3 H, rMs4 H, rMs5 H, rMs6 H, rMs7 H, rMs8 H, rMs9 H, rMs10 H, rMs11 H, rMs12 H, rMs13 H, rMs14 H, rMA0_0 H, rMA0_1 H, rMA0_2 H, rMA0_3 H, rMA0_4 H, rMA0_5 H, rMA0_6 H, rMA0_7 H, rMA0_8 H, rMA0_65 H, rMA0_66 H, rMA0_67 H, rMA0_68 H, rMA0_305 H, rMA0_1154 H, rMS0_0 H, rMS0_1 H, rMS0_2 H, rMS0_3 H, rMS0_4 H, rMS0_5 H, rMS0_6 H, rMS0_7 H, rMS0_8 H, rMS0_65 H, rMS0_66 H, rMS0_67 H, rMS0_68 H, rMS0_305 H, rMS0_1154 H, rMA7_0 H, rMS6_0 H, rMS6_1 H, rMS6_2 H, rMS6_3 H, rMS6_4 H, iN_add, iN_mul, iN_sub, iN_m1, iNp1, iNp2, iNp3, iNp4, iNp5, iNp6, iNp8, iNp12, iNp16, iNp20, iNp305, iNl1, iNl6, iNl9, iNl12, iNl41, iNl65, iNl305, iNl306, iNl354, iNl1154, iNl1155, iNl1203, iNm2, iNm4, iNm6, iNm8, iNm10, iNm12, iNm60, iNm305, iNs1, iNs4, iNs8, hm, w_ofProp0 H, w_ofProp1 H, w_ofProp2 H, w_ofProp3 H, w_has, f_X8_factOf_137]
    show _ ↔ P (bI _) _
    by_cases h1 : (iv m 18 >>> (iv (m + 1) (9 + 4 * p + 0) &&& 31)) &&& 1 = 1
    · rw [gW_iff (by rw [bI_0]; exact fun q => q h1), bI_t h1, gW_ret]
    · rw [gW_ift (by rw [bI_0]; exact h1), bI_f h1, gW_ret]
  rw [gW_iff h0, if_neg h0]
  simp only [gW_B, gW_ret, gW_tr, gW_fa, rMi H, rMp H, rMc H, rMr0 H, rMr1 H, rMr2 H, rMr3 H, rMr4 H, rMr5 H, rMr6 H, rMr7 H, rMr8 H, rMr9 H, rMr10 H, rMr11 H, rMr12 H, rMr13 H, rMr14 H, rMa0 H, rMa1 H, rMa2 H, rMa3 H, rMa4 H, rMa5 H, rMa6 H, rMa7 H, rMa8 H, rMa9 H, rMa10 H, rMa11 H, rMa12 H, rMa13 H, rMa14 H, rMs0 H, rMs1 H, rMs2 H, rMs3 H, rMs4 H, rMs5 H, rMs6 H, rMs7 H, rMs8 H, rMs9 H, rMs10 H, rMs11 H, rMs12 H, rMs13 H, rMs14 H, rMA0_0 H, rMA0_1 H, rMA0_2 H, rMA0_3 H, rMA0_4 H, rMA0_5 H, rMA0_6 H, rMA0_7 H, rMA0_8 H, rMA0_65 H, rMA0_66 H, rMA0_67 H, rMA0_68 H, rMA0_305 H, rMA0_1154 H, rMS0_0 H, rMS0_1 H, rMS0_2 H, rMS0_3 H, rMS0_4 H, rMS0_5 H, rMS0_6 H, rMS0_7 H, rMS0_8 H, rMS0_65 H, rMS0_66 H, rMS0_67 H, rMS0_68 H, rMS0_305 H, rMS0_1154 H, rMA7_0 H, rMS6_0 H, rMS6_1 H, rMS6_2 H, rMS6_3 H, rMS6_4 H, iN_add, iN_mul, iN_sub, iN_m1, iNp1, iNp2, iNp3, iNp4, iNp5, iNp6, iNp8, iNp12, iNp16, iNp20, iNp305, iNl1, iNl6, iNl9, iNl12, iNl41, iNl65, iNl305, iNl306, iNl354, iNl1154, iNl1155, iNl1203, iNm2, iNm4, iNm6, iNm8, iNm10, iNm12, iNm60, iNm305, iNs1, iNs4, iNs8]
theorem g_u2_up {α : Type} (f : Nat → Nat → α) (a k : Nat) (g : Nat → α) (x : α) : g_u2 (va_up f a g) a k x = va_up f a (va_up g k x) := by
  funext b j
  by_cases hb : b = a
  · subst hb
    simp [g_u2, va_up]
  · simp [g_u2, va_up, hb]
theorem sJ1 (m : Nat) (st : Nat → Int32) : va_up iv (m + 8) st (m + 1) = iv (m + 1) := va_up_ne _ _ (by omega)
theorem sJ0 (m : Nat) (st : Nat → Int32) : va_up iv (m + 8) st m = iv m := va_up_ne _ _ (by omega)
theorem sJ8 (m : Nat) (st : Nat → Int32) : va_up iv (m + 8) st (m + 8) = st := va_up_self _ _ _
/-- the facts that the model looks at -/
abbrev mF (iv : gV) (m p : Nat) : Nat → Int32 := sF (iv (m + 1)) p (iv m 22) (iv m 18) (iv m 19) (iv m 20)
theorem w_holdsLine_20 (H : MS u m) {p : Nat} (hp : p < 8) (hm : iv m 21 = iN p) {line e : Nat} (hl : line < 12) (he : iv (m + 1) (306 + 4 * line + 3) = iN e) (he4 : e ≤ 400) {P : Int32 → g_H → Prop} :
    ∀ (k i n : Nat) (q : gQs), i + k = e → k < n → sRok (iv (m + 1)) (mF iv m p) k i q → q.1 ≤ 400 → (gW (f_X8_holdsLine_20 n m (iN q.1) (iN (306 + 4 * line)) (iN i)) (va_up iv (m + 8) q.2, u) P ↔ P (bI ((sRun (iv (m + 1)) (mF iv m p) k i q).1 = 0 ∨ (sRun (iv (m + 1)) (mF iv m p) k i q).2 0 = 1)) (va_up iv (m + 8) (sRun (iv (m + 1)) (mF iv m p) k i q).2, u)) := by
  intro k
  induction k with
  | zero =>
    intro i n q h1 h2 hok hq
    obtain ⟨n, rfl⟩ : ∃ n', n = n' + 1 := ⟨n - 1, by omega⟩
    rw [f_X8_holdsLine_20, sRun]
    have hc : iN e ≤ iN i := by rw [iN_le (by omega) (by omega)]; omega
    simp (disch := omega) only [gW_B, gW_ret, gW_tr, gW_fa, rMi H, rMp H, rMc H, rMr0 H, rMr1 H, rMr2 H, rMr3 H, rMr4 H, rMr5 H, rMr6 H, rMr7 H, rMr8 H, rMr9 H, rMr10 H, rMr11 H, rMr12 H, rMr13 H, rMr14 H, rMa0 H, rMa1 H, rMa2 H, rMa3 H, rMa4 H, rMa5 H, rMa6 H, rMa7 H, rMa8 H, rMa9 H, rMa10 H, rMa11 H, rMa12 H, rMa13 H, rMa14 H, rMs0 H, rMs1 H, rMs2 H, rMs3 H, rMs4 H, rMs5 H, rMs6 H, rMs7 H, rMs8 H, rMs9 H, rMs10 H, rMs11 H, rMs12 H, rMs13 H, rMs14 H, rMA0_0 H, rMA0_1 H, rMA0_2 H, rMA0_3 H, rMA0_4 H, rMA0_5 H, rMA0_6 H, rMA0_7 H, rMA0_8 H, rMA0_65 H, rMA0_66 H, rMA0_67 H, rMA0_68 H, rMA0_305 H, rMA0_1154 H, rMS0_0 H, rMS0_1 H, rMS0_2 H, rMS0_3 H, rMS0_4 H, rMS0_5 H, rMS0_6 H, rMS0_7 H, rMS0_8 H, rMS0_65 H, rMS0_66 H, rMS0_67 H, rMS0_68 H, rMS0_305 H, rMS0_1154 H, rMA7_0 H, rMS6_0 H, rMS6_1 H, rMS6_2 H, rMS6_3 H, rMS6_4 H, iN_add, iN_mul, iN_sub, iN_m1, iNp1, iNp2, iNp3, iNp4, iNp5, iNp6, iNp8, iNp12, iNp16, iNp20, iNp305, iNl1, iNl6, iNl9, iNl12, iNl41, iNl65, iNl305, iNl306, iNl354, iNl1154, iNl1155, iNl1203, iNm2, iNm4, iNm6, iNm8, iNm10, iNm12, iNm60, iNm305, iNs1, iNs4, iNs8, sJ1, he, gW_ift hc]
    unfold f_X8_holdsLine_259 f_X8_holdsLine_273 f_X8_holdsLine_278
    by_cases h0 : q.1 = 0
    · rw [gW_ift (by rw [h0]; rfl), bI_t (Or.inl h0)]
      simp [gW_B, gW_gd, gW_ret]
    · rw [gW_iff (by rw [show (0 : Int32) = iN 0 from rfl, iN_eq (by omega) (by omega)]; exact h0)]
      simp (disch := omega) only [gW_B, gW_ret, gW_tr, gW_fa, rMi H, rMp H, rMc H, rMr0 H, rMr1 H, rMr2 H, rMr3 H, rMr4 H, rMr5 H, rMr6 H, rMr7 H, rMr8 H, rMr9 H, rMr10 H, rMr11 H, rMr12 H, rMr13 H, rMr14 H, rMa0 H, rMa1 H, rMa2 H, rMa3 H, rMa4 H, rMa5 H, rMa6 H, rMa7 H, rMa8 H, rMa9 H, rMa10 H, rMa11 H, rMa12 H, rMa13 H, rMa14 H, rMs0 H, rMs1 H, rMs2 H, rMs3 H, rMs4 H, rMs5 H, rMs6 H, rMs7 H, rMs8 H, rMs9 H, rMs10 H, rMs11 H, rMs12 H, rMs13 H, rMs14 H, rMA0_0 H, rMA0_1 H, rMA0_2 H, rMA0_3 H, rMA0_4 H, rMA0_5 H, rMA0_6 H, rMA0_7 H, rMA0_8 H, rMA0_65 H, rMA0_66 H, rMA0_67 H, rMA0_68 H, rMA0_305 H, rMA0_1154 H, rMS0_0 H, rMS0_1 H, rMS0_2 H, rMS0_3 H, rMS0_4 H, rMS0_5 H, rMS0_6 H, rMS0_7 H, rMS0_8 H, rMS0_65 H, rMS0_66 H, rMS0_67 H, rMS0_68 H, rMS0_305 H, rMS0_1154 H, rMA7_0 H, rMS6_0 H, rMS6_1 H, rMS6_2 H, rMS6_3 H, rMS6_4 H, iN_add, iN_mul, iN_sub, iN_m1, iNp1, iNp2, iNp3, iNp4, iNp5, iNp6, iNp8, iNp12, iNp16, iNp20, iNp305, iNl1, iNl6, iNl9, iNl12, iNl41, iNl65, iNl305, iNl306, iNl354, iNl1154, iNl1155, iNl1203, iNm2, iNm4, iNm6, iNm8, iNm10, iNm12, iNm60, iNm305, iNs1, iNs4, iNs8, sJ8]
      by_cases h3 : q.2 0 = 1
      · rw [gW_ift h3, bI_t (Or.inr h3)]
        simp [gW_B, gW_gd, gW_ret]
      · rw [gW_iff h3, bI_f (fun z => z.elim h0 h3)]
        simp [gW_B, gW_gd, gW_ret]
  | succ k ih =>
    intro i n q h1 h2 hok hq
    obtain ⟨n, rfl⟩ : ∃ n', n = n' + 1 := ⟨n - 1, by omega⟩
    rw [f_X8_holdsLine_20, sRun]
    obtain ⟨ho1, ho2⟩ := hok
    have hc : ¬ iN e ≤ iN i := by rw [iN_le (by omega) (by omega)]; omega
    simp (disch := omega) only [gW_B, gW_ret, gW_tr, gW_fa, rMi H, rMp H, rMc H, rMr0 H, rMr1 H, rMr2 H, rMr3 H, rMr4 H, rMr5 H, rMr6 H, rMr7 H, rMr8 H, rMr9 H, rMr10 H, rMr11 H, rMr12 H, rMr13 H, rMr14 H, rMa0 H, rMa1 H, rMa2 H, rMa3 H, rMa4 H, rMa5 H, rMa6 H, rMa7 H, rMa8 H, rMa9 H, rMa10 H, rMa11 H, rMa12 H, rMa13 H, rMa14 H, rMs0 H, rMs1 H, rMs2 H, rMs3 H, rMs4 H, rMs5 H, rMs6 H, rMs7 H, rMs8 H, rMs9 H, rMs10 H, rMs11 H, rMs12 H, rMs13 H, rMs14 H, rMA0_0 H, rMA0_1 H, rMA0_2 H, rMA0_3 H, rMA0_4 H, rMA0_5 H, rMA0_6 H, rMA0_7 H, rMA0_8 H, rMA0_65 H, rMA0_66 H, rMA0_67 H, rMA0_68 H, rMA0_305 H, rMA0_1154 H, rMS0_0 H, rMS0_1 H, rMS0_2 H, rMS0_3 H, rMS0_4 H, rMS0_5 H, rMS0_6 H, rMS0_7 H, rMS0_8 H, rMS0_65 H, rMS0_66 H, rMS0_67 H, rMS0_68 H, rMS0_305 H, rMS0_1154 H, rMA7_0 H, rMS6_0 H, rMS6_1 H, rMS6_2 H, rMS6_3 H, rMS6_4 H, iN_add, iN_mul, iN_sub, iN_m1, iNp1, iNp2, iNp3, iNp4, iNp5, iNp6, iNp8, iNp12, iNp16, iNp20, iNp305, iNl1, iNl6, iNl9, iNl12, iNl41, iNl65, iNl305, iNl306, iNl354, iNl1154, iNl1155, iNl1203, iNm2, iNm4, iNm6, iNm8, iNm10, iNm12, iNm60, iNm305, iNs1, iNs4, iNs8, sJ1, he, gW_iff hc]
    unfold sOk1 at ho1
    by_cases h8 : 8 < iv (m + 1) (354 + 2 * i)
    · rw [gW_ift h8]
      rw [if_pos h8] at ho1
      by_cases h12 : iv (m + 1) (354 + 2 * i) = 12
      · rw [if_pos h12] at ho1
        have hst : sStp (mF iv m p) (iv (m + 1) (354 + 2 * i)) (iv (m + 1) (354 + 2 * i + 1)) q = (q.1, va_up q.2 (q.1 - 1) (1 - q.2 (q.1 - 1))) := by
          unfold sStp
          rw [if_pos h8, if_pos h12]
        rw [hst] at ho2 ⊢
        rw [gW_ift h12]
        simp (disch := omega) only [gW_B, gW_ret, gW_tr, gW_fa, rMi H, rMp H, rMc H, rMr0 H, rMr1 H, rMr2 H, rMr3 H, rMr4 H, rMr5 H, rMr6 H, rMr7 H, rMr8 H, rMr9 H, rMr10 H, rMr11 H, rMr12 H, rMr13 H, rMr14 H, rMa0 H, rMa1 H, rMa2 H, rMa3 H, rMa4 H, rMa5 H, rMa6 H, rMa7 H, rMa8 H, rMa9 H, rMa10 H, rMa11 H, rMa12 H, rMa13 H, rMa14 H, rMs0 H, rMs1 H, rMs2 H, rMs3 H, rMs4 H, rMs5 H, rMs6 H, rMs7 H, rMs8 H, rMs9 H, rMs10 H, rMs11 H, rMs12 H, rMs13 H, rMs14 H, rMA0_0 H, rMA0_1 H, rMA0_2 H, rMA0_3 H, rMA0_4 H, rMA0_5 H, rMA0_6 H, rMA0_7 H, rMA0_8 H, rMA0_65 H, rMA0_66 H, rMA0_67 H, rMA0_68 H, rMA0_305 H, rMA0_1154 H, rMS0_0 H, rMS0_1 H, rMS0_2 H, rMS0_3 H, rMS0_4 H, rMS0_5 H, rMS0_6 H, rMS0_7 H, rMS0_8 H, rMS0_65 H, rMS0_66 H, rMS0_67 H, rMS0_68 H, rMS0_305 H, rMS0_1154 H, rMA7_0 H, rMS6_0 H, rMS6_1 H, rMS6_2 H, rMS6_3 H, rMS6_4 H, iN_add, iN_mul, iN_sub, iN_m1, iNp1, iNp2, iNp3, iNp4, iNp5, iNp6, iNp8, iNp12, iNp16, iNp20, iNp305, iNl1, iNl6, iNl9, iNl12, iNl41, iNl65, iNl305, iNl306, iNl354, iNl1154, iNl1155, iNl1203, iNm2, iNm4, iNm6, iNm8, iNm10, iNm12, iNm60, iNm305, iNs1, iNs4, iNs8, sJ8, g_u2_up, f_X8_holdsLine_253]
        exact ih (i + 1) n _ (by omega) (by omega) ho2 (by show q.1 ≤ 400; omega)
      · rw [if_neg h12] at ho1
        have hst : sStp (mF iv m p) (iv (m + 1) (354 + 2 * i)) (iv (m + 1) (354 + 2 * i + 1)) q = (q.1 - 1, va_up q.2 (q.1 - 2) (sBin (iv (m + 1) (354 + 2 * i)) (q.2 (q.1 - 2)) (q.2 (q.1 - 1)))) := by
          unfold sStp
          rw [if_pos h8, if_neg h12]
        rw [hst] at ho2 ⊢
        have hih := ih (i + 1) n _ (by omega) (by omega) ho2 (show q.1 - 1 ≤ 400 by omega)
        rw [gW_iff h12]
        have e2 : iN (q.1 - 1) - 1 = iN (q.1 - 2) := by rw [show (1 : Int32) = iN 1 from rfl, iN_sub (by omega)]; congr 1
        have e1 : iN i + 1 = iN (i + 1) := by rw [show (1 : Int32) = iN 1 from rfl, iN_add]
        simp (disch := omega) only [gW_B, gW_ret, gW_tr, gW_fa, rMi H, rMp H, rMc H, rMr0 H, rMr1 H, rMr2 H, rMr3 H, rMr4 H, rMr5 H, rMr6 H, rMr7 H, rMr8 H, rMr9 H, rMr10 H, rMr11 H, rMr12 H, rMr13 H, rMr14 H, rMa0 H, rMa1 H, rMa2 H, rMa3 H, rMa4 H, rMa5 H, rMa6 H, rMa7 H, rMa8 H, rMa9 H, rMa10 H, rMa11 H, rMa12 H, rMa13 H, rMa14 H, rMs0 H, rMs1 H, rMs2 H, rMs3 H, rMs4 H, rMs5 H, rMs6 H, rMs7 H, rMs8 H, rMs9 H, rMs10 H, rMs11 H, rMs12 H, rMs13 H, rMs14 H, rMA0_0 H, rMA0_1 H, rMA0_2 H, rMA0_3 H, rMA0_4 H, rMA0_5 H, rMA0_6 H, rMA0_7 H, rMA0_8 H, rMA0_65 H, rMA0_66 H, rMA0_67 H, rMA0_68 H, rMA0_305 H, rMA0_1154 H, rMS0_0 H, rMS0_1 H, rMS0_2 H, rMS0_3 H, rMS0_4 H, rMS0_5 H, rMS0_6 H, rMS0_7 H, rMS0_8 H, rMS0_65 H, rMS0_66 H, rMS0_67 H, rMS0_68 H, rMS0_305 H, rMS0_1154 H, rMA7_0 H, rMS6_0 H, rMS6_1 H, rMS6_2 H, rMS6_3 H, rMS6_4 H, iN_add, iN_mul, iN_sub, iN_m1, iNp1, iNp2, iNp3, iNp4, iNp5, iNp6, iNp8, iNp12, iNp16, iNp20, iNp305, iNl1, iNl6, iNl9, iNl12, iNl41, iNl65, iNl305, iNl306, iNl354, iNl1154, iNl1155, iNl1203, iNm2, iNm4, iNm6, iNm8, iNm10, iNm12, iNm60, iNm305, iNs1, iNs4, iNs8, e2, sJ8]
        have hfin : ∀ (x : Int32), (x = 0 ∨ x = 1) → (iv (m + 1) (354 + 2 * i) ≠ 9 → x = sBin (iv (m + 1) (354 + 2 * i)) (q.2 (q.1 - 2)) (q.2 (q.1 - 1))) → (gW (f_X8_holdsLine_218 (f_X8_holdsLine_20 n) m (iN (q.1 - 1)) (iN (306 + 4 * line)) (iN i) (iv (m + 1) (354 + 2 * i)) (q.2 (q.1 - 2)) (q.2 (q.1 - 1)) x) (va_up iv (m + 8) q.2, u) P ↔ gW (f_X8_holdsLine_20 n m (iN (q.1 - 1)) (iN (306 + 4 * line)) (iN (i + 1))) (va_up iv (m + 8) (va_up q.2 (q.1 - 2) (sBin (iv (m + 1) (354 + 2 * i)) (q.2 (q.1 - 2)) (q.2 (q.1 - 1)))), u) P) := by
          intro x hx1 hx2
          unfold f_X8_holdsLine_218 f_X8_holdsLine_252 f_X8_holdsLine_253
          simp (disch := omega) only [gW_B, gW_ret, gW_tr, gW_fa, rMi H, rMp H, rMc H, rMr0 H, rMr1 H, rMr2 H, rMr3 H, rMr4 H, rMr5 H, rMr6 H, rMr7 H, rMr8 H, rMr9 H, rMr10 H, rMr11 H, rMr12 H, rMr13 H, rMr14 H, rMa0 H, rMa1 H, rMa2 H, rMa3 H, rMa4 H, rMa5 H, rMa6 H, rMa7 H, rMa8 H, rMa9 H, rMa10 H, rMa11 H, rMa12 H, rMa13 H, rMa14 H, rMs0 H, rMs1 H, rMs2 H, rMs3 H, rMs4 H, rMs5 H, rMs6 H, rMs7 H, rMs8 H, rMs9 H, rMs10 H, rMs11 H, rMs12 H, rMs13 H, rMs14 H, rMA0_0 H, rMA0_1 H, rMA0_2 H, rMA0_3 H, rMA0_4 H, rMA0_5 H, rMA0_6 H, rMA0_7 H, rMA0_8 H, rMA0_65 H, rMA0_66 H, rMA0_67 H, rMA0_68 H, rMA0_305 H, rMA0_1154 H, rMS0_0 H, rMS0_1 H, rMS0_2 H, rMS0_3 H, rMS0_4 H, rMS0_5 H, rMS0_6 H, rMS0_7 H, rMS0_8 H, rMS0_65 H, rMS0_66 H, rMS0_67 H, rMS0_68 H, rMS0_305 H, rMS0_1154 H, rMA7_0 H, rMS6_0 H, rMS6_1 H, rMS6_2 H, rMS6_3 H, rMS6_4 H, iN_add, iN_mul, iN_sub, iN_m1, iNp1, iNp2, iNp3, iNp4, iNp5, iNp6, iNp8, iNp12, iNp16, iNp20, iNp305, iNl1, iNl6, iNl9, iNl12, iNl41, iNl65, iNl305, iNl306, iNl354, iNl1154, iNl1155, iNl1203, iNm2, iNm4, iNm6, iNm8, iNm10, iNm12, iNm60, iNm305, iNs1, iNs4, iNs8, e2, e1, sJ8]
          by_cases h9 : iv (m + 1) (354 + 2 * i) = 9
          · rw [gW_ift h9]
            simp (disch := omega) only [gW_B, gW_ret, gW_tr, gW_fa, rMi H, rMp H, rMc H, rMr0 H, rMr1 H, rMr2 H, rMr3 H, rMr4 H, rMr5 H, rMr6 H, rMr7 H, rMr8 H, rMr9 H, rMr10 H, rMr11 H, rMr12 H, rMr13 H, rMr14 H, rMa0 H, rMa1 H, rMa2 H, rMa3 H, rMa4 H, rMa5 H, rMa6 H, rMa7 H, rMa8 H, rMa9 H, rMa10 H, rMa11 H, rMa12 H, rMa13 H, rMa14 H, rMs0 H, rMs1 H, rMs2 H, rMs3 H, rMs4 H, rMs5 H, rMs6 H, rMs7 H, rMs8 H, rMs9 H, rMs10 H, rMs11 H, rMs12 H, rMs13 H, rMs14 H, rMA0_0 H, rMA0_1 H, rMA0_2 H, rMA0_3 H, rMA0_4 H, rMA0_5 H, rMA0_6 H, rMA0_7 H, rMA0_8 H, rMA0_65 H, rMA0_66 H, rMA0_67 H, rMA0_68 H, rMA0_305 H, rMA0_1154 H, rMS0_0 H, rMS0_1 H, rMS0_2 H, rMS0_3 H, rMS0_4 H, rMS0_5 H, rMS0_6 H, rMS0_7 H, rMS0_8 H, rMS0_65 H, rMS0_66 H, rMS0_67 H, rMS0_68 H, rMS0_305 H, rMS0_1154 H, rMA7_0 H, rMS6_0 H, rMS6_1 H, rMS6_2 H, rMS6_3 H, rMS6_4 H, iN_add, iN_mul, iN_sub, iN_m1, iNp1, iNp2, iNp3, iNp4, iNp5, iNp6, iNp8, iNp12, iNp16, iNp20, iNp305, iNl1, iNl6, iNl9, iNl12, iNl41, iNl65, iNl305, iNl306, iNl354, iNl1154, iNl1155, iNl1203, iNm2, iNm4, iNm6, iNm8, iNm10, iNm12, iNm60, iNm305, iNs1, iNs4, iNs8, g_u2_up]
            have : sBin (iv (m + 1) (354 + 2 * i)) (q.2 (q.1 - 2)) (q.2 (q.1 - 1)) = q.2 (q.1 - 2) + q.2 (q.1 - 1) := if_pos h9
            rw [this]
          · rw [gW_iff h9, ← hx2 h9]
            rcases hx1 with rfl | rfl
            · rw [gW_ift rfl]
              simp (disch := omega) only [gW_B, gW_ret, gW_tr, gW_fa, rMi H, rMp H, rMc H, rMr0 H, rMr1 H, rMr2 H, rMr3 H, rMr4 H, rMr5 H, rMr6 H, rMr7 H, rMr8 H, rMr9 H, rMr10 H, rMr11 H, rMr12 H, rMr13 H, rMr14 H, rMa0 H, rMa1 H, rMa2 H, rMa3 H, rMa4 H, rMa5 H, rMa6 H, rMa7 H, rMa8 H, rMa9 H, rMa10 H, rMa11 H, rMa12 H, rMa13 H, rMa14 H, rMs0 H, rMs1 H, rMs2 H, rMs3 H, rMs4 H, rMs5 H, rMs6 H, rMs7 H, rMs8 H, rMs9 H, rMs10 H, rMs11 H, rMs12 H, rMs13 H, rMs14 H, rMA0_0 H, rMA0_1 H, rMA0_2 H, rMA0_3 H, rMA0_4 H, rMA0_5 H, rMA0_6 H, rMA0_7 H, rMA0_8 H, rMA0_65 H, rMA0_66 H, rMA0_67 H, rMA0_68 H, rMA0_305 H, rMA0_1154 H, rMS0_0 H, rMS0_1 H, rMS0_2 H, rMS0_3 H, rMS0_4 H, rMS0_5 H, rMS0_6 H, rMS0_7 H, rMS0_8 H, rMS0_65 H, rMS0_66 H, rMS0_67 H, rMS0_68 H, rMS0_305 H, rMS0_1154 H, rMA7_0 H, rMS6_0 H, rMS6_1 H, rMS6_2 H, rMS6_3 H, rMS6_4 H, iN_add, iN_mul, iN_sub, iN_m1, iNp1, iNp2, iNp3, iNp4, iNp5, iNp6, iNp8, iNp12, iNp16, iNp20, iNp305, iNl1, iNl6, iNl9, iNl12, iNl41, iNl65, iNl305, iNl306, iNl354, iNl1154, iNl1155, iNl1203, iNm2, iNm4, iNm6, iNm8, iNm10, iNm12, iNm60, iNm305, iNs1, iNs4, iNs8, g_u2_up]
            · rw [gW_iff (by decide)]
              simp (disch := omega) only [gW_B, gW_ret, gW_tr, gW_fa, rMi H, rMp H, rMc H, rMr0 H, rMr1 H, rMr2 H, rMr3 H, rMr4 H, rMr5 H, rMr6 H, rMr7 H, rMr8 H, rMr9 H, rMr10 H, rMr11 H, rMr12 H, rMr13 H, rMr14 H, rMa0 H, rMa1 H, rMa2 H, rMa3 H, rMa4 H, rMa5 H, rMa6 H, rMa7 H, rMa8 H, rMa9 H, rMa10 H, rMa11 H, rMa12 H, rMa13 H, rMa14 H, rMs0 H, rMs1 H, rMs2 H, rMs3 H, rMs4 H, rMs5 H, rMs6 H, rMs7 H, rMs8 H, rMs9 H, rMs10 H, rMs11 H, rMs12 H, rMs13 H, rMs14 H, rMA0_0 H, rMA0_1 H, rMA0_2 H, rMA0_3 H, rMA0_4 H, rMA0_5 H, rMA0_6 H, rMA0_7 H, rMA0_8 H, rMA0_65 H, rMA0_66 H, rMA0_67 H, rMA0_68 H, rMA0_305 H, rMA0_1154 H, rMS0_0 H, rMS0_1 H, rMS0_2 H, rMS0_3 H, rMS0_4 H, rMS0_5 H, rMS0_6 H, rMS0_7 H, rMS0_8 H, rMS0_65 H, rMS0_66 H, rMS0_67 H, rMS0_68 H, rMS0_305 H, rMS0_1154 H, rMA7_0 H, rMS6_0 H, rMS6_1 H, rMS6_2 H, rMS6_3 H, rMS6_4 H, iN_add, iN_mul, iN_sub, iN_m1, iNp1, iNp2, iNp3, iNp4, iNp5, iNp6, iNp8, iNp12, iNp16, iNp20, iNp305, iNl1, iNl6, iNl9, iNl12, iNl41, iNl65, iNl305, iNl306, iNl354, iNl1154, iNl1155, iNl1203, iNm2, iNm4, iNm6, iNm8, iNm10, iNm12, iNm60, iNm305, iNs1, iNs4, iNs8, g_u2_up]
        rw [← hih]
        by_cases h10 : iv (m + 1) (354 + 2 * i) = 10
        · rw [gW_ift h10]
          have hb : sBin (iv (m + 1) (354 + 2 * i)) (q.2 (q.1 - 2)) (q.2 (q.1 - 1)) = bI (q.2 (q.1 - 2) < q.2 (q.1 - 1)) := by
            unfold sBin
            rw [if_neg (by rw [h10]; decide), if_pos h10]
          by_cases hh : q.2 (q.1 - 1) ≤ q.2 (q.1 - 2)
          · rw [gW_ift hh]
            exact hfin 0 (Or.inl rfl) (fun _ => by rw [hb, bI_f (Int32.not_lt.mpr hh)])
          · rw [gW_iff hh]
            exact hfin 1 (Or.inr rfl) (fun _ => by rw [hb, bI_t (Int32.not_le.mp hh)])
        · rw [gW_iff h10]
          by_cases h11 : iv (m + 1) (354 + 2 * i) = 11
          · rw [gW_ift h11]
            have hb : sBin (iv (m + 1) (354 + 2 * i)) (q.2 (q.1 - 2)) (q.2 (q.1 - 1)) = bI (q.2 (q.1 - 1) < q.2 (q.1 - 2)) := by
              unfold sBin
              rw [if_neg (by rw [h11]; decide), if_neg h10, if_pos h11]
            by_cases hh : q.2 (q.1 - 2) ≤ q.2 (q.1 - 1)
            · rw [gW_ift hh]
              exact hfin 0 (Or.inl rfl) (fun _ => by rw [hb, bI_f (Int32.not_lt.mpr hh)])
            · rw [gW_iff hh]
              exact hfin 1 (Or.inr rfl) (fun _ => by rw [hb, bI_t (Int32.not_le.mp hh)])
          · rw [gW_iff h11]
            by_cases h13 : iv (m + 1) (354 + 2 * i) = 13
            · rw [gW_ift h13]
              have hb : sBin (iv (m + 1) (354 + 2 * i)) (q.2 (q.1 - 2)) (q.2 (q.1 - 1)) = bI (q.2 (q.1 - 2) + q.2 (q.1 - 1) = 2) := by
                unfold sBin
                rw [if_neg (by rw [h13]; decide), if_neg h10, if_neg h11, if_pos h13]
              by_cases hh : q.2 (q.1 - 2) + q.2 (q.1 - 1) = 2
              · rw [gW_ift hh]
                exact hfin 1 (Or.inr rfl) (fun _ => by rw [hb, bI_t hh])
              · rw [gW_iff hh]
                exact hfin 0 (Or.inl rfl) (fun _ => by rw [hb, bI_f hh])
            · rw [gW_iff h13]
              by_cases hh : q.2 (q.1 - 2) + q.2 (q.1 - 1) ≤ 0
              · rw [gW_ift hh]
                refine hfin 0 (Or.inl rfl) (fun h9 => ?_)
                unfold sBin
                rw [if_neg h9, if_neg h10, if_neg h11, if_neg h13, bI_f (Int32.not_lt.mpr hh)]
              · rw [gW_iff hh]
                refine hfin 1 (Or.inr rfl) (fun h9 => ?_)
                unfold sBin
                rw [if_neg h9, if_neg h10, if_neg h11, if_neg h13, bI_t (Int32.not_le.mp hh)]
    · rw [gW_iff h8]
      rw [if_neg h8] at ho1
      have hst : sStp (mF iv m p) (iv (m + 1) (354 + 2 * i)) (iv (m + 1) (354 + 2 * i + 1)) q = (q.1 + 1, va_up q.2 q.1 (sFact (mF iv m p) (iv (m + 1) (354 + 2 * i)) (iv (m + 1) (354 + 2 * i + 1)))) := by
        unfold sStp
        rw [if_neg h8]
      rw [hst] at ho2 ⊢
      have hm2 : va_up iv (m + 8) q.2 m 21 = iN p := by rw [sJ0]; exact hm
      simp (disch := omega) only [gW_B, gW_ret, gW_tr, gW_fa, rMi H, rMp H, rMc H, rMr0 H, rMr1 H, rMr2 H, rMr3 H, rMr4 H, rMr5 H, rMr6 H, rMr7 H, rMr8 H, rMr9 H, rMr10 H, rMr11 H, rMr12 H, rMr13 H, rMr14 H, rMa0 H, rMa1 H, rMa2 H, rMa3 H, rMa4 H, rMa5 H, rMa6 H, rMa7 H, rMa8 H, rMa9 H, rMa10 H, rMa11 H, rMa12 H, rMa13 H, rMa14 H, rMs0 H, rMs1 H, rMs2 H, rMs3 H, rMs4 H, rMs5 H, rMs6 H, rMs7 H, rMs8 H, rMs9 H, rMs10 H, rMs11 H, rMs12 H, rMs13 H, rMs14 H, rMA0_0 H, rMA0_1 H, rMA0_2 H, rMA0_3 H, rMA0_4 H, rMA0_5 H, rMA0_6 H, rMA0_7 H, rMA0_8 H, rMA0_65 H, rMA0_66 H, rMA0_67 H, rMA0_68 H, rMA0_305 H, rMA0_1154 H, rMS0_0 H, rMS0_1 H, rMS0_2 H, rMS0_3 H, rMS0_4 H, rMS0_5 H, rMS0_6 H, rMS0_7 H, rMS0_8 H, rMS0_65 H, rMS0_66 H, rMS0_67 H, rMS0_68 H, rMS0_305 H, rMS0_1154 H, rMA7_0 H, rMS6_0 H, rMS6_1 H, rMS6_2 H, rMS6_3 H, rMS6_4 H, iN_add, iN_mul, iN_sub, iN_m1, iNp1, iNp2, iNp3, iNp4, iNp5, iNp6, iNp8, iNp12, iNp16, iNp20, iNp305, iNl1, iNl6, iNl9, iNl12, iNl41, iNl65, iNl305, iNl306, iNl354, iNl1154, iNl1155, iNl1203, iNm2, iNm4, iNm6, iNm8, iNm10, iNm12, iNm60, iNm305, iNs1, iNs4, iNs8, sJ1, w_factOf H hp hm2, sJ0, g_u2_up, f_X8_holdsLine_253]
      exact ih (i + 1) n _ (by omega) (by omega) ho2 (by show q.1 + 1 ≤ 400; omega)
def okF (F : Nat → Int32) : Prop := (F 6 = 0 ∨ F 6 = 1) ∧ (F 7 = 0 ∨ F 7 = 1)
theorem sF_ok {W : Nat → Int32} {p : Nat} {t d n k : Int32} : okF (sF W p t d n k) := ⟨bI_o, bI_o⟩
/-- a law as the model keeps it: how many lines, of what kind, by how much, on what condition -/
def mL (W : Nat → Int32) (lm : Nat) (K N : Nat → Int32) (C : Nat → (Nat → Int32) → Bool) : Prop := (W 3 = 0 ∧ lm = 0) ∨ (W 3 = 1 ∧ W 305 = iN lm ∧ lm ≤ 12 ∧ ∀ n : Nat, n < lm → W (306 + 4 * n) = K n ∧ W (306 + 4 * n + 1) = N n ∧ ∃ b e : Nat, W (306 + 4 * n + 2) = iN b ∧ W (306 + 4 * n + 3) = iN e ∧ b ≤ e ∧ e ≤ 400 ∧ ∀ (F st : Nat → Int32), okF F → sRok W F (e - b) b (0, st) ∧ (((sRun W F (e - b) b (0, st)).1 = 0 ∨ (sRun W F (e - b) b (0, st)).2 0 = 1) ↔ C n F = true))
def sSum (K N : Nat → Int32) (C : Nat → (Nat → Int32) → Bool) (F : Nat → Int32) (kd : Int32) : Nat → Int32
  | 0 => 0
  | n + 1 => if K n = kd ∧ C n F = true then sSum K N C F kd n + N n else sSum K N C F kd n
theorem va_up_id (iv : gV) (a : Nat) : va_up iv a (iv a) = iv := by
  funext b
  by_cases h : b = a
  · subst h; exact va_up_self _ _ _
  · exact va_up_ne _ _ h
theorem va_up_up {α : Type} (f : Nat → α) (a : Nat) (x y : α) : va_up (va_up f a x) a y = va_up f a y := by
  funext b
  by_cases h : b = a
  · subst h; rw [va_up_self, va_up_self]
  · rw [va_up_ne _ _ h, va_up_ne _ _ h, va_up_ne _ _ h]
theorem w_holdsLine (H : MS u m) {p : Nat} (hp : p < 8) (hm : iv m 21 = iN p) {lm : Nat} {K N : Nat → Int32} {C : Nat → (Nat → Int32) → Bool} (hL : mL (iv (m + 1)) lm K N C) {n : Nat} (hn : n < lm) {P : Int32 → g_H → Prop} (hP : ∀ st, P (bI (C n (mF iv m p) = true)) (va_up iv (m + 8) st, u)) : gW (f_X8_holdsLine m (iN n)) (iv, u) P := by
  rcases hL with ⟨-, rfl⟩ | ⟨-, -, hl12, hL⟩
  · omega
  · obtain ⟨-, -, b, e, hb, he, hbe, he4, hr⟩ := hL n hn
    obtain ⟨r1, r2⟩ := hr (mF iv m p) (iv (m + 8)) sF_ok
    unfold f_X8_holdsLine
    simp (disch := omega) only [gW_B, gW_ret, gW_tr, gW_fa, rMi H, rMp H, rMc H, rMr0 H, rMr1 H, rMr2 H, rMr3 H, rMr4 H, rMr5 H, rMr6 H, rMr7 H, rMr8 H, rMr9 H, rMr10 H, rMr11 H, rMr12 H, rMr13 H, rMr14 H, rMa0 H, rMa1 H, rMa2 H, rMa3 H, rMa4 H, rMa5 H, rMa6 H, rMa7 H, rMa8 H, rMa9 H, rMa10 H, rMa11 H, rMa12 H, rMa13 H, rMa14 H, rMs0 H, rMs1 H, rMs2 H, rMs3 H, rMs4 H, rMs5 H, rMs6 H, rMs7 H, rMs8 H, rMs9 H, rMs10 H, rMs11 H, rMs12 H, rMs13 H, rMs14 H, rMA0_0 H, rMA0_1 H, rMA0_2 H, rMA0_3 H, rMA0_4 H, rMA0_5 H, rMA0_6 H, rMA0_7 H, rMA0_8 H, rMA0_65 H, rMA0_66 H, rMA0_67 H, rMA0_68 H, rMA0_305 H, rMA0_1154 H, rMS0_0 H, rMS0_1 H, rMS0_2 H, rMS0_3 H, rMS0_4 H, rMS0_5 H, rMS0_6 H, rMS0_7 H, rMS0_8 H, rMS0_65 H, rMS0_66 H, rMS0_67 H, rMS0_68 H, rMS0_305 H, rMS0_1154 H, rMA7_0 H, rMS6_0 H, rMS6_1 H, rMS6_2 H, rMS6_3 H, rMS6_4 H, iN_add, iN_mul, iN_sub, iN_m1, iNp1, iNp2, iNp3, iNp4, iNp5, iNp6, iNp8, iNp12, iNp16, iNp20, iNp305, iNl1, iNl6, iNl9, iNl12, iNl41, iNl65, iNl305, iNl306, iNl354, iNl1154, iNl1155, iNl1203, iNm2, iNm4, iNm6, iNm8, iNm10, iNm12, iNm60, iNm305, iNs1, iNs4, iNs8, hb]
    have := (w_holdsLine_20 (P := P) H hp hm (show n < 12 by omega) he he4 (e - b) b gN (0, iv (m + 8)) (by omega) (by rw [gN_eq]; omega) r1 (by show 0 ≤ 400; omega)).mpr (by rw [bI_c r2]; exact hP _)
    rw [va_up_id] at this
    exact this
theorem w_sumOf_4 (H : MS u m) {p : Nat} (hp : p < 8) (hm : iv m 21 = iN p) {lm : Nat} {K N : Nat → Int32} {C : Nat → (Nat → Int32) → Bool} (hL : mL (iv (m + 1)) lm K N C) {kd : Int32} {P : Int32 → g_H → Prop} (hP : ∀ st, P (sSum K N C (mF iv m p) kd lm) (va_up iv (m + 8) st, u)) :
    ∀ (k i n : Nat) (st : Nat → Int32), i + k = lm → k < n → gW (f_X8_sumOf_4 n m kd (sSum K N C (mF iv m p) kd i) (iN i)) (va_up iv (m + 8) st, u) P := by
  intro k
  induction k with
  | zero =>
    intro i n st h1 h2
    obtain ⟨n, rfl⟩ : ∃ n', n = n' + 1 := ⟨n - 1, by omega⟩
    have : i = lm := by omega
    subst this
    rw [f_X8_sumOf_4]
    simp (disch := omega) only [gW_B, gW_ret, gW_tr, gW_fa, rMi H, rMp H, rMc H, rMr0 H, rMr1 H, rMr2 H, rMr3 H, rMr4 H, rMr5 H, rMr6 H, rMr7 H, rMr8 H, rMr9 H, rMr10 H, rMr11 H, rMr12 H, rMr13 H, rMr14 H, rMa0 H, rMa1 H, rMa2 H, rMa3 H, rMa4 H, rMa5 H, rMa6 H, rMa7 H, rMa8 H, rMa9 H, rMa10 H, rMa11 H, rMa12 H, rMa13 H, rMa14 H, rMs0 H, rMs1 H, rMs2 H, rMs3 H, rMs4 H, rMs5 H, rMs6 H, rMs7 H, rMs8 H, rMs9 H, rMs10 H, rMs11 H, rMs12 H, rMs13 H, rMs14 H, rMA0_0 H, rMA0_1 H, rMA0_2 H, rMA0_3 H, rMA0_4 H, rMA0_5 H, rMA0_6 H, rMA0_7 H, rMA0_8 H, rMA0_65 H, rMA0_66 H, rMA0_67 H, rMA0_68 H, rMA0_305 H, rMA0_1154 H, rMS0_0 H, rMS0_1 H, rMS0_2 H, rMS0_3 H, rMS0_4 H, rMS0_5 H, rMS0_6 H, rMS0_7 H, rMS0_8 H, rMS0_65 H, rMS0_66 H, rMS0_67 H, rMS0_68 H, rMS0_305 H, rMS0_1154 H, rMA7_0 H, rMS6_0 H, rMS6_1 H, rMS6_2 H, rMS6_3 H, rMS6_4 H, iN_add, iN_mul, iN_sub, iN_m1, iNp1, iNp2, iNp3, iNp4, iNp5, iNp6, iNp8, iNp12, iNp16, iNp20, iNp305, iNl1, iNl6, iNl9, iNl12, iNl41, iNl65, iNl305, iNl306, iNl354, iNl1154, iNl1155, iNl1203, iNm2, iNm4, iNm6, iNm8, iNm10, iNm12, iNm60, iNm305, iNs1, iNs4, iNs8, sJ1]
    rcases hL with ⟨h3, rfl⟩ | ⟨h3, h5, hl12, hL⟩
    · rw [h3, gW_iff (by decide)]
      unfold f_X8_sumOf_73
      exact gW_ret.mpr (hP st)
    · rw [h3, gW_ift rfl]
      simp (disch := omega) only [gW_B, gW_ret, gW_tr, gW_fa, rMi H, rMp H, rMc H, rMr0 H, rMr1 H, rMr2 H, rMr3 H, rMr4 H, rMr5 H, rMr6 H, rMr7 H, rMr8 H, rMr9 H, rMr10 H, rMr11 H, rMr12 H, rMr13 H, rMr14 H, rMa0 H, rMa1 H, rMa2 H, rMa3 H, rMa4 H, rMa5 H, rMa6 H, rMa7 H, rMa8 H, rMa9 H, rMa10 H, rMa11 H, rMa12 H, rMa13 H, rMa14 H, rMs0 H, rMs1 H, rMs2 H, rMs3 H, rMs4 H, rMs5 H, rMs6 H, rMs7 H, rMs8 H, rMs9 H, rMs10 H, rMs11 H, rMs12 H, rMs13 H, rMs14 H, rMA0_0 H, rMA0_1 H, rMA0_2 H, rMA0_3 H, rMA0_4 H, rMA0_5 H, rMA0_6 H, rMA0_7 H, rMA0_8 H, rMA0_65 H, rMA0_66 H, rMA0_67 H, rMA0_68 H, rMA0_305 H, rMA0_1154 H, rMS0_0 H, rMS0_1 H, rMS0_2 H, rMS0_3 H, rMS0_4 H, rMS0_5 H, rMS0_6 H, rMS0_7 H, rMS0_8 H, rMS0_65 H, rMS0_66 H, rMS0_67 H, rMS0_68 H, rMS0_305 H, rMS0_1154 H, rMA7_0 H, rMS6_0 H, rMS6_1 H, rMS6_2 H, rMS6_3 H, rMS6_4 H, iN_add, iN_mul, iN_sub, iN_m1, iNp1, iNp2, iNp3, iNp4, iNp5, iNp6, iNp8, iNp12, iNp16, iNp20, iNp305, iNl1, iNl6, iNl9, iNl12, iNl41, iNl65, iNl305, iNl306, iNl354, iNl1154, iNl1155, iNl1203, iNm2, iNm4, iNm6, iNm8, iNm10, iNm12, iNm60, iNm305, iNs1, iNs4, iNs8, sJ1, h5, gW_ift (Int32.le_refl _)]
      unfold f_X8_sumOf_73
      exact gW_ret.mpr (hP st)
  | succ k ih =>
    intro i n st h1 h2
    obtain ⟨n, rfl⟩ : ∃ n', n = n' + 1 := ⟨n - 1, by omega⟩
    rw [f_X8_sumOf_4]
    have hL' := hL
    rcases hL with ⟨h3, h0⟩ | ⟨h3, h5, hl12, hL⟩
    · omega
    · have hc : ¬ iN lm ≤ iN i := by rw [iN_le (by omega) (by omega)]; omega
      obtain ⟨hK, hN, -⟩ := hL i (by omega)
      have hi := ih (i + 1) n
      simp (disch := omega) only [gW_B, gW_ret, gW_tr, gW_fa, rMi H, rMp H, rMc H, rMr0 H, rMr1 H, rMr2 H, rMr3 H, rMr4 H, rMr5 H, rMr6 H, rMr7 H, rMr8 H, rMr9 H, rMr10 H, rMr11 H, rMr12 H, rMr13 H, rMr14 H, rMa0 H, rMa1 H, rMa2 H, rMa3 H, rMa4 H, rMa5 H, rMa6 H, rMa7 H, rMa8 H, rMa9 H, rMa10 H, rMa11 H, rMa12 H, rMa13 H, rMa14 H, rMs0 H, rMs1 H, rMs2 H, rMs3 H, rMs4 H, rMs5 H, rMs6 H, rMs7 H, rMs8 H, rMs9 H, rMs10 H, rMs11 H, rMs12 H, rMs13 H, rMs14 H, rMA0_0 H, rMA0_1 H, rMA0_2 H, rMA0_3 H, rMA0_4 H, rMA0_5 H, rMA0_6 H, rMA0_7 H, rMA0_8 H, rMA0_65 H, rMA0_66 H, rMA0_67 H, rMA0_68 H, rMA0_305 H, rMA0_1154 H, rMS0_0 H, rMS0_1 H, rMS0_2 H, rMS0_3 H, rMS0_4 H, rMS0_5 H, rMS0_6 H, rMS0_7 H, rMS0_8 H, rMS0_65 H, rMS0_66 H, rMS0_67 H, rMS0_68 H, rMS0_305 H, rMS0_1154 H, rMA7_0 H, rMS6_0 H, rMS6_1 H, rMS6_2 H, rMS6_3 H, rMS6_4 H, iN_add, iN_mul, iN_sub, iN_m1, iNp1, iNp2, iNp3, iNp4, iNp5, iNp6, iNp8, iNp12, iNp16, iNp20, iNp305, iNl1, iNl6, iNl9, iNl12, iNl41, iNl65, iNl305, iNl306, iNl354, iNl1154, iNl1155, iNl1203, iNm2, iNm4, iNm6, iNm8, iNm10, iNm12, iNm60, iNm305, iNs1, iNs4, iNs8, sJ1, h3, h5, hK, hN, gW_ift rfl, gW_iff hc, f_X8_sumOf_67]
      rw [sSum] at hi
      by_cases hk : K i = kd
      · rw [gW_ift hk, gW_B, gW_Ck (show u.1 m = _ from H.1), gW_B]
        have hm2 : va_up iv (m + 8) st m 21 = iN p := by rw [sJ0]; exact hm
        refine w_holdsLine H hp hm2 (lm := lm) (K := K) (N := N) (C := C) (by rw [sJ1]; exact hL') (by omega) (fun st' => ?_)
        have eF : mF (va_up iv (m + 8) st) m p = mF iv m p := by
          unfold mF
          rw [sJ1, sJ0]
        rw [eF, va_up_up]
        by_cases hC : C i (mF iv m p) = true
        · rw [bI_t hC, gW_iff (by decide)]
          rw [if_pos ⟨hk, hC⟩] at hi
          simp (disch := omega) only [gW_B, gW_ret, gW_tr, gW_fa, rMi H, rMp H, rMc H, rMr0 H, rMr1 H, rMr2 H, rMr3 H, rMr4 H, rMr5 H, rMr6 H, rMr7 H, rMr8 H, rMr9 H, rMr10 H, rMr11 H, rMr12 H, rMr13 H, rMr14 H, rMa0 H, rMa1 H, rMa2 H, rMa3 H, rMa4 H, rMa5 H, rMa6 H, rMa7 H, rMa8 H, rMa9 H, rMa10 H, rMa11 H, rMa12 H, rMa13 H, rMa14 H, rMs0 H, rMs1 H, rMs2 H, rMs3 H, rMs4 H, rMs5 H, rMs6 H, rMs7 H, rMs8 H, rMs9 H, rMs10 H, rMs11 H, rMs12 H, rMs13 H, rMs14 H, rMA0_0 H, rMA0_1 H, rMA0_2 H, rMA0_3 H, rMA0_4 H, rMA0_5 H, rMA0_6 H, rMA0_7 H, rMA0_8 H, rMA0_65 H, rMA0_66 H, rMA0_67 H, rMA0_68 H, rMA0_305 H, rMA0_1154 H, rMS0_0 H, rMS0_1 H, rMS0_2 H, rMS0_3 H, rMS0_4 H, rMS0_5 H, rMS0_6 H, rMS0_7 H, rMS0_8 H, rMS0_65 H, rMS0_66 H, rMS0_67 H, rMS0_68 H, rMS0_305 H, rMS0_1154 H, rMA7_0 H, rMS6_0 H, rMS6_1 H, rMS6_2 H, rMS6_3 H, rMS6_4 H, iN_add, iN_mul, iN_sub, iN_m1, iNp1, iNp2, iNp3, iNp4, iNp5, iNp6, iNp8, iNp12, iNp16, iNp20, iNp305, iNl1, iNl6, iNl9, iNl12, iNl41, iNl65, iNl305, iNl306, iNl354, iNl1154, iNl1155, iNl1203, iNm2, iNm4, iNm6, iNm8, iNm10, iNm12, iNm60, iNm305, iNs1, iNs4, iNs8, sJ1, hN]
          exact hi st' (by omega) (by omega)
        · rw [bI_f hC, gW_ift rfl]
          rw [if_neg (fun z => hC z.2)] at hi
          exact hi st' (by omega) (by omega)
      · rw [gW_iff hk]
        rw [if_neg (fun z => hk z.1)] at hi
        exact hi st (by omega) (by omega)
theorem mL_le {W : Nat → Int32} {lm : Nat} {K N : Nat → Int32} {C : Nat → (Nat → Int32) → Bool} (hL : mL W lm K N C) : lm ≤ 12 := by
  rcases hL with ⟨-, h⟩ | ⟨-, -, h, -⟩ <;> omega
theorem w_sumOf (H : MS u m) {p : Nat} (hp : p < 8) (hm : iv m 21 = iN p) {lm : Nat} {K N : Nat → Int32} {C : Nat → (Nat → Int32) → Bool} (hL : mL (iv (m + 1)) lm K N C) {kd : Int32} {P : Int32 → g_H → Prop} (hP : ∀ st, P (sSum K N C (mF iv m p) kd lm) (va_up iv (m + 8) st, u)) : gW (f_X8_sumOf m kd) (iv, u) P := by
  unfold f_X8_sumOf
  have := w_sumOf_4 H hp hm hL hP lm 0 gN (iv (m + 8)) (by omega) (by have := mL_le hL; rw [gN_eq]; omega)
  rw [va_up_id] at this
  exact this
/-- by how much prop p frights; wears -/
def sFr (W : Nat → Int32) (lm : Nat) (K N : Nat → Int32) (C : Nat → (Nat → Int32) → Bool) (p : Nat) (F : Nat → Int32) : Int32 := mX 0 (((W (9 + 4 * p + 1) - W (9 + 4 * p + 2) / 10) + sSum K N C F 0 lm) - sSum K N C F 1 lm)
def sWr (lm : Nat) (K N : Nat → Int32) (C : Nat → (Nat → Int32) → Bool) (F : Nat → Int32) : Int32 := 1 + sSum K N C F 2 lm
theorem sP1 (m k : Nat) (x : Int32) : g_u2 iv m k x (m + 1) = iv (m + 1) := g_u2_ne _ _ _ (by omega)
theorem w_frightsBy (H : MS u m) {p : Nat} (hp : p < 8) {lm : Nat} {K N : Nat → Int32} {C : Nat → (Nat → Int32) → Bool} (hL : mL (iv (m + 1)) lm K N C) {t : Int32} {P : Int32 → g_H → Prop} (hP : ∀ st, P (sFr (iv (m + 1)) lm K N C p (sF (iv (m + 1)) p t (iv m 18) (iv m 19) (iv m 20))) (va_up (g_u2 (g_u2 iv m 21 (iN p)) m 22 t) (m + 8) st, u)) : gW (f_X8_frightsBy m (iN p) t) (iv, u) P := by
  unfold f_X8_frightsBy
  generalize hj : g_u2 (g_u2 iv m 21 (iN p)) m 22 t = jv at hP
  have e1 : jv (m + 1) = iv (m + 1) := by rw [← hj, sP1, sP1]
  have e21 : jv m 21 = iN p := by rw [← hj]; simp [g_u2, va_up]
  have e22 : jv m 22 = t := by rw [← hj]; simp [g_u2, va_up]
  have e18 : jv m 18 = iv m 18 := by rw [← hj]; simp [g_u2, va_up]
  have e19 : jv m 19 = iv m 19 := by rw [← hj]; simp [g_u2, va_up]
  have e20 : jv m 20 = iv m 20 := by rw [← hj]; simp [g_u2, va_up]
  have eF : mF jv m p = sF (iv (m + 1)) p t (iv m 18) (iv m 19) (iv m 20) := by unfold mF; rw [e1, e22, e18, e19, e20]
  simp (disch := omega) only [gW_B, gW_ret, gW_tr, gW_fa, rMi H, rMp H, rMc H, rMr0 H, rMr1 H, rMr2 H, rMr3 H, rMr4 H, rMr5 H, rMr6 H, rMr7 H, rMr8 H, rMr9 H, rMr10 H, rMr11 H, rMr12 H, rMr13 H, rMr14 H, rMa0 H, rMa1 H, rMa2 H, rMa3 H, rMa4 H, rMa5 H, rMa6 H, rMa7 H, rMa8 H, rMa9 H, rMa10 H, rMa11 H, rMa12 H, rMa13 H, rMa14 H, rMs0 H, rMs1 H, rMs2 H, rMs3 H, rMs4 H, rMs5 H, rMs6 H, rMs7 H, rMs8 H, rMs9 H, rMs10 H, rMs11 H, rMs12 H, rMs13 H, rMs14 H, rMA0_0 H, rMA0_1 H, rMA0_2 H, rMA0_3 H, rMA0_4 H, rMA0_5 H, rMA0_6 H, rMA0_7 H, rMA0_8 H, rMA0_65 H, rMA0_66 H, rMA0_67 H, rMA0_68 H, rMA0_305 H, rMA0_1154 H, rMS0_0 H, rMS0_1 H, rMS0_2 H, rMS0_3 H, rMS0_4 H, rMS0_5 H, rMS0_6 H, rMS0_7 H, rMS0_8 H, rMS0_65 H, rMS0_66 H, rMS0_67 H, rMS0_68 H, rMS0_305 H, rMS0_1154 H, rMA7_0 H, rMS6_0 H, rMS6_1 H, rMS6_2 H, rMS6_3 H, rMS6_4 H, iN_add, iN_mul, iN_sub, iN_m1, iNp1, iNp2, iNp3, iNp4, iNp5, iNp6, iNp8, iNp12, iNp16, iNp20, iNp305, iNl1, iNl6, iNl9, iNl12, iNl41, iNl65, iNl305, iNl306, iNl354, iNl1154, iNl1155, iNl1203, iNm2, iNm4, iNm6, iNm8, iNm10, iNm12, iNm60, iNm305, iNs1, iNs4, iNs8, hj, w_ofProp0 H, w_ofProp1 H, w_ofProp2 H, w_ofProp3 H, e1]
  refine w_sumOf H hp e21 (by rw [e1]; exact hL) (fun st => ?_)
  simp (disch := omega) only [gW_B, gW_ret, gW_tr, gW_fa, rMi H, rMp H, rMc H, rMr0 H, rMr1 H, rMr2 H, rMr3 H, rMr4 H, rMr5 H, rMr6 H, rMr7 H, rMr8 H, rMr9 H, rMr10 H, rMr11 H, rMr12 H, rMr13 H, rMr14 H, rMa0 H, rMa1 H, rMa2 H, rMa3 H, rMa4 H, rMa5 H, rMa6 H, rMa7 H, rMa8 H, rMa9 H, rMa10 H, rMa11 H, rMa12 H, rMa13 H, rMa14 H, rMs0 H, rMs1 H, rMs2 H, rMs3 H, rMs4 H, rMs5 H, rMs6 H, rMs7 H, rMs8 H, rMs9 H, rMs10 H, rMs11 H, rMs12 H, rMs13 H, rMs14 H, rMA0_0 H, rMA0_1 H, rMA0_2 H, rMA0_3 H, rMA0_4 H, rMA0_5 H, rMA0_6 H, rMA0_7 H, rMA0_8 H, rMA0_65 H, rMA0_66 H, rMA0_67 H, rMA0_68 H, rMA0_305 H, rMA0_1154 H, rMS0_0 H, rMS0_1 H, rMS0_2 H, rMS0_3 H, rMS0_4 H, rMS0_5 H, rMS0_6 H, rMS0_7 H, rMS0_8 H, rMS0_65 H, rMS0_66 H, rMS0_67 H, rMS0_68 H, rMS0_305 H, rMS0_1154 H, rMA7_0 H, rMS6_0 H, rMS6_1 H, rMS6_2 H, rMS6_3 H, rMS6_4 H, iN_add, iN_mul, iN_sub, iN_m1, iNp1, iNp2, iNp3, iNp4, iNp5, iNp6, iNp8, iNp12, iNp16, iNp20, iNp305, iNl1, iNl6, iNl9, iNl12, iNl41, iNl65, iNl305, iNl306, iNl354, iNl1154, iNl1155, iNl1203, iNm2, iNm4, iNm6, iNm8, iNm10, iNm12, iNm60, iNm305, iNs1, iNs4, iNs8]
  refine w_sumOf H hp (by rw [sJ0]; exact e21) (lm := lm) (K := K) (N := N) (C := C) (by rw [sJ1, e1]; exact hL) (fun st' => ?_)
  have eG : mF (va_up jv (m + 8) st) m p = mF jv m p := by unfold mF; rw [sJ1, sJ0]
  rw [eG, va_up_up]
  simp only [gW_B, w_max, gW_ret, eF]
  exact hP st'
theorem w_wearsBy (H : MS u m) {p : Nat} (hp : p < 8) {lm : Nat} {K N : Nat → Int32} {C : Nat → (Nat → Int32) → Bool} (hL : mL (iv (m + 1)) lm K N C) {t : Int32} {P : Int32 → g_H → Prop} (hP : ∀ st, P (sWr lm K N C (sF (iv (m + 1)) p t (iv m 18) (iv m 19) (iv m 20))) (va_up (g_u2 (g_u2 iv m 21 (iN p)) m 22 t) (m + 8) st, u)) : gW (f_X8_wearsBy m (iN p) t) (iv, u) P := by
  unfold f_X8_wearsBy
  generalize hj : g_u2 (g_u2 iv m 21 (iN p)) m 22 t = jv at hP
  have e1 : jv (m + 1) = iv (m + 1) := by rw [← hj, sP1, sP1]
  have e21 : jv m 21 = iN p := by rw [← hj]; simp [g_u2, va_up]
  have e22 : jv m 22 = t := by rw [← hj]; simp [g_u2, va_up]
  have e18 : jv m 18 = iv m 18 := by rw [← hj]; simp [g_u2, va_up]
  have e19 : jv m 19 = iv m 19 := by rw [← hj]; simp [g_u2, va_up]
  have e20 : jv m 20 = iv m 20 := by rw [← hj]; simp [g_u2, va_up]
  have eF : mF jv m p = sF (iv (m + 1)) p t (iv m 18) (iv m 19) (iv m 20) := by unfold mF; rw [e1, e22, e18, e19, e20]
  simp (disch := omega) only [gW_B, gW_ret, gW_tr, gW_fa, rMi H, rMp H, rMc H, rMr0 H, rMr1 H, rMr2 H, rMr3 H, rMr4 H, rMr5 H, rMr6 H, rMr7 H, rMr8 H, rMr9 H, rMr10 H, rMr11 H, rMr12 H, rMr13 H, rMr14 H, rMa0 H, rMa1 H, rMa2 H, rMa3 H, rMa4 H, rMa5 H, rMa6 H, rMa7 H, rMa8 H, rMa9 H, rMa10 H, rMa11 H, rMa12 H, rMa13 H, rMa14 H, rMs0 H, rMs1 H, rMs2 H, rMs3 H, rMs4 H, rMs5 H, rMs6 H, rMs7 H, rMs8 H, rMs9 H, rMs10 H, rMs11 H, rMs12 H, rMs13 H, rMs14 H, rMA0_0 H, rMA0_1 H, rMA0_2 H, rMA0_3 H, rMA0_4 H, rMA0_5 H, rMA0_6 H, rMA0_7 H, rMA0_8 H, rMA0_65 H, rMA0_66 H, rMA0_67 H, rMA0_68 H, rMA0_305 H, rMA0_1154 H, rMS0_0 H, rMS0_1 H, rMS0_2 H, rMS0_3 H, rMS0_4 H, rMS0_5 H, rMS0_6 H, rMS0_7 H, rMS0_8 H, rMS0_65 H, rMS0_66 H, rMS0_67 H, rMS0_68 H, rMS0_305 H, rMS0_1154 H, rMA7_0 H, rMS6_0 H, rMS6_1 H, rMS6_2 H, rMS6_3 H, rMS6_4 H, iN_add, iN_mul, iN_sub, iN_m1, iNp1, iNp2, iNp3, iNp4, iNp5, iNp6, iNp8, iNp12, iNp16, iNp20, iNp305, iNl1, iNl6, iNl9, iNl12, iNl41, iNl65, iNl305, iNl306, iNl354, iNl1154, iNl1155, iNl1203, iNm2, iNm4, iNm6, iNm8, iNm10, iNm12, iNm60, iNm305, iNs1, iNs4, iNs8, hj]
  refine w_sumOf H hp e21 (by rw [e1]; exact hL) (fun st => ?_)
  simp only [gW_ret, eF]
  exact hP st
end LW
