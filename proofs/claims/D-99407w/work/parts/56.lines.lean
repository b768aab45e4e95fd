/-! THE COMPONENT'S LAW: lines and conditions, by what they answer -/
section LN
variable {iv : gV} {u : gU} {b : Nat}
/-- the cells from n1 to top are as they were -/
def Kp (n1 top : Nat) (iv : gV) (u : gU) (jv : gV) (w : gU) : Prop := ∀ a : Nat, n1 ≤ a → a < top → jv a = iv a ∧ w.1 a = u.1 a ∧ w.2.1 a = u.2.1 a
theorem Kp.rf {n1 top : Nat} {iv : gV} {u : gU} : Kp n1 top iv u iv u := fun _ _ _ => ⟨rfl, rfl, rfl⟩
theorem Kp.tr {n1 top : Nat} {iv jv kv : gV} {u v w : gU} (h1 : Kp n1 top iv u jv v) (h2 : Kp n1 top jv v kv w) : Kp n1 top iv u kv w := fun a x y => ⟨(h2 a x y).1.trans (h1 a x y).1, (h2 a x y).2.1.trans (h1 a x y).2.1, (h2 a x y).2.2.trans (h1 a x y).2.2⟩
/-- a condition, by what it answers as long as its cells are kept -/
def cD (n1 top : Nat) (iv : gV) (u : gU) (c : Nat) (C : (Nat → Int32) → Bool) : Prop := ∀ (jv : gV) (w : gU), Kp n1 top iv u jv w → ∀ fx : Nat, w.1 fx = some (.inl (0, 8)) → okF (jv fx) → ∀ P : Int32 → g_H → Prop, P (bI (C (jv fx) = true)) (jv, w) → gW (f_holds 24 c fx) (jv, w) P
theorem cD.kp {n1 top : Nat} {iv jv : gV} {u w : gU} {c : Nat} {C : (Nat → Int32) → Bool} (h : cD n1 top iv u c C) (hk : Kp n1 top iv u jv w) : cD n1 top jv w c C := fun kv v h1 => h kv v (hk.tr h1)
/-- a line -/
def lD (n1 top : Nat) (iv : gV) (u : gU) (a : Nat) (K N : Int32) (C : (Nat → Int32) → Bool) : Prop := iv a 0 = N ∧ ((u.1 a = some (.inr 14) ∧ K = 2) ∨ (u.1 a = some (.inr 15) ∧ ((K = 0 ∧ iv a 2 = 1) ∨ (K = 1 ∧ iv a 2 = -1)))) ∧ ((u.2.1 a 1 = none ∧ ∀ F : Nat → Int32, okF F → C F = true) ∨ ∃ c : Nat, u.2.1 a 1 = some c ∧ cD n1 top iv u c C)
theorem lD.kp {n1 top : Nat} {iv jv : gV} {u w : gU} {a : Nat} {K N : Int32} {C : (Nat → Int32) → Bool} (h1 : n1 ≤ a) (h2 : a < top) (h : lD n1 top iv u a K N C) (hk : Kp n1 top iv u jv w) : lD n1 top jv w a K N C := by
  obtain ⟨e1, e2, e3⟩ := hk a h1 h2
  obtain ⟨a1, a2, a3⟩ := h
  refine ⟨by rw [e1]; exact a1, by rw [e1, e2]; exact a2, ?_⟩
  rw [e3]
  rcases a3 with h | ⟨c, h, h'⟩
  · exact Or.inl h
  · exact Or.inr ⟨c, h, h'.kp hk⟩
theorem w_adds14 {n1 top a fx : Nat} {K N : Int32} {C : (Nat → Int32) → Bool} (h : lD n1 top iv u a K N C) (hs : u.1 a = some (.inr 14)) (hf : u.1 fx = some (.inl (0, 8))) (hF : okF (iv fx)) {P : Int32 → g_H → Prop} (hP : P (if C (iv fx) = true then N else 0) (iv, u)) : gW (f_X14_adds_c14 a fx) (iv, u) P := by
  unfold f_X14_adds_c14 f_X14_adds_c14_20 f_X14_adds_c14_28
  obtain ⟨a1, -, a3⟩ := h
  rw [gW_B, gW_FQ hs]
  rcases a3 with ⟨h1, h2⟩ | ⟨c, h1, h2⟩
  · rw [h1]
    show gW (gB (gFI a 14 0) fun v => gRet v) (iv, u) P
    rw [if_pos (h2 _ hF)] at hP
    rw [gW_B, gW_FI hs, gW_ret, a1]
    exact hP
  · rw [h1]
    show gW (gB (gFQ a 14 1) fun v3 => gB (gNN v3) fun y => gB (f_holds 24 y fx) fun r4 => gIf (r4 = 0) (gRet 0) (gB (gFI a 14 0) fun v => gRet v)) (iv, u) P
    rw [gW_B, gW_FQ hs, h1, gW_B, gW_NN rfl, gW_B]
    refine h2 iv u Kp.rf fx hf hF _ ?_
    by_cases hC : C (iv fx) = true
    · rw [bI_t hC, gW_iff (by decide), gW_B, gW_FI hs, gW_ret, a1]
      rw [if_pos hC] at hP
      exact hP
    · rw [bI_f hC, gW_ift rfl, gW_ret]
      rw [if_neg hC] at hP
      exact hP
theorem w_adds15 {n1 top a fx : Nat} {K N : Int32} {C : (Nat → Int32) → Bool} (h : lD n1 top iv u a K N C) (hs : u.1 a = some (.inr 15)) (hf : u.1 fx = some (.inl (0, 8))) (hF : okF (iv fx)) {P : Int32 → g_H → Prop} (hP : P (if C (iv fx) = true then N else 0) (iv, u)) : gW (f_X14_adds_c15 a fx) (iv, u) P := by
  unfold f_X14_adds_c15 f_X14_adds_c15_20 f_X14_adds_c15_28
  obtain ⟨a1, -, a3⟩ := h
  rw [gW_B, gW_FQ hs]
  rcases a3 with ⟨h1, h2⟩ | ⟨c, h1, h2⟩
  · rw [h1]
    show gW (gB (gFI a 15 0) fun v => gRet v) (iv, u) P
    rw [if_pos (h2 _ hF)] at hP
    rw [gW_B, gW_FI hs, gW_ret, a1]
    exact hP
  · rw [h1]
    show gW (gB (gFQ a 15 1) fun v3 => gB (gNN v3) fun y => gB (f_holds 24 y fx) fun r4 => gIf (r4 = 0) (gRet 0) (gB (gFI a 15 0) fun v => gRet v)) (iv, u) P
    rw [gW_B, gW_FQ hs, h1, gW_B, gW_NN rfl, gW_B]
    refine h2 iv u Kp.rf fx hf hF _ ?_
    by_cases hC : C (iv fx) = true
    · rw [bI_t hC, gW_iff (by decide), gW_B, gW_FI hs, gW_ret, a1]
      rw [if_pos hC] at hP
      exact hP
    · rw [bI_f hC, gW_ift rfl, gW_ret]
      rw [if_neg hC] at hP
      exact hP
/-- what a line adds to the frights; to the wear -/
def lnF (K N : Int32) (c : Bool) : Int32 := if K = 2 then 0 else if c = true then (if K = 0 then N else -N) else 0
def lnW (K N : Int32) (c : Bool) : Int32 := if K = 2 ∧ c = true then N else 0
theorem w_Vfrights {n1 top a fx : Nat} {K N : Int32} {C : (Nat → Int32) → Bool} (h : lD n1 top iv u a K N C) (hf : u.1 fx = some (.inl (0, 8))) (hF : okF (iv fx)) {P : Int32 → g_H → Prop} (hP : P (lnF K N (C (iv fx))) (iv, u)) : gW (f_V_frights a fx) (iv, u) P := by
  unfold f_V_frights
  rcases h.2.1 with ⟨hs, hk⟩ | ⟨hs, hk⟩
  · rw [gW_B, gW_Sh hs, gW_iff (by decide), gW_ift rfl]
    unfold f_X14_frights_c14
    rw [gW_ret]
    unfold lnF at hP
    rw [if_pos hk] at hP
    exact hP
  · rw [gW_B, gW_Sh hs, gW_ift rfl]
    unfold f_X16_frights
    rw [gW_B, gW_FI hs, gW_B, gW_Ck hs, gW_B]
    refine w_adds15 h hs hf hF ?_
    rw [gW_ret]
    unfold lnF at hP
    rcases hk with ⟨rfl, h2⟩ | ⟨rfl, h2⟩
    · rw [if_neg (by decide), if_pos rfl] at hP
      rw [h2, Int32.one_mul]
      exact hP
    · rw [if_neg (show ¬ (1 : Int32) = 2 by decide)] at hP
      rw [h2]
      by_cases hC : C (iv fx) = true
      · rw [if_pos hC, if_neg (by decide)] at hP
        rw [if_pos hC]
        rw [show (-1 : Int32) * N = -N from by rw [Int32.neg_mul, Int32.one_mul]]
        exact hP
      · rw [if_neg hC] at hP ⊢
        rw [Int32.mul_zero]
        exact hP
theorem w_Vwears {n1 top a fx : Nat} {K N : Int32} {C : (Nat → Int32) → Bool} (h : lD n1 top iv u a K N C) (hf : u.1 fx = some (.inl (0, 8))) (hF : okF (iv fx)) {P : Int32 → g_H → Prop} (hP : P (lnW K N (C (iv fx))) (iv, u)) : gW (f_V_wears a fx) (iv, u) P := by
  unfold f_V_wears
  rcases h.2.1 with ⟨hs, hk⟩ | ⟨hs, hk⟩
  · rw [gW_B, gW_Sh hs, gW_ift rfl]
    unfold f_X15_wears
    rw [gW_B, gW_Ck hs, gW_B]
    refine w_adds14 h hs hf hF ?_
    rw [gW_ret]
    unfold lnW at hP
    by_cases hC : C (iv fx) = true
    · rw [if_pos ⟨hk, hC⟩] at hP
      rw [if_pos hC]
      exact hP
    · rw [if_neg (fun z => hC z.2)] at hP
      rw [if_neg hC]
      exact hP
  · rw [gW_B, gW_Sh hs, gW_iff (by decide), gW_ift rfl]
    unfold f_X14_wears_c15
    rw [gW_ret]
    unfold lnW at hP
    rw [if_neg (fun z => by rcases hk with ⟨h, -⟩ | ⟨h, -⟩ <;> (rw [h] at z; exact absurd z.1 (by decide)))] at hP
    exact hP
/-- the law of a State: its lines -/
def cL (n1 top : Nat) (iv : gV) (u : gU) (b lm : Nat) (K N : Nat → Int32) (C : Nat → (Nat → Int32) → Bool) : Prop := lm ≤ 12 ∧ ((iv b 8 = -1 ∧ lm = 0) ∨ iv b 8 = iN lm) ∧ ∀ k : Nat, k < lm → ∃ a : Nat, u.2.1 (b + 3) k = some a ∧ n1 ≤ a ∧ a < top ∧ lD n1 top iv u a (K k) (N k) (C k)
def sLF (K N : Nat → Int32) (C : Nat → (Nat → Int32) → Bool) (F : Nat → Int32) (x : Int32) : Nat → Int32
  | 0 => x
  | k + 1 => sLF K N C F x k + lnF (K k) (N k) (C k F)
def sLW (K N : Nat → Int32) (C : Nat → (Nat → Int32) → Bool) (F : Nat → Int32) (x : Int32) : Nat → Int32
  | 0 => x
  | k + 1 => sLW K N C F x k + lnW (K k) (N k) (C k F)
theorem cL_ge {n1 top b lm : Nat} {K N : Nat → Int32} {C : Nat → (Nat → Int32) → Bool} (hL : cL n1 top iv u b lm K N C) {k : Nat} (h : k < lm) : iv b 8 = iN lm := by
  rcases hL.2.1 with ⟨-, h1⟩ | h1
  · omega
  · exact h1
theorem w_frights_56 (H : SS u b) {n1 top lm : Nat} {K N : Nat → Int32} {C : Nat → (Nat → Int32) → Bool} (hL : cL n1 top iv u b lm K N C) (hF : okF (iv (b + 5))) {x : Int32} {P : Int32 → g_H → Prop} (hP : P (mX 0 (sLF K N C (iv (b + 5)) x lm)) (iv, u)) :
    ∀ k i n : Nat, i + k = lm → k < n → gW (f_X3_frights_56 n b (sLF K N C (iv (b + 5)) x i) (iN i)) (iv, u) P := by
  intro k
  induction k with
  | zero =>
    intro i n h1 h2
    obtain ⟨n, rfl⟩ : ∃ n', n = n' + 1 := ⟨n - 1, by omega⟩
    have : i = lm := by omega
    subst this
    have hl := hL.1
    have hc : iv b 8 ≤ iN i := by
      rcases hL.2.1 with ⟨h, h'⟩ | h
      · rw [h, h']; decide
      · rw [h]; exact Int32.le_refl _
    rw [f_X3_frights_56]
    simp (disch := omega) only [gW_B, gW_ret, gW_tr, gW_fa, iN_add, iN_mul, iN_sub, iN_m1, iNp1, iNp2, iNp3, iNp4, iNp5, iNp6, iNp8, iNp12, iNp16, iNp20, iNp305, iNl1, iNl6, iNl9, iNl12, iNl41, iNl65, iNl305, iNl306, iNl354, iNl1154, iNl1155, iNl1203, iNm2, iNm4, iNm6, iNm8, iNm10, iNm12, iNm60, iNm305, iNs1, iNs4, iNs8, rSi H, rSp H, rSc H, rSP H, rSO H, rSPi H, rSPp H, rSPc H, rSOi H, rSOp H, rSOc H, rSr0 H, rSr1 H, rSr2 H, rSr3 H, rSr4 H, rSr5 H, rSa3 H, rSa4 H, rSa5 H, rSs3 H, rSs4 H, rSs5 H, rSf0 H, rSf1 H, rSf2 H, rSf3 H, rSf4 H, rSf5 H, rSf6 H, rSf7 H]
    rw [gW_ift hc]
    unfold f_X3_frights_90
    rw [gW_B, w_max, gW_ret]
    exact hP
  | succ k ih =>
    intro i n h1 h2
    obtain ⟨n, rfl⟩ : ∃ n', n = n' + 1 := ⟨n - 1, by omega⟩
    have hl := hL.1
    obtain ⟨a, q1, q2, q3, q4⟩ := hL.2.2 i (by omega)
    rw [f_X3_frights_56]
    have hc : ¬ iv b 8 ≤ iN i := by rw [cL_ge hL (show i < lm by omega), iN_le (by omega) (by omega)]; omega
    simp (disch := omega) only [gW_B, gW_ret, gW_tr, gW_fa, iN_add, iN_mul, iN_sub, iN_m1, iNp1, iNp2, iNp3, iNp4, iNp5, iNp6, iNp8, iNp12, iNp16, iNp20, iNp305, iNl1, iNl6, iNl9, iNl12, iNl41, iNl65, iNl305, iNl306, iNl354, iNl1154, iNl1155, iNl1203, iNm2, iNm4, iNm6, iNm8, iNm10, iNm12, iNm60, iNm305, iNs1, iNs4, iNs8, rSi H, rSp H, rSc H, rSP H, rSO H, rSPi H, rSPp H, rSPc H, rSOi H, rSOp H, rSOc H, rSr0 H, rSr1 H, rSr2 H, rSr3 H, rSr4 H, rSr5 H, rSa3 H, rSa4 H, rSa5 H, rSs3 H, rSs4 H, rSs5 H, rSf0 H, rSf1 H, rSf2 H, rSf3 H, rSf4 H, rSf5 H, rSf6 H, rSf7 H]
    rw [gW_iff hc]
    simp (disch := omega) only [gW_B, gW_ret, gW_tr, gW_fa, iN_add, iN_mul, iN_sub, iN_m1, iNp1, iNp2, iNp3, iNp4, iNp5, iNp6, iNp8, iNp12, iNp16, iNp20, iNp305, iNl1, iNl6, iNl9, iNl12, iNl41, iNl65, iNl305, iNl306, iNl354, iNl1154, iNl1155, iNl1203, iNm2, iNm4, iNm6, iNm8, iNm10, iNm12, iNm60, iNm305, iNs1, iNs4, iNs8, rSi H, rSp H, rSc H, rSP H, rSO H, rSPi H, rSPp H, rSPc H, rSOi H, rSOp H, rSOc H, rSr0 H, rSr1 H, rSr2 H, rSr3 H, rSr4 H, rSr5 H, rSa3 H, rSa4 H, rSa5 H, rSs3 H, rSs4 H, rSs5 H, rSf0 H, rSf1 H, rSf2 H, rSf3 H, rSf4 H, rSf5 H, rSf6 H, rSf7 H]
    rw [gW_AR (H.2.1 2 (by decide)).2 rfl (show i < 12 by omega) (by decide) q1]
    simp (disch := omega) only [gW_B, gW_ret, gW_tr, gW_fa, iN_add, iN_mul, iN_sub, iN_m1, iNp1, iNp2, iNp3, iNp4, iNp5, iNp6, iNp8, iNp12, iNp16, iNp20, iNp305, iNl1, iNl6, iNl9, iNl12, iNl41, iNl65, iNl305, iNl306, iNl354, iNl1154, iNl1155, iNl1203, iNm2, iNm4, iNm6, iNm8, iNm10, iNm12, iNm60, iNm305, iNs1, iNs4, iNs8, rSi H, rSp H, rSc H, rSP H, rSO H, rSPi H, rSPp H, rSPc H, rSOi H, rSOp H, rSOc H, rSr0 H, rSr1 H, rSr2 H, rSr3 H, rSr4 H, rSr5 H, rSa3 H, rSa4 H, rSa5 H, rSs3 H, rSs4 H, rSs5 H, rSf0 H, rSf1 H, rSf2 H, rSf3 H, rSf4 H, rSf5 H, rSf6 H, rSf7 H]
    refine w_Vfrights q4 (H.2.1 4 (by decide)).2 hF ?_
    exact ih (i + 1) n (by omega) (by omega)
theorem w_wears_25 (H : SS u b) {n1 top lm : Nat} {K N : Nat → Int32} {C : Nat → (Nat → Int32) → Bool} (hL : cL n1 top iv u b lm K N C) (hF : okF (iv (b + 5))) {x : Int32} {P : Int32 → g_H → Prop} (hP : P (sLW K N C (iv (b + 5)) x lm) (iv, u)) :
    ∀ k i n : Nat, i + k = lm → k < n → gW (f_X3_wears_25 n b (sLW K N C (iv (b + 5)) x i) (iN i)) (iv, u) P := by
  intro k
  induction k with
  | zero =>
    intro i n h1 h2
    obtain ⟨n, rfl⟩ : ∃ n', n = n' + 1 := ⟨n - 1, by omega⟩
    have : i = lm := by omega
    subst this
    have hl := hL.1
    have hc : iv b 8 ≤ iN i := by
      rcases hL.2.1 with ⟨h, h'⟩ | h
      · rw [h, h']; decide
      · rw [h]; exact Int32.le_refl _
    rw [f_X3_wears_25]
    simp (disch := omega) only [gW_B, gW_ret, gW_tr, gW_fa, iN_add, iN_mul, iN_sub, iN_m1, iNp1, iNp2, iNp3, iNp4, iNp5, iNp6, iNp8, iNp12, iNp16, iNp20, iNp305, iNl1, iNl6, iNl9, iNl12, iNl41, iNl65, iNl305, iNl306, iNl354, iNl1154, iNl1155, iNl1203, iNm2, iNm4, iNm6, iNm8, iNm10, iNm12, iNm60, iNm305, iNs1, iNs4, iNs8, rSi H, rSp H, rSc H, rSP H, rSO H, rSPi H, rSPp H, rSPc H, rSOi H, rSOp H, rSOc H, rSr0 H, rSr1 H, rSr2 H, rSr3 H, rSr4 H, rSr5 H, rSa3 H, rSa4 H, rSa5 H, rSs3 H, rSs4 H, rSs5 H, rSf0 H, rSf1 H, rSf2 H, rSf3 H, rSf4 H, rSf5 H, rSf6 H, rSf7 H]
    rw [gW_ift hc]
    unfold f_X3_wears_59
    rw [gW_ret]
    exact hP
  | succ k ih =>
    intro i n h1 h2
    obtain ⟨n, rfl⟩ : ∃ n', n = n' + 1 := ⟨n - 1, by omega⟩
    have hl := hL.1
    obtain ⟨a, q1, q2, q3, q4⟩ := hL.2.2 i (by omega)
    rw [f_X3_wears_25]
    have hc : ¬ iv b 8 ≤ iN i := by rw [cL_ge hL (show i < lm by omega), iN_le (by omega) (by omega)]; omega
    simp (disch := omega) only [gW_B, gW_ret, gW_tr, gW_fa, iN_add, iN_mul, iN_sub, iN_m1, iNp1, iNp2, iNp3, iNp4, iNp5, iNp6, iNp8, iNp12, iNp16, iNp20, iNp305, iNl1, iNl6, iNl9, iNl12, iNl41, iNl65, iNl305, iNl306, iNl354, iNl1154, iNl1155, iNl1203, iNm2, iNm4, iNm6, iNm8, iNm10, iNm12, iNm60, iNm305, iNs1, iNs4, iNs8, rSi H, rSp H, rSc H, rSP H, rSO H, rSPi H, rSPp H, rSPc H, rSOi H, rSOp H, rSOc H, rSr0 H, rSr1 H, rSr2 H, rSr3 H, rSr4 H, rSr5 H, rSa3 H, rSa4 H, rSa5 H, rSs3 H, rSs4 H, rSs5 H, rSf0 H, rSf1 H, rSf2 H, rSf3 H, rSf4 H, rSf5 H, rSf6 H, rSf7 H]
    rw [gW_iff hc]
    simp (disch := omega) only [gW_B, gW_ret, gW_tr, gW_fa, iN_add, iN_mul, iN_sub, iN_m1, iNp1, iNp2, iNp3, iNp4, iNp5, iNp6, iNp8, iNp12, iNp16, iNp20, iNp305, iNl1, iNl6, iNl9, iNl12, iNl41, iNl65, iNl305, iNl306, iNl354, iNl1154, iNl1155, iNl1203, iNm2, iNm4, iNm6, iNm8, iNm10, iNm12, iNm60, iNm305, iNs1, iNs4, iNs8, rSi H, rSp H, rSc H, rSP H, rSO H, rSPi H, rSPp H, rSPc H, rSOi H, rSOp H, rSOc H, rSr0 H, rSr1 H, rSr2 H, rSr3 H, rSr4 H, rSr5 H, rSa3 H, rSa4 H, rSa5 H, rSs3 H, rSs4 H, rSs5 H, rSf0 H, rSf1 H, rSf2 H, rSf3 H, rSf4 H, rSf5 H, rSf6 H, rSf7 H]
    rw [gW_AR (H.2.1 2 (by decide)).2 rfl (show i < 12 by omega) (by decide) q1]
    simp (disch := omega) only [gW_B, gW_ret, gW_tr, gW_fa, iN_add, iN_mul, iN_sub, iN_m1, iNp1, iNp2, iNp3, iNp4, iNp5, iNp6, iNp8, iNp12, iNp16, iNp20, iNp305, iNl1, iNl6, iNl9, iNl12, iNl41, iNl65, iNl305, iNl306, iNl354, iNl1154, iNl1155, iNl1203, iNm2, iNm4, iNm6, iNm8, iNm10, iNm12, iNm60, iNm305, iNs1, iNs4, iNs8, rSi H, rSp H, rSc H, rSP H, rSO H, rSPi H, rSPp H, rSPc H, rSOi H, rSOp H, rSOc H, rSr0 H, rSr1 H, rSr2 H, rSr3 H, rSr4 H, rSr5 H, rSa3 H, rSa4 H, rSa5 H, rSs3 H, rSs4 H, rSs5 H, rSf0 H, rSf1 H, rSf2 H, rSf3 H, rSf4 H, rSf5 H, rSf6 H, rSf7 H]
    refine w_Vwears q4 (H.2.1 4 (by decide)).2 hF ?_
    exact ih (i + 1) n (by omega) (by omega)
end LN
