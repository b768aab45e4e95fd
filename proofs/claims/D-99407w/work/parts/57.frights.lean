/-! BY HOW MUCH A PROP FRIGHTS, IN THE COMPONENT -/
def cOk (C : Nat → (Nat → Int32) → Bool) : Prop := ∀ (k : Nat) (F G : Nat → Int32), (∀ j : Nat, j < 8 → F j = G j) → C k F = C k G
def kOk (K : Nat → Int32) (lm : Nat) : Prop := ∀ k : Nat, k < lm → K k = 0 ∨ K k = 1 ∨ K k = 2
section FR
variable {iv : gV} {u : gU} {b : Nat}
theorem cL.kinds {n1 top lm : Nat} {K N : Nat → Int32} {C : Nat → (Nat → Int32) → Bool} (h : cL n1 top iv u b lm K N C) : kOk K lm := fun k hk => by
  obtain ⟨a, -, -, -, -, h2, -⟩ := h.2.2 k hk
  rcases h2 with ⟨-, h⟩ | ⟨-, ⟨h, -⟩ | ⟨h, -⟩⟩
  · exact Or.inr (Or.inr h)
  · exact Or.inl h
  · exact Or.inr (Or.inl h)
theorem sSum_c {K N : Nat → Int32} {C : Nat → (Nat → Int32) → Bool} (hC : cOk C) {F G : Nat → Int32} (h : ∀ j : Nat, j < 8 → F j = G j) {kd : Int32} : ∀ n : Nat, sSum K N C F kd n = sSum K N C G kd n := by
  intro n
  induction n with
  | zero => rfl
  | succ n ih => rw [sSum, sSum, ih, hC n F G h]
theorem i3_lc (a b c : Int32) : a + (b + c) = b + (a + c) := by rw [← Int32.add_assoc, Int32.add_comm a b, Int32.add_assoc]
theorem sLF_eq {K N : Nat → Int32} {C : Nat → (Nat → Int32) → Bool} {F : Nat → Int32} {x : Int32} : ∀ n : Nat, kOk K n → sLF K N C F x n = (x + sSum K N C F 0 n) - sSum K N C F 1 n := by
  intro n
  induction n with
  | zero => intro _; show x = (x + 0) - 0; simp
  | succ n ih =>
    intro hk
    rw [sLF, ih (fun k h => hk k (by omega)), sSum, sSum]
    have h := hk n (by omega)
    unfold lnF
    by_cases hc : C n F = true
    · rcases h with h | h | h
      · rw [h, if_neg (by decide), if_pos hc, if_pos rfl, if_pos ⟨rfl, hc⟩, if_neg (fun z => absurd z.1 (by decide))]
        simp only [Int32.sub_eq_add_neg, Int32.add_assoc, Int32.add_comm, i3_lc]
      · rw [h, if_neg (show ¬ (1 : Int32) = 2 by decide), if_pos hc, if_neg (show ¬ (1 : Int32) = 0 by decide), if_neg (fun z => absurd z.1 (by decide)), if_pos ⟨rfl, hc⟩]
        simp only [Int32.sub_eq_add_neg, Int32.neg_add, Int32.add_assoc, Int32.add_comm, i3_lc]
      · rw [h, if_pos rfl, if_neg (fun z => absurd z.1 (by decide)), if_neg (fun z => absurd z.1 (by decide))]
        simp
    · rw [if_neg (show ¬ (K n = 0 ∧ C n F = true) from fun z => hc z.2), if_neg (show ¬ (K n = 1 ∧ C n F = true) from fun z => hc z.2)]
      by_cases h2 : K n = 2
      · rw [if_pos h2]; simp
      · rw [if_neg h2, if_neg hc]; simp
theorem sLW_eq {K N : Nat → Int32} {C : Nat → (Nat → Int32) → Bool} {F : Nat → Int32} {x : Int32} : ∀ n : Nat, sLW K N C F x n = x + sSum K N C F 2 n := by
  intro n
  induction n with
  | zero => show x = x + 0; simp
  | succ n ih =>
    rw [sLW, ih, sSum]
    unfold lnW
    by_cases hc : K n = 2 ∧ C n F = true
    · rw [if_pos hc, if_pos hc, Int32.add_assoc]
    · rw [if_neg hc, if_neg hc]; simp
theorem cL.up {n1 top lm : Nat} {K N : Nat → Int32} {C : Nat → (Nat → Int32) → Bool} (h : cL n1 top iv u b lm K N C) {jv : gV} {w : gU} (hk : Kp n1 top iv u jv w) (h8 : jv b 8 = iv b 8) (h3 : w.2.1 (b + 3) = u.2.1 (b + 3)) : cL n1 top jv w b lm K N C := by
  refine ⟨h.1, by rw [h8]; exact h.2.1, fun k hl => ?_⟩
  obtain ⟨a, q1, q2, q3, q4⟩ := h.2.2 k hl
  exact ⟨a, by rw [h3]; exact q1, q2, q3, q4.kp q2 q3 hk⟩
theorem Kp.upi {n1 top a : Nat} (h : a < n1) {f : Nat → Int32} : Kp n1 top iv u (va_up iv a f) u := fun c h1 _ => ⟨va_up_ne _ _ (by omega), rfl, rfl⟩
theorem Kp.u2 {n1 top a k : Nat} (h : a < n1) {x : Int32} : Kp n1 top iv u (g_u2 iv a k x) u := fun c h1 _ => ⟨g_u2_ne _ _ _ (by omega), rfl, rfl⟩
/-- what a State at b, and one at o, know that frights stand on -/
def cF (iv : gV) (b o : Nat) (W : Nat → Int32) (p s : Nat) (d n k : Int32) : Prop := iv (b + 4) s = iN p ∧ iv (b + 7 + p) 0 = W (9 + 4 * p + 0) ∧ iv (b + 7 + p) 1 = W (9 + 4 * p + 1) ∧ iv (b + 7 + p) 2 = W (9 + 4 * p + 2) ∧ W (9 + 4 * p + 3) = iN s ∧ iv o 0 = d ∧ iv o 1 = n ∧ iv o 2 = k
theorem w_frights (H : SS u b) {n1 top lm : Nat} (hb : b + 5 < n1) {K N : Nat → Int32} {C : Nat → (Nat → Int32) → Bool} (hL : cL n1 top iv u b lm K N C) (hC : cOk C) {o s p : Nat} {t : Int32} (ho : u.1 o = some (.inr 4)) (hob : o ≠ b + 5) (hs : s < 10) (hp : p < 8) {W : Nat → Int32} {d n k : Int32} (hcF : cF iv b o W p s d n k) {P : Int32 → g_H → Prop} (hP : ∀ f, P (sFr W lm K N C p (sF W p t d n k)) (va_up iv (b + 5) f, u)) : gW (f_X3_frights b o (iN s) t) (iv, u) P := by
  obtain ⟨c1, c2, c3, c4, c5, c6, c7, c8⟩ := hcF
  unfold f_X3_frights
  simp (disch := omega) only [gW_B, gW_ret, gW_tr, gW_fa, iN_add, iN_mul, iN_sub, iN_m1, iNp1, iNp2, iNp3, iNp4, iNp5, iNp6, iNp8, iNp12, iNp16, iNp20, iNp305, iNl1, iNl6, iNl9, iNl12, iNl41, iNl65, iNl305, iNl306, iNl354, iNl1154, iNl1155, iNl1203, iNm2, iNm4, iNm6, iNm8, iNm10, iNm12, iNm60, iNm305, iNs1, iNs4, iNs8, rSi H, rSp H, rSc H, rSP H, rSO H, rSPi H, rSPp H, rSPc H, rSOi H, rSOp H, rSOc H, rSr0 H, rSr1 H, rSr2 H, rSr3 H, rSr4 H, rSr5 H, rSa3 H, rSa4 H, rSa5 H, rSs3 H, rSs4 H, rSs5 H, rSf0 H, rSf1 H, rSf2 H, rSf3 H, rSf4 H, rSf5 H, rSf6 H, rSf7 H, c1]
  rw [gW_iff (iN_eqm (by omega))]
  simp (disch := omega) only [gW_B, gW_ret, gW_tr, gW_fa, iN_add, iN_mul, iN_sub, iN_m1, iNp1, iNp2, iNp3, iNp4, iNp5, iNp6, iNp8, iNp12, iNp16, iNp20, iNp305, iNl1, iNl6, iNl9, iNl12, iNl41, iNl65, iNl305, iNl306, iNl354, iNl1154, iNl1155, iNl1203, iNm2, iNm4, iNm6, iNm8, iNm10, iNm12, iNm60, iNm305, iNs1, iNs4, iNs8, rSi H, rSp H, rSc H, rSP H, rSO H, rSPi H, rSPp H, rSPc H, rSOi H, rSOp H, rSOc H, rSr0 H, rSr1 H, rSr2 H, rSr3 H, rSr4 H, rSr5 H, rSa3 H, rSa4 H, rSa5 H, rSs3 H, rSs4 H, rSs5 H, rSf0 H, rSf1 H, rSf2 H, rSf3 H, rSf4 H, rSf5 H, rSf6 H, rSf7 H]
  refine w_tells H ho hob hs hp c1 (fun f hf => ?_)
  have e4 : va_up iv (b + 5) f (b + 4) = iv (b + 4) := va_up_ne _ _ (by omega)
  have e7 : va_up iv (b + 5) f (b + 7 + p) = iv (b + 7 + p) := va_up_ne _ _ (by omega)
  have e5 : va_up iv (b + 5) f (b + 5) = f := va_up_self _ _ _
  simp (disch := omega) only [gW_B, gW_ret, gW_tr, gW_fa, iN_add, iN_mul, iN_sub, iN_m1, iNp1, iNp2, iNp3, iNp4, iNp5, iNp6, iNp8, iNp12, iNp16, iNp20, iNp305, iNl1, iNl6, iNl9, iNl12, iNl41, iNl65, iNl305, iNl306, iNl354, iNl1154, iNl1155, iNl1203, iNm2, iNm4, iNm6, iNm8, iNm10, iNm12, iNm60, iNm305, iNs1, iNs4, iNs8, rSi H, rSp H, rSc H, rSP H, rSO H, rSPi H, rSPp H, rSPc H, rSOi H, rSOp H, rSOc H, rSr0 H, rSr1 H, rSr2 H, rSr3 H, rSr4 H, rSr5 H, rSa3 H, rSa4 H, rSa5 H, rSs3 H, rSs4 H, rSs5 H, rSf0 H, rSf1 H, rSf2 H, rSf3 H, rSf4 H, rSf5 H, rSf6 H, rSf7 H, e4, c1, e7]
  obtain ⟨f0, f1, f2, f3, f4, f5, f6, f7⟩ := hf
  have hF8 : ∀ j : Nat, j < 8 → f j = sF W p t d n k j := by
    intro j hj
    unfold sF
    rw [c3] at f2
    rw [c4] at f3
    rw [c7] at f5
    rw [c8] at f6
    rw [c6, c2] at f7
    match j, hj with
    | 0, _ => simpa using f0
    | 1, _ => simpa [c5] using f1
    | 2, _ => simpa using f2
    | 3, _ => simpa using f3
    | 4, _ => simpa using f4
    | 5, _ => simpa using f5
    | 6, _ => simpa using f6
    | 7, _ => simpa using f7
    | j + 8, h => omega
  have hok : okF f := ⟨by rw [f6]; exact bI_o, by rw [f7]; exact bI_o⟩
  have hL2 : cL n1 top (va_up iv (b + 5) f) u b lm K N C := hL.up (Kp.upi hb) (by rw [va_up_ne _ _ (by omega)]) rfl
  refine w_frights_56 (x := iv (b + 7 + p) 1 - iv (b + 7 + p) 2 / 10) H hL2 (by rw [e5]; exact hok) ?_ lm 0 gN (by omega) (by rw [gN_eq]; have := hL.1; omega)
  rw [e5, sLF_eq lm hL.kinds, sSum_c hC hF8, sSum_c hC hF8, c3, c4]
  exact hP f
theorem w_wears (H : SS u b) {n1 top lm : Nat} (hb : b + 5 < n1) {K N : Nat → Int32} {C : Nat → (Nat → Int32) → Bool} (hL : cL n1 top iv u b lm K N C) (hC : cOk C) {o s p : Nat} {t : Int32} (ho : u.1 o = some (.inr 4)) (hob : o ≠ b + 5) (hs : s < 10) (hp : p < 8) {W : Nat → Int32} {d n k : Int32} (hcF : cF iv b o W p s d n k) {P : Int32 → g_H → Prop} (hP : ∀ f, P (sWr lm K N C (sF W p t d n k)) (va_up iv (b + 5) f, u)) : gW (f_X3_wears b o (iN s) t) (iv, u) P := by
  obtain ⟨c1, c2, c3, c4, c5, c6, c7, c8⟩ := hcF
  unfold f_X3_wears
  simp (disch := omega) only [gW_B, gW_ret, gW_tr, gW_fa, iN_add, iN_mul, iN_sub, iN_m1, iNp1, iNp2, iNp3, iNp4, iNp5, iNp6, iNp8, iNp12, iNp16, iNp20, iNp305, iNl1, iNl6, iNl9, iNl12, iNl41, iNl65, iNl305, iNl306, iNl354, iNl1154, iNl1155, iNl1203, iNm2, iNm4, iNm6, iNm8, iNm10, iNm12, iNm60, iNm305, iNs1, iNs4, iNs8, rSi H, rSp H, rSc H, rSP H, rSO H, rSPi H, rSPp H, rSPc H, rSOi H, rSOp H, rSOc H, rSr0 H, rSr1 H, rSr2 H, rSr3 H, rSr4 H, rSr5 H, rSa3 H, rSa4 H, rSa5 H, rSs3 H, rSs4 H, rSs5 H, rSf0 H, rSf1 H, rSf2 H, rSf3 H, rSf4 H, rSf5 H, rSf6 H, rSf7 H, c1]
  rw [gW_iff (iN_eqm (by omega))]
  simp (disch := omega) only [gW_B, gW_ret, gW_tr, gW_fa, iN_add, iN_mul, iN_sub, iN_m1, iNp1, iNp2, iNp3, iNp4, iNp5, iNp6, iNp8, iNp12, iNp16, iNp20, iNp305, iNl1, iNl6, iNl9, iNl12, iNl41, iNl65, iNl305, iNl306, iNl354, iNl1154, iNl1155, iNl1203, iNm2, iNm4, iNm6, iNm8, iNm10, iNm12, iNm60, iNm305, iNs1, iNs4, iNs8, rSi H, rSp H, rSc H, rSP H, rSO H, rSPi H, rSPp H, rSPc H, rSOi H, rSOp H, rSOc H, rSr0 H, rSr1 H, rSr2 H, rSr3 H, rSr4 H, rSr5 H, rSa3 H, rSa4 H, rSa5 H, rSs3 H, rSs4 H, rSs5 H, rSf0 H, rSf1 H, rSf2 H, rSf3 H, rSf4 H, rSf5 H, rSf6 H, rSf7 H]
  refine w_tells H ho hob hs hp c1 (fun f hf => ?_)
  have e5 : va_up iv (b + 5) f (b + 5) = f := va_up_self _ _ _
  obtain ⟨f0, f1, f2, f3, f4, f5, f6, f7⟩ := hf
  have hF8 : ∀ j : Nat, j < 8 → f j = sF W p t d n k j := by
    intro j hj
    unfold sF
    rw [c3] at f2
    rw [c4] at f3
    rw [c7] at f5
    rw [c8] at f6
    rw [c6, c2] at f7
    match j, hj with
    | 0, _ => simpa using f0
    | 1, _ => simpa [c5] using f1
    | 2, _ => simpa using f2
    | 3, _ => simpa using f3
    | 4, _ => simpa using f4
    | 5, _ => simpa using f5
    | 6, _ => simpa using f6
    | 7, _ => simpa using f7
    | j + 8, h => omega
  have hok : okF f := ⟨by rw [f6]; exact bI_o, by rw [f7]; exact bI_o⟩
  have hL2 : cL n1 top (va_up iv (b + 5) f) u b lm K N C := hL.up (Kp.upi hb) (by rw [va_up_ne _ _ (by omega)]) rfl
  refine w_wears_25 (x := 1) H hL2 (by rw [e5]; exact hok) ?_ lm 0 gN (by omega) (by rw [gN_eq]; have := hL.1; omega)
  rw [e5, sLW_eq lm, sSum_c hC hF8]
  exact hP f
end FR
