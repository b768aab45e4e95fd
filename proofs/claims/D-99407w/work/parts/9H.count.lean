/-! OP: count -/
section OC
variable {iv jv kv lv : gV} {u v : gU} {x z b n t : Nat} {W : Nat → Int32} {pn on rm : Nat} {L : gLw}
/-- slots with props -/
def fMk (W : Nat → Int32) (pn : Nat) : Nat → Nat → Int32 → Int32
  | 0, _, s => s
  | k + 1, i, s => fMk W pn k (i + 1) (s ||| if sIn W pn (iN i) = -1 then 0 else (1 : Int32) <<< (iN i &&& 31))
/-- worn of all -/
def wSm (W : Nat → Int32) : Nat → Nat → Int32 → Int32
  | 0, _, s => s
  | k + 1, i, s => wSm W k (i + 1) (s + W (9 + 4 * i + 2))
theorem w_full_4 (HX : XS u x) (h : ∀ s : Nat, s < 10 → iv (x + 28 + 4) s = sIn W pn (iN s)) {P : Int32 → g_H → Prop} : ∀ (k i n : Nat) (s : Int32), i + k = 10 → k < n → (gW (f_X1_full_4 n x s (iN i)) (iv, u) P ↔ P (fMk W pn k i s) (iv, u)) := by
  intro k
  induction k with
  | zero =>
    intro i n s h1 h2
    obtain ⟨n, rfl⟩ : ∃ n', n = n' + 1 := ⟨n - 1, by omega⟩
    have : i = 10 := by omega
    subst this
    unfold f_X1_full_4 f_X1_full_39
    rw [gW_ift (by decide), gW_ret]
    rfl
  | succ k ih =>
    intro i n s h1 h2
    obtain ⟨n, rfl⟩ : ∃ n', n = n' + 1 := ⟨n - 1, by omega⟩
    unfold f_X1_full_4 f_X1_full_31
    rw [gW_iff (by rw [show (10 : Int32) = iN 10 from rfl, iN_le (by omega) (by omega)]; omega), gW_B, rXr1 HX, gW_B, rSr3 HX.nw, gW_B, rSa3 HX.nw (by omega), h i (by omega), fMk]
    by_cases c : sIn W pn (iN i) = -1
    · rw [gW_ift c, if_pos c, iNp1]; exact ih (i + 1) n _ (by omega) (by omega)
    · rw [gW_iff c, if_neg c, iNp1]; exact ih (i + 1) n _ (by omega) (by omega)
theorem w_slots_4 (H : MS u (x + 353)) (e : iv (x + 353 + 1) = W) (h0 : W 0 = iN pn) (h8 : pn ≤ 8) {P : Int32 → g_H → Prop} : ∀ (k i n : Nat) (s : Int32), i + k = 10 → k < n → (gW (f_X8_slotsWithProps_4 n (x + 353) s (iN i)) (iv, u) P ↔ P (fMk W pn k i s) (iv, u)) := by
  intro k
  induction k with
  | zero =>
    intro i n s h1 h2
    obtain ⟨n, rfl⟩ : ∃ n', n = n' + 1 := ⟨n - 1, by omega⟩
    have : i = 10 := by omega
    subst this
    unfold f_X8_slotsWithProps_4 f_X8_slotsWithProps_35
    rw [gW_ift (by decide), gW_ret]
    rfl
  | succ k ih =>
    intro i n s h1 h2
    obtain ⟨n, rfl⟩ : ∃ n', n = n' + 1 := ⟨n - 1, by omega⟩
    unfold f_X8_slotsWithProps_4 f_X8_slotsWithProps_27
    rw [gW_iff (by rw [show (10 : Int32) = iN 10 from rfl, iN_le (by omega) (by omega)]; omega), gW_B, rMc H, gW_B, w_propIn H (by rw [e]; exact h0) h8, e, fMk]
    by_cases c : sIn W pn (iN i) = -1
    · rw [gW_ift c, if_pos c, iNp1]; exact ih (i + 1) n _ (by omega) (by omega)
    · rw [gW_iff c, if_neg c, iNp1]; exact ih (i + 1) n _ (by omega) (by omega)
theorem w_worn_4 (HX : XS u x) (h6 : iv (x + 28) 6 = iN pn) (h8 : pn ≤ 8) (h : ∀ p : Nat, p < pn → iv (x + 28 + 7 + p) 2 = W (9 + 4 * p + 2)) {P : Int32 → g_H → Prop} : ∀ (k i n : Nat) (s : Int32), i + k = pn → k < n → (gW (f_X1_worn_4 n x s (iN i)) (iv, u) P ↔ P (wSm W k i s) (iv, u)) := by
  intro k
  induction k with
  | zero =>
    intro i n s h1 h2
    obtain ⟨n, rfl⟩ : ∃ n', n = n' + 1 := ⟨n - 1, by omega⟩
    unfold f_X1_worn_4 f_X1_worn_36
    rw [gW_B, rXr1 HX, gW_B, rSi HX.nw, h6, gW_ift (by rw [iN_le (by omega) (by omega)]; omega), gW_ret]
    rfl
  | succ k ih =>
    intro i n s h1 h2
    obtain ⟨n, rfl⟩ : ∃ n', n = n' + 1 := ⟨n - 1, by omega⟩
    rw [f_X1_worn_4, gW_B, rXr1 HX, gW_B, rSi HX.nw, h6, gW_iff (by rw [iN_le (by omega) (by omega)]; omega), gW_B, rXr1 HX, gW_B, rSr0 HX.nw, gW_B, rSP HX.nw (by omega), gW_B, rSPi HX.nw (by omega), h i (by omega), wSm, iNp1]
    exact ih (i + 1) n _ (by omega) (by omega)
theorem w_wornAll_4 (H : MS u (x + 353)) (e : iv (x + 353 + 1) = W) (h0 : W 0 = iN pn) (h8 : pn ≤ 8) {P : Int32 → g_H → Prop} : ∀ (k i n : Nat) (s : Int32), i + k = pn → k < n → (gW (f_X8_wornOfAll_4 n (x + 353) s (iN i)) (iv, u) P ↔ P (wSm W k i s) (iv, u)) := by
  intro k
  induction k with
  | zero =>
    intro i n s h1 h2
    obtain ⟨n, rfl⟩ : ∃ n', n = n' + 1 := ⟨n - 1, by omega⟩
    unfold f_X8_wornOfAll_4 f_X8_wornOfAll_27
    rw [gW_B, rMc H, gW_B, w_props H, e, h0, gW_ift (by rw [iN_le (by omega) (by omega)]; omega), gW_ret]
    rfl
  | succ k ih =>
    intro i n s h1 h2
    obtain ⟨n, rfl⟩ : ∃ n', n = n' + 1 := ⟨n - 1, by omega⟩
    rw [f_X8_wornOfAll_4, gW_B, rMc H, gW_B, w_props H, e, h0, gW_iff (by rw [iN_le (by omega) (by omega)]; omega), gW_B, rMc H, gW_B, w_ofProp2 H (by omega), e, wSm, iNp1]
    exact ih (i + 1) n _ (by omega) (by omega)
theorem o_count (ht : t ≤ 64) {a : Int32} : gOp1 x z b n t (f_X1_count x a) (f_X8_count (x + 353) a) := by
  intro iv u hR
  obtain ⟨pn, on, rm, L, q, r, hq, hr, g3, g4, g5, h1, h2, g6, hC, hM⟩ := hR.all
  have HX := hC.X
  have h8 := hC.p8
  have h6 := hC.o6
  have hrm : rm < 1000 := by have := h1.2.2.1; omega
  have hW := h1.2.1
  unfold f_X1_count
  by_cases c0 : a = 0
  · subst c0
    rw [gW_ift rfl, gW_B, rXr1 HX, gW_B, rSi HX.nw, h1.1.1.1, gW_ret]
    unfold f_X8_count f_X8_count_143
    refine m_z hM (fun lv z1 z2 z3 hM2 => ?_)
    have H := hM2.M
    rw [gW_iff (by decide), gW_iff (by decide), gW_iff (by decide), gW_iff (by decide), gW_iff (by decide), gW_iff (by decide), gW_iff (by decide), gW_iff (by decide), gW_iff (by decide), gW_B, m_in_t (by decide), gW_iff (by decide), gW_B, rMr0 H, gW_B, rMA0_0 H, hM2.vE, gW_ret]
    exact ⟨rfl, hR.fr (by omega) z1⟩
  by_cases c1 : a = 1
  · subst c1
    rw [gW_iff (by decide), gW_ift rfl, gW_B, rXr1 HX, gW_B, rSi HX.nw, h1.1.1.2.1, gW_ret]
    unfold f_X8_count f_X8_count_143
    refine m_z hM (fun lv z1 z2 z3 hM2 => ?_)
    have H := hM2.M
    rw [gW_iff (by decide), gW_iff (by decide), gW_iff (by decide), gW_iff (by decide), gW_iff (by decide), gW_iff (by decide), gW_iff (by decide), gW_iff (by decide), gW_iff (by decide), gW_B, m_in_t (by decide), gW_iff (by decide), gW_B, rMr0 H, gW_B, rMA0_1 H, hM2.vE, gW_ret]
    exact ⟨rfl, hR.fr (by omega) z1⟩
  by_cases c2 : a = 2
  · subst c2
    rw [gW_iff (by decide), gW_iff (by decide), gW_ift rfl, gW_B, rXr1 HX, gW_B, rSi HX.nw, h1.1.1.2.2.1, gW_ret]
    unfold f_X8_count f_X8_count_143
    refine m_z hM (fun lv z1 z2 z3 hM2 => ?_)
    have H := hM2.M
    rw [gW_iff (by decide), gW_iff (by decide), gW_iff (by decide), gW_iff (by decide), gW_iff (by decide), gW_iff (by decide), gW_iff (by decide), gW_iff (by decide), gW_iff (by decide), gW_B, m_in_t (by decide), gW_iff (by decide), gW_B, rMr0 H, gW_B, rMA0_2 H, hM2.vE, gW_ret]
    exact ⟨rfl, hR.fr (by omega) z1⟩
  by_cases c3 : a = 3
  · subst c3
    rw [gW_iff (by decide), gW_iff (by decide), gW_iff (by decide), gW_ift rfl, gW_B, rXr1 HX, gW_B, rSi HX.nw, gW_ret]
    unfold f_X8_count f_X8_count_90
    refine m_z hM (fun lv z1 z2 z3 hM2 => ?_)
    have H := hM2.M
    rw [gW_ift rfl, gW_B, rMr0 H, gW_B, rMA0_3 H, hM2.vE]
    rcases h2 with ⟨w3, w4⟩ | ⟨w3, w4, -⟩
    · rw [gW_iff (by rw [w3]; decide), gW_ret]
      exact ⟨h1.2.2.2.2.mpr w3, hR.fr (by omega) z1⟩
    · rw [gW_ift w3, gW_B, rMr0 H, gW_B, rMA0_305 H, hM2.vE, gW_ret]
      refine ⟨?_, hR.fr (by omega) z1⟩
      rcases h1.2.2.2.1.1.2.1 with ⟨e1, -⟩ | e1
      · have := h1.2.2.2.2.mp e1
        rw [w3] at this
        exact absurd this (by decide)
      · exact e1.trans w4.symm
  by_cases c4 : a = 4
  · subst c4
    rw [gW_iff (by decide), gW_iff (by decide), gW_iff (by decide), gW_iff (by decide), gW_ift rfl, gW_B, rXr1 HX, gW_B, rSi HX.nw, h1.1.1.2.2.2.1, gW_ret]
    unfold f_X8_count f_X8_count_143
    refine m_z hM (fun lv z1 z2 z3 hM2 => ?_)
    have H := hM2.M
    rw [gW_iff (by decide), gW_iff (by decide), gW_iff (by decide), gW_iff (by decide), gW_iff (by decide), gW_iff (by decide), gW_iff (by decide), gW_iff (by decide), gW_iff (by decide), gW_B, m_in_t (by decide), gW_iff (by decide), gW_B, rMr0 H, gW_B, rMA0_4 H, hM2.vE, gW_ret]
    exact ⟨rfl, hR.fr (by omega) z1⟩
  by_cases c5 : a = 5
  · subst c5
    rw [gW_iff (by decide), gW_iff (by decide), gW_iff (by decide), gW_iff (by decide), gW_iff (by decide), gW_ift rfl, gW_B, rXr1 HX, gW_B, rSi HX.nw, h1.1.1.2.2.2.2.1, gW_ret]
    unfold f_X8_count f_X8_count_143
    refine m_z hM (fun lv z1 z2 z3 hM2 => ?_)
    have H := hM2.M
    rw [gW_iff (by decide), gW_iff (by decide), gW_iff (by decide), gW_iff (by decide), gW_iff (by decide), gW_iff (by decide), gW_iff (by decide), gW_iff (by decide), gW_iff (by decide), gW_B, m_in_t (by decide), gW_iff (by decide), gW_B, rMr0 H, gW_B, rMA0_5 H, hM2.vE, gW_ret]
    exact ⟨rfl, hR.fr (by omega) z1⟩
  by_cases c6 : a = 6
  · subst c6
    rw [gW_iff (by decide), gW_iff (by decide), gW_iff (by decide), gW_iff (by decide), gW_iff (by decide), gW_iff (by decide), gW_ift rfl, gW_B, rXr1 HX, gW_B, rSi HX.nw, h1.1.1.2.2.2.2.2.1, gW_ret]
    unfold f_X8_count f_X8_count_143
    refine m_z hM (fun lv z1 z2 z3 hM2 => ?_)
    have H := hM2.M
    rw [gW_iff (by decide), gW_iff (by decide), gW_iff (by decide), gW_iff (by decide), gW_iff (by decide), gW_iff (by decide), gW_iff (by decide), gW_iff (by decide), gW_iff (by decide), gW_B, m_in_t (by decide), gW_iff (by decide), gW_B, rMr0 H, gW_B, rMA0_6 H, hM2.vE, gW_ret]
    exact ⟨rfl, hR.fr (by omega) z1⟩
  by_cases c7 : a = 7
  · subst c7
    rw [gW_iff (by decide), gW_iff (by decide), gW_iff (by decide), gW_iff (by decide), gW_iff (by decide), gW_iff (by decide), gW_iff (by decide), gW_ift rfl, gW_B, rXc HX, gW_B]
    unfold f_X1_full
    show gW (f_X1_full_4 gN x 0 (iN 0)) _ _
    rw [w_full_4 HX (fun s hs => hC.s hs) 10 0 gN 0 (by omega) (by rw [gN_eq]; omega), gW_ret]
    unfold f_X8_count f_X8_slotsWithProps
    refine m_z hM (fun lv z1 z2 z3 hM2 => ?_)
    have H := hM2.M
    rw [gW_iff (by decide), gW_ift rfl, gW_B, rMc H, gW_B]
    show gW (f_X8_slotsWithProps_4 gN (x + 353) 0 (iN 0)) _ _
    rw [w_slots_4 H hM2.vE hW.1.1 h8 10 0 gN 0 (by omega) (by rw [gN_eq]; omega), gW_ret]
    exact ⟨rfl, hR.fr (by omega) z1⟩
  by_cases c8 : a = 8
  · subst c8
    rw [gW_iff (by decide), gW_iff (by decide), gW_iff (by decide), gW_iff (by decide), gW_iff (by decide), gW_iff (by decide), gW_iff (by decide), gW_iff (by decide), gW_ift rfl, gW_B, rXr1 HX, gW_B, rSc HX.nw, gW_B, w_those HX.nw h1.1 hW, gW_ret]
    unfold f_X8_count
    refine m_z hM (fun lv z1 z2 z3 hM2 => ?_)
    have H := hM2.M
    rw [gW_iff (by decide), gW_iff (by decide), gW_ift rfl, gW_B, rMc H, gW_B, show (8 : Int32) - 8 = 0 from rfl, w_ofState H hM2.vE hW, gW_ret]
    exact ⟨rfl, hR.fr (by omega) z1⟩
  by_cases c9 : a = 9
  · subst c9
    rw [gW_iff (by decide), gW_iff (by decide), gW_iff (by decide), gW_iff (by decide), gW_iff (by decide), gW_iff (by decide), gW_iff (by decide), gW_iff (by decide), gW_iff (by decide), gW_ift rfl, gW_B, rXr1 HX, gW_B, rSc HX.nw, gW_B, w_those HX.nw h1.1 hW, gW_ret]
    unfold f_X8_count
    refine m_z hM (fun lv z1 z2 z3 hM2 => ?_)
    have H := hM2.M
    rw [gW_iff (by decide), gW_iff (by decide), gW_iff (by decide), gW_ift rfl, gW_B, rMc H, gW_B, show (9 : Int32) - 8 = 1 from rfl, w_ofState H hM2.vE hW, gW_ret]
    exact ⟨rfl, hR.fr (by omega) z1⟩
  by_cases c10 : a = 10
  · subst c10
    rw [gW_iff (by decide), gW_iff (by decide), gW_iff (by decide), gW_iff (by decide), gW_iff (by decide), gW_iff (by decide), gW_iff (by decide), gW_iff (by decide), gW_iff (by decide), gW_iff (by decide), gW_ift rfl, gW_B, rXr1 HX, gW_B, rSc HX.nw, gW_B, w_those HX.nw h1.1 hW, gW_ret]
    unfold f_X8_count
    refine m_z hM (fun lv z1 z2 z3 hM2 => ?_)
    have H := hM2.M
    rw [gW_iff (by decide), gW_iff (by decide), gW_iff (by decide), gW_iff (by decide), gW_ift rfl, gW_B, rMc H, gW_B, show (10 : Int32) - 8 = 2 from rfl, w_ofState H hM2.vE hW, gW_ret]
    exact ⟨rfl, hR.fr (by omega) z1⟩
  by_cases c11 : a = 11
  · subst c11
    rw [gW_iff (by decide), gW_iff (by decide), gW_iff (by decide), gW_iff (by decide), gW_iff (by decide), gW_iff (by decide), gW_iff (by decide), gW_iff (by decide), gW_iff (by decide), gW_iff (by decide), gW_iff (by decide), gW_ift rfl, gW_B, rXr1 HX, gW_B, rSc HX.nw, gW_B, w_those HX.nw h1.1 hW, gW_ret]
    unfold f_X8_count
    refine m_z hM (fun lv z1 z2 z3 hM2 => ?_)
    have H := hM2.M
    rw [gW_iff (by decide), gW_iff (by decide), gW_iff (by decide), gW_iff (by decide), gW_iff (by decide), gW_ift rfl, gW_B, rMc H, gW_B, show (11 : Int32) - 8 = 3 from rfl, w_ofState H hM2.vE hW, gW_ret]
    exact ⟨rfl, hR.fr (by omega) z1⟩
  by_cases c12 : a = 12
  · subst c12
    rw [gW_iff (by decide), gW_iff (by decide), gW_iff (by decide), gW_iff (by decide), gW_iff (by decide), gW_iff (by decide), gW_iff (by decide), gW_iff (by decide), gW_iff (by decide), gW_iff (by decide), gW_iff (by decide), gW_iff (by decide), gW_ift rfl, gW_B, rXc HX, gW_B]
    unfold f_X1_worn
    show gW (f_X1_worn_4 gN x 0 (iN 0)) _ _
    rw [w_worn_4 HX hC.pN h8 (fun p hp => h1.1.2.1 p hp 2 (by decide)) pn 0 gN 0 (by omega) (by rw [gN_eq]; omega), gW_ret]
    unfold f_X8_count f_X8_wornOfAll
    refine m_z hM (fun lv z1 z2 z3 hM2 => ?_)
    have H := hM2.M
    rw [gW_iff (by decide), gW_iff (by decide), gW_iff (by decide), gW_iff (by decide), gW_iff (by decide), gW_iff (by decide), gW_ift rfl, gW_B, rMc H, gW_B]
    show gW (f_X8_wornOfAll_4 gN (x + 353) 0 (iN 0)) _ _
    rw [w_wornAll_4 H hM2.vE hW.1.1 h8 pn 0 gN 0 (by omega) (by rw [gN_eq]; omega), gW_ret]
    exact ⟨rfl, hR.fr (by omega) z1⟩
  by_cases c13 : a = 13
  · subst c13
    rw [gW_iff (by decide), gW_iff (by decide), gW_iff (by decide), gW_iff (by decide), gW_iff (by decide), gW_iff (by decide), gW_iff (by decide), gW_iff (by decide), gW_iff (by decide), gW_iff (by decide), gW_iff (by decide), gW_iff (by decide), gW_iff (by decide), gW_ift rfl, gW_B, rXr1 HX, gW_B, rSi HX.nw, h1.1.1.2.2.2.2.2.2.2, gW_B, w_min, mN60 hrm, gW_ret]
    unfold f_X8_count
    refine m_z hM (fun lv z1 z2 z3 hM2 => ?_)
    have H := hM2.M
    rw [gW_iff (by decide), gW_iff (by decide), gW_iff (by decide), gW_iff (by decide), gW_iff (by decide), gW_iff (by decide), gW_iff (by decide), gW_ift rfl, gW_B, rMr0 H, gW_B, rMA0_7 H, hM2.vE, h1.1.2.2.2.2.1, gW_ret]
    exact ⟨rfl, hR.fr (by omega) z1⟩
  by_cases c14 : a = 14
  · subst c14
    rw [gW_iff (by decide), gW_iff (by decide), gW_iff (by decide), gW_iff (by decide), gW_iff (by decide), gW_iff (by decide), gW_iff (by decide), gW_iff (by decide), gW_iff (by decide), gW_iff (by decide), gW_iff (by decide), gW_iff (by decide), gW_iff (by decide), gW_iff (by decide), gW_ift rfl, gW_B, rXi HX, g3, gW_ret]
    unfold f_X8_count
    refine m_z hM (fun lv z1 z2 z3 hM2 => ?_)
    have H := hM2.M
    rw [gW_iff (by decide), gW_iff (by decide), gW_iff (by decide), gW_iff (by decide), gW_iff (by decide), gW_iff (by decide), gW_iff (by decide), gW_iff (by decide), gW_ift rfl, gW_B, rMi H, z1.2.2.2.1 7 (by omega), g4, gW_ret]
    exact ⟨rfl, hR.fr (by omega) z1⟩
  rw [gW_iff c0, gW_iff c1, gW_iff c2, gW_iff c3, gW_iff c4, gW_iff c5, gW_iff c6, gW_iff c7, gW_iff c8, gW_iff c9, gW_iff c10, gW_iff c11, gW_iff c12, gW_iff c13, gW_iff c14, gW_ret]
  unfold f_X8_count f_X8_count_143
  refine m_z hM (fun lv z1 z2 z3 hM2 => ?_)
  have H := hM2.M
  have hn : ¬ (0 ≤ a ∧ a ≤ 6) := by
    intro hh
    obtain ⟨k, hk, rfl⟩ := i_get2 (n := 6) (by decide) hh
    have : k = 0 ∨ k = 1 ∨ k = 2 ∨ k = 3 ∨ k = 4 ∨ k = 5 ∨ k = 6 := by omega
    rcases this with rfl | rfl | rfl | rfl | rfl | rfl | rfl
    · exact c0 rfl
    · exact c1 rfl
    · exact c2 rfl
    · exact c3 rfl
    · exact c4 rfl
    · exact c5 rfl
    · exact c6 rfl
  rw [gW_iff c3, gW_iff c7, gW_iff c8, gW_iff c9, gW_iff c10, gW_iff c11, gW_iff c12, gW_iff c13, gW_iff c14, gW_B, m_in_f hn, gW_ift rfl, gW_ret]
  exact ⟨rfl, hR.fr (by omega) z1⟩
end OC
