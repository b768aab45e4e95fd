/-! OPS: alike, corners, share -/
section COR
variable {iv jv kv lv : gV} {u v : gU} {x z b n t : Nat} {V : Nat → Int32} {pn on : Nat} {L : gLw}
/-- two accused are alike -/
def alE (V : Nat → Int32) (a c : Nat) : Nat := if V (41 + 4 * a + 0) = V (41 + 4 * c + 0) ∧ V (41 + 4 * a + 1) = V (41 + 4 * c + 1) then 1 else 0
theorem alE_s (a c : Nat) : alE V a c = alE V c a := by
  unfold alE
  by_cases h : V (41 + 4 * a + 0) = V (41 + 4 * c + 0) ∧ V (41 + 4 * a + 1) = V (41 + 4 * c + 1)
  · rw [if_pos h, if_pos ⟨h.1.symm, h.2.symm⟩]
  · rw [if_neg h, if_neg (fun q => h ⟨q.1.symm, q.2.symm⟩)]
theorem al_sum (h6 : on ≤ 6) : nS (fun a => nS (alE V a) (on - 1 - a) (a + 1)) on 0 = nS (fun a => nS (alE V a) a 0) on 0 := by
  have e01 := alE_s (V := V) 0 1
  have e02 := alE_s (V := V) 0 2
  have e03 := alE_s (V := V) 0 3
  have e04 := alE_s (V := V) 0 4
  have e05 := alE_s (V := V) 0 5
  have e12 := alE_s (V := V) 1 2
  have e13 := alE_s (V := V) 1 3
  have e14 := alE_s (V := V) 1 4
  have e15 := alE_s (V := V) 1 5
  have e23 := alE_s (V := V) 2 3
  have e24 := alE_s (V := V) 2 4
  have e25 := alE_s (V := V) 2 5
  have e34 := alE_s (V := V) 3 4
  have e35 := alE_s (V := V) 3 5
  have e45 := alE_s (V := V) 4 5
  have : on = 0 ∨ on = 1 ∨ on = 2 ∨ on = 3 ∨ on = 4 ∨ on = 5 ∨ on = 6 := by omega
  rcases this with rfl | rfl | rfl | rfl | rfl | rfl | rfl <;> simp only [nS, Nat.reduceAdd, Nat.reduceSub] <;> omega
theorem c_alike_19 (hC : CI x iv u V pn on L) {a : Nat} (ha : a < on) {k4 : Nat → Int32 → Int32 → gM Int32} {P : Int32 → g_H → Prop} : ∀ (k c N m : Nat), c + k = on → k < N → gW (k4 x (iN (m + nS (alE V a) k c)) (iN (a + 1))) (iv, u) P → gW (f_X1_alike_19 k4 N x (iN m) (iN a) (iN c)) (iv, u) P := by
  have HX := hC.X
  have h6 := hC.o6
  intro k
  induction k with
  | zero =>
    intro c N m h1 h2 hP
    obtain ⟨N, rfl⟩ : ∃ N', N = N' + 1 := ⟨N - 1, by omega⟩
    unfold f_X1_alike_19 f_X1_alike_98
    rw [gW_B, rXr1 HX, gW_B, rSi HX.nw, hC.oN, gW_ift (by rw [iN_le (by omega) (by omega)]; omega), iNp1]
    exact hP
  | succ k ih =>
    intro c N m h1 h2 hP
    obtain ⟨N, rfl⟩ : ∃ N', N = N' + 1 := ⟨N - 1, by omega⟩
    have go : ∀ y : Nat, y = alE V a c → gW (f_X1_alike_19 k4 N x (iN m + iN y) (iN a) (iN c + 1)) (iv, u) P := by
      intro y hy
      rw [iN_add, iNp1]
      refine ih (c + 1) N _ (by omega) (by omega) ?_
      rw [nS, ← Nat.add_assoc, ← hy] at hP
      exact hP
    rw [f_X1_alike_19, gW_B, rXr1 HX, gW_B, rSi HX.nw, hC.oN, gW_iff (by rw [iN_le (by omega) (by omega)]; omega), gW_B, rXr1 HX, gW_B, rSr1 HX.nw, gW_B, rSO HX.nw (by omega), gW_B, rSOi HX.nw (by omega), hC.o ha (by decide), gW_B, rXr1 HX, gW_B, rSr1 HX.nw, gW_B, rSO HX.nw (by omega), gW_B, rSOi HX.nw (by omega), hC.o (show c < on by omega) (by decide)]
    unfold f_X1_alike_89 f_X1_alike_90
    by_cases e1 : V (41 + 4 * a + 0) = V (41 + 4 * c + 0)
    · rw [gW_ift e1, gW_B, rXr1 HX, gW_B, rSr1 HX.nw, gW_B, rSO HX.nw (by omega), gW_B, rSOi HX.nw (by omega), hC.o ha (by decide), gW_B, rXr1 HX, gW_B, rSr1 HX.nw, gW_B, rSO HX.nw (by omega), gW_B, rSOi HX.nw (by omega), hC.o (show c < on by omega) (by decide)]
      by_cases e2 : V (41 + 4 * a + 1) = V (41 + 4 * c + 1)
      · rw [gW_ift e2]
        exact go 1 (by unfold alE; rw [if_pos ⟨e1, e2⟩])
      · rw [gW_iff e2]
        exact go 0 (by unfold alE; rw [if_neg (fun q => e2 q.2)])
    · rw [gW_iff e1]
      exact go 0 (by unfold alE; rw [if_neg (fun q => e1 q.1)])
theorem c_alike_4 (hC : CI x iv u V pn on L) {P : Int32 → g_H → Prop} : ∀ (k a N m : Nat), a + k = on → k < N → P (iN (m + nS (fun a => nS (alE V a) (on - 1 - a) (a + 1)) k a)) (iv, u) → gW (f_X1_alike_4 N x (iN m) (iN a)) (iv, u) P := by
  have HX := hC.X
  have h6 := hC.o6
  intro k
  induction k with
  | zero =>
    intro a N m h1 h2 hP
    obtain ⟨N, rfl⟩ : ∃ N', N = N' + 1 := ⟨N - 1, by omega⟩
    unfold f_X1_alike_4 f_X1_alike_104
    rw [gW_B, rXr1 HX, gW_B, rSi HX.nw, hC.oN, gW_ift (by rw [iN_le (by omega) (by omega)]; omega), gW_ret]
    exact hP
  | succ k ih =>
    intro a N m h1 h2 hP
    obtain ⟨N, rfl⟩ : ∃ N', N = N' + 1 := ⟨N - 1, by omega⟩
    rw [f_X1_alike_4, gW_B, rXr1 HX, gW_B, rSi HX.nw, hC.oN, gW_iff (by rw [iN_le (by omega) (by omega)]; omega), iNp1]
    refine c_alike_19 hC (show a < on by omega) (on - 1 - a) (a + 1) gN m (by omega) (by rw [gN_eq]; omega) ?_
    refine ih (a + 1) N _ (by omega) (by omega) ?_
    rw [nS, ← Nat.add_assoc] at hP
    exact hP
theorem m_alike_19 (hM : MI x iv u V pn on L) {a : Nat} (ha : a < on) {k4 : Nat → Int32 → Int32 → gM Int32} {P : Int32 → g_H → Prop} : ∀ (k c N m : Nat), c + k = a → k < N → gW (k4 (x + 353) (iN (m + nS (alE V a) k c)) (iN (a + 1))) (iv, u) P → gW (f_X8_alike_19 k4 N (x + 353) (iN m) (iN a) (iN c)) (iv, u) P := by
  have H := hM.M
  have h6 := hM.o6
  intro k
  induction k with
  | zero =>
    intro c N m h1 h2 hP
    obtain ⟨N, rfl⟩ : ∃ N', N = N' + 1 := ⟨N - 1, by omega⟩
    unfold f_X8_alike_19 f_X8_alike_68
    rw [gW_ift (by rw [iN_le (by omega) (by omega)]; omega), iNp1]
    exact hP
  | succ k ih =>
    intro c N m h1 h2 hP
    obtain ⟨N, rfl⟩ : ∃ N', N = N' + 1 := ⟨N - 1, by omega⟩
    have go : ∀ y : Nat, y = alE V a c → gW (f_X8_alike_19 k4 N (x + 353) (iN m + iN y) (iN a) (iN c + 1)) (iv, u) P := by
      intro y hy
      rw [iN_add, iNp1]
      refine ih (c + 1) N _ (by omega) (by omega) ?_
      rw [nS, ← Nat.add_assoc, ← hy] at hP
      exact hP
    rw [f_X8_alike_19, gW_iff (by rw [iN_le (by omega) (by omega)]; omega), gW_B, rMc H, gW_B, w_of0 H (by omega), gW_B, rMc H, gW_B, w_of0 H (by omega), hM.vE]
    unfold f_X8_alike_59 f_X8_alike_60
    by_cases e1 : V (41 + 4 * a + 0) = V (41 + 4 * c + 0)
    · rw [gW_ift e1, gW_B, rMc H, gW_B, w_of1 H (by omega), gW_B, rMc H, gW_B, w_of1 H (by omega), hM.vE]
      by_cases e2 : V (41 + 4 * a + 1) = V (41 + 4 * c + 1)
      · rw [gW_ift e2]
        exact go 1 (by unfold alE; rw [if_pos ⟨e1, e2⟩])
      · rw [gW_iff e2]
        exact go 0 (by unfold alE; rw [if_neg (fun q => e2 q.2)])
    · rw [gW_iff e1]
      exact go 0 (by unfold alE; rw [if_neg (fun q => e1 q.1)])
theorem m_alike_9 (hM : MI x iv u V pn on L) {P : Int32 → g_H → Prop} : ∀ (k a N m : Nat), a + k = on → k < N → P (iN (m + nS (fun a => nS (alE V a) a 0) k a)) (iv, u) → gW (f_X8_alike_9 N (x + 353) (iN m) (iN a)) (iv, u) P := by
  have H := hM.M
  have h6 := hM.o6
  intro k
  induction k with
  | zero =>
    intro a N m h1 h2 hP
    obtain ⟨N, rfl⟩ : ∃ N', N = N' + 1 := ⟨N - 1, by omega⟩
    unfold f_X8_alike_9 f_X8_alike_74
    rw [gW_B, rMc H, gW_B, w_oneCount H, hM.oN, gW_ift (by rw [iN_le (by omega) (by omega)]; omega), gW_ret]
    exact hP
  | succ k ih =>
    intro a N m h1 h2 hP
    obtain ⟨N, rfl⟩ : ∃ N', N = N' + 1 := ⟨N - 1, by omega⟩
    rw [f_X8_alike_9, gW_B, rMc H, gW_B, w_oneCount H, hM.oN, gW_iff (by rw [iN_le (by omega) (by omega)]; omega)]
    show gW (f_X8_alike_19 (f_X8_alike_9 N) gN (x + 353) (iN m) (iN a) (iN 0)) _ _
    refine m_alike_19 hM (show a < on by omega) a 0 gN m (by omega) (by rw [gN_eq]; omega) ?_
    refine ih (a + 1) N _ (by omega) (by omega) ?_
    rw [nS, ← Nat.add_assoc] at hP
    exact hP
theorem o_alike : gOp1 x z b n t (f_X1_alike x) (f_X8_alike (x + 353)) := by
  intro iv u hR
  obtain ⟨pn, on, rm, L, hC, hM, h1⟩ := hR.get
  have h6 := hC.o6
  unfold f_X1_alike
  show gW (f_X1_alike_4 gN x (iN 0) (iN 0)) _ _
  refine c_alike_4 hC on 0 gN 0 (by omega) (by rw [gN_eq]; omega) ?_
  refine op_end1 hR Sx.rf ?_
  unfold f_X8_alike
  refine m_z hM (fun lv z1 z2 z3 hM2 => ?_)
  show gW (f_X8_alike_9 gN (x + 353) (iN 0) (iN 0)) _ _
  refine m_alike_9 hM2 on 0 gN 0 (by omega) (by rw [gN_eq]; omega) ⟨?_, rfl, z1⟩
  rw [al_sum h6]
/-! corners -/
def coB (V : Nat → Int32) (pn : Nat) (L : gLw) (o s : Nat) : Int32 := if aO V pn L o s = true ∧ sIn V pn (iN s) = -1 ∧ ¬ tO V pn L o (s + 1) < V (41 + 4 * o + 1) / 2 then (1 : Int32) <<< (iN s &&& 31) else 0
def coF (V : Nat → Int32) (pn : Nat) (L : gLw) (o : Nat) : Nat → Nat → Int32 → Int32
  | 0, _, y => y
  | k + 1, s, y => coF V pn L o k (s + 1) (y ||| coB V pn L o s)
theorem coF_d {o : Nat} : ∀ (k s : Nat) (y : Int32), aO V pn L o s = false → coF V pn L o k s y = y := by
  intro k
  induction k with
  | zero => exact fun _ _ _ => rfl
  | succ k ih =>
    intro s y h
    rw [coF, ih (s + 1) _ (aS_mono h (by omega))]
    unfold coB
    rw [if_neg (fun q => by rw [h] at q; exact absurd q.1 (by decide)), Int32.or_zero]
/-- the next slot is come to if one has not screamed -/
theorem aO_iff (hW : WI V pn on) {o : Nat} (ho : o < on) {s : Nat} (h : ∀ i : Nat, i < s → aO V pn L o i = true) : tO V pn L o s ≤ V (41 + 4 * o + 1) ↔ aO V pn L o s = true := by
  cases s with
  | zero =>
    obtain ⟨nn, n1, n2, n3⟩ := (hW.2.2.2.1 o ho).2.1
    refine ⟨fun _ => rfl, fun _ => ?_⟩
    show (0 : Int32) ≤ _
    rw [n3, show (0 : Int32) = iN 0 from rfl, iN_le (by omega) (by omega)]
    omega
  | succ j =>
    show _ ↔ (aS V pn L _ _ _ j && decide (tS V pn L _ _ _ (j + 1) ≤ _)) = true
    rw [show aS V pn L (V (41 + 4 * o + 0)) (V (41 + 4 * o + 1)) (V (41 + 4 * o + 2)) j = true from h j (by omega), Bool.true_and, decide_eq_true_eq]
theorem c_corners_14 {o : Nat} (ho : o < on) {P : Int32 ⊕ gE → g_H → Prop} : ∀ (k s N : Nat) (y : Int32) (jv : gV), s + k = 10 → k < N → Sx x iv jv → CI x jv u V pn on L → (∀ i : Nat, i < s → aO V pn L o i = true) → (∀ kv : gV, Sx x iv kv → P (.inl (coF V pn L o k s y)) (kv, u)) → gW (f_X1_corners_14 N x (x + 28 + 15 + o) y (tO V pn L o s) (iN s)) (jv, u) P := by
  intro k
  induction k with
  | zero =>
    intro s N y jv h1 h2 hS hC hA hP
    obtain ⟨N, rfl⟩ : ∃ N', N = N' + 1 := ⟨N - 1, by omega⟩
    have : s = 10 := by omega
    subst this
    unfold f_X1_corners_14 f_X1_corners_87
    rw [gW_ift (by decide), gW_ret]
    exact hP jv hS
  | succ k ih =>
    intro s N y jv h1 h2 hS hC hA hP
    obtain ⟨N, rfl⟩ : ∃ N', N = N' + 1 := ⟨N - 1, by omega⟩
    have HX := hC.X
    have h6 := hC.o6
    have ha := aO_iff hC.W ho hA
    rw [f_X1_corners_14, gW_iff (by rw [show (10 : Int32) = iN 10 from rfl, iN_le (by omega) (by omega)]; omega), gW_B, rSOi HX.nw (by omega), hC.o ho (by decide)]
    by_cases c : aO V pn L o s = true
    · rw [gW_iff (Int32.not_lt.mpr (ha.mpr c)), gW_B, rXr1 HX, gW_B, rSc HX.nw, gW_B]
      refine c_behind hC (hC.sO ho) (by omega) (fun f => ?_)
      rw [hC.o ho (by decide), hC.o ho (by decide), hC.o ho (by decide)]
      have S2 : Sx x jv (va_up jv (x + 33) f) := Sx.up (by omega)
      have C2 := hC.fr S2
      have H2 := C2.X
      show gW (gB (gFR x 0 1) fun v104 => gB (gFR v104 2 3) fun v105 => gB (gAI v105 0 (iN s)) fun v106 => gIf (v106 = (-1 : Int32)) (gB (gFI (x + 28 + 15 + o) 4 1) fun v107 => gIf (tO V pn L o (s + 1) < (v107 / (2 : Int32))) (f_X1_corners_78 (f_X1_corners_14 N) x (x + 28 + 15 + o) (tO V pn L o (s + 1)) (iN s) y) (f_X1_corners_79 (f_X1_corners_14 N) x (x + 28 + 15 + o) (tO V pn L o (s + 1)) (iN s) y ((1 : Int32) <<< (iN s &&& 31)))) (f_X1_corners_78 (f_X1_corners_14 N) x (x + 28 + 15 + o) (tO V pn L o (s + 1)) (iN s) y)) _ _
      have hA2 : ∀ i : Nat, i < s + 1 → aO V pn L o i = true := fun i hi => by
        by_cases e : i = s
        · rw [e]; exact c
        · exact hA i (by omega)
      rw [coF] at hP
      unfold f_X1_corners_78 f_X1_corners_79
      have go : ∀ w : Int32, w = coB V pn L o s → gW (f_X1_corners_14 N x (x + 28 + 15 + o) (y ||| w) (tO V pn L o (s + 1)) (iN s + 1)) (va_up jv (x + 33) f, u) P := by
        intro w hw
        rw [iNp1, hw]
        exact ih (s + 1) N _ _ (by omega) (by omega) (hS.tr S2) C2 hA2 hP
      rw [gW_B, rXr1 H2, gW_B, rSr3 H2.nw, gW_B, rSa3 H2.nw (by omega), C2.s (by omega)]
      by_cases c2 : sIn V pn (iN s) = -1
      · rw [gW_ift c2, gW_B, rSOi H2.nw (by omega), C2.o ho (by decide)]
        by_cases c3 : tO V pn L o (s + 1) < V (41 + 4 * o + 1) / 2
        · rw [gW_ift c3]
          exact go 0 (by unfold coB; rw [if_neg (fun q => q.2.2 c3)])
        · rw [gW_iff c3]
          exact go _ (by unfold coB; rw [if_pos ⟨c, c2, c3⟩])
      · rw [gW_iff c2]
        exact go 0 (by unfold coB; rw [if_neg (fun q => c2 q.2.1)])
    · have cf : aO V pn L o s = false := by
        cases h : aO V pn L o s
        · rfl
        · exact absurd h c
      unfold f_X1_corners_87
      rw [gW_ift (Int32.not_le.mp (fun q => c (ha.mp q))), gW_ret]
      have := hP jv hS
      rw [coF_d (k + 1) s y cf] at this
      exact this
theorem m_corners_30 (hM : MI x iv u V pn on L) {o : Nat} (ho : o < on) (hL : lS L) (e19 : iv (x + 353) 19 = V (41 + 4 * o + 1)) (hA : ∀ j : Nat, j < 10 → iv (x + 353 + 9) j = (if aO V pn L o j = true then tO V pn L o (j + 1) else -1)) {P : Int32 → g_H → Prop} : ∀ (k s N : Nat) (y : Int32), s + k = 10 → k < N → (gW (f_X8_corners_30 N (x + 353) y (iN s)) (iv, u) P ↔ P (coF V pn L o k s y) (iv, u)) := by
  have H := hM.M
  have h8 := hM.p8
  intro k
  induction k with
  | zero =>
    intro s N y h1 h2
    obtain ⟨N, rfl⟩ : ∃ N', N = N' + 1 := ⟨N - 1, by omega⟩
    have : s = 10 := by omega
    subst this
    unfold f_X8_corners_30 f_X8_corners_86
    rw [gW_ift (by decide), gW_ret]
    rfl
  | succ k ih =>
    intro s N y h1 h2
    obtain ⟨N, rfl⟩ : ∃ N', N = N' + 1 := ⟨N - 1, by omega⟩
    rw [f_X8_corners_30, gW_iff (by rw [show (10 : Int32) = iN 10 from rfl, iN_le (by omega) (by omega)]; omega), gW_B, rMc H, gW_B, w_propIn H hM.pN h8, hM.vE]
    unfold f_X8_corners_77 f_X8_corners_78
    rw [coF]
    have go : ∀ w : Int32, w = coB V pn L o s → (gW (f_X8_corners_30 N (x + 353) (y ||| w) (iN s + 1)) (iv, u) P ↔ P (coF V pn L o k (s + 1) (y ||| coB V pn L o s)) (iv, u)) := by
      intro w hw
      rw [iNp1, hw]
      exact ih (s + 1) N _ (by omega) (by omega)
    by_cases c2 : sIn V pn (iN s) = -1
    · rw [gW_ift c2, gW_B, rMr8 H, gW_B, rMa8 H (by omega), hA s (by omega)]
      by_cases c : aO V pn L o s = true
      · obtain ⟨r, r1, r2⟩ := tS_n (d := V (41 + 4 * o + 0)) (n := V (41 + 4 * o + 1)) (k := V (41 + 4 * o + 2)) hM.W hL (s + 1) (by omega)
        rw [if_pos c, gW_iff (by rw [show tO V pn L o (s + 1) = iN r from r2]; exact iN_eqm (by omega)), gW_B, rMr8 H, gW_B, rMa8 H (by omega), hA s (by omega), if_pos c, gW_B, rMi H, e19]
        by_cases c3 : tO V pn L o (s + 1) < V (41 + 4 * o + 1) / 2
        · rw [gW_ift c3]
          exact go 0 (by unfold coB; rw [if_neg (fun q => q.2.2 c3)])
        · rw [gW_iff c3]
          exact go _ (by unfold coB; rw [if_pos ⟨c, c2, c3⟩])
      · rw [if_neg c, gW_ift rfl]
        exact go 0 (by unfold coB; rw [if_neg (fun q => c q.1)])
    · rw [gW_iff c2]
      exact go 0 (by unfold coB; rw [if_neg (fun q => c2 q.2.1)])
theorem o_corners {a : Int32} : gOp x z b n t (f_X0_corners x a (x + 369)) (f_X8_corners (x + 353) a) := by
  intro iv u hR
  obtain ⟨pn, on, rm, L, hC, hM, h1⟩ := hR.get
  have HX := hC.X
  have h6 := hC.o6
  have hT := hR.2.1
  unfold f_X0_corners f_X1_corners
  rw [gW_B, rXc HX, gW_B, gW_B, rXc HX, gW_T]
  by_cases ha : 0 ≤ a ∧ a ≤ iN on - 1
  · obtain ⟨o, ho, rfl⟩ := i_get (by omega) ha
    rw [w_oneAt_t hC ho]
    dsimp only
    show gW (f_X1_corners_14 gN x (x + 28 + 15 + o) 0 (tO (iv (x + 354)) pn L o 0) (iN 0)) _ _
    refine c_corners_14 ho 10 0 gN 0 iv (by omega) (by rw [gN_eq]; omega) Sx.rf hC (fun i hi => absurd hi (Nat.not_lt_zero i)) (fun kv hS => ?_)
    show gW (gB (gSI (x + 369) 2 (0 : Int32) _) _) _ _
    rw [gW_B]
    simp only [gW_ret]
    refine op_end hR hS (fun kv hS hk => ?_)
    unfold f_X8_corners
    refine m_z (hM.fr hS) (fun lv z1 z2 z3 hM2 => ?_)
    have H := hM2.M
    rw [gW_B, rMc H, gW_B, m_noOne_t hM2 ho, gW_B, rMc H, gW_B, m_thr0, gW_ift rfl, gW_B, rMc H, gW_B]
    refine m_straight hM2 ho rfl (fun mv m1 m2 m3 => ?_)
    have e1 : lv (x + 353) 23 = 0 := by rw [z1.2.2.2.1 23 (by omega), hS.2.2.2.1 23 (by omega)]; exact hT.2.2.2.1
    have e2 : lv (x + 353) 24 = 0 := by rw [z1.2.2.2.1 24 (by omega), hS.2.2.2.1 24 (by omega)]; exact hT.2.2.2.2.1
    have m4 := m3 e1 e2
    have hM3 := hM2.fr m1.S
    show gW (f_X8_corners_30 gN (x + 353) 0 (iN 0)) _ _
    rw [m_corners_30 hM3 ho hC.lS m2.2.2.1 (fun j hj => (m4 j hj).1) 10 0 gN 0 (by omega) (by rw [gN_eq]; omega)]
    exact m_end z1 z2 z3 m1 rfl
  · refine w_oneAt_f hC ha (fun a' jv v hT => ?_)
    simp only [gW_tr, gW_fa, gW_ret, cN1, cN2, cN3, cN4]
    refine op_thr hR hT (by decide) ?_
    unfold f_X8_corners
    refine m_z (hM.th hR.nx hT) (fun lv z1 z2 z3 hM2 => ?_)
    have H := hM2.M
    rw [gW_B, rMc H, gW_B, m_noOne_f hM2 ha, gW_B, rMc H, gW_B, m_thr1 H, gW_iff (by decide), gW_ret]
    exact m_te z1
end COR
