/-! OPS: log, led -/
section O9
variable {iv jv kv lv : gV} {u v : gU} {x z n t : Nat} {W : Nat → Int32} {pn on rm : Nat}
theorem mN60 (h : rm < 1000) : mN 60 (iN rm) = iN (min 60 rm) := by
  unfold mN
  by_cases c : rm < 60
  · rw [if_pos (by rw [show (60 : Int32) = iN 60 from rfl, iN_lt (by omega) (by omega)]; exact c), Nat.min_eq_right (by omega)]
  · rw [if_neg (by rw [show (60 : Int32) = iN 60 from rfl, iN_lt (by omega) (by omega)]; exact c), Nat.min_eq_left (by omega)]
    rfl
theorem in_le {a : Int32} {m : Nat} (hm : m < 1000) : (0 ≤ a ∧ a ≤ iN m - 1) ↔ ¬ a < 0 ∧ ¬ iN m ≤ a := by
  constructor
  · intro h
    obtain ⟨o, ho, rfl⟩ := i_get hm h
    exact ⟨iN_0 (by omega), by rw [iN_le (by omega) (by omega)]; omega⟩
  · intro h
    have h0 := Int32.not_lt.mp h.1
    obtain ⟨o, ho, rfl⟩ := i_get2 hm ⟨h0, Int32.le_of_lt (Int32.not_le.mp h.2)⟩
    have : o ≠ m := fun q => h.2 (by rw [q]; exact Int32.le_refl _)
    exact i_put hm (by omega)
theorem c_kept {b : Nat} (H : SS u b) {a : Int32} (h14 : iv b 14 = iN rm) (hrm : rm < 1000) {P : Int32 → g_H → Prop} : gW (f_X3_isKept b a) (iv, u) P ↔ P (bI (0 ≤ a ∧ a ≤ iN (min 60 rm) - 1)) (iv, u) := by
  have hi := in_le (a := a) (m := min 60 rm) (by omega)
  unfold f_X3_isKept f_X3_isKept_21 f_X3_isKept_22
  by_cases c : a < 0
  · rw [gW_ift c, gW_gd1 (Or.inl rfl), bI_f (fun q => (hi.mp q).1 c)]
  · rw [gW_iff c, gW_B, rSi H, h14, gW_B, w_min, mN60 hrm]
    by_cases c2 : iN (min 60 rm) ≤ a
    · rw [gW_ift c2, gW_gd1 (Or.inl rfl), bI_f (fun q => (hi.mp q).2 c2)]
    · rw [gW_iff c2, gW_gd1 (Or.inr rfl), bI_t (hi.mpr ⟨c, c2⟩)]
theorem mod60 : ∀ k : Nat, k < 100 → iN k - iN k / 60 * 60 = iN (k % 60) := by decide +kernel
theorem c_row {b : Nat} (H : SS u b) (h : cSt iv b W pn on rm) (hrm : rm ≤ 100) {i f : Nat} (hi : i < min 60 rm) (hf : f < 4) {P : Int32 → g_H → Prop} : gW (f_X3_row b (iN i) (iN f)) (iv, u) P ↔ P (W (65 + 4 * i + f)) (iv, u) := by
  have h14 := h.1.2.2.2.2.2.2.2
  have hk : (rm - 1 - i) % 60 < 60 := Nat.mod_lt _ (by decide)
  unfold f_X3_row f_X3_row_32
  rw [gW_B, rSc H, gW_B, c_kept H h14 (by omega), bI_t (i_put (by omega) hi), gW_iff (by decide), gW_B, rSr5 H, gW_B, rSi H, h14, iNs1 (by omega), iN_sub (by omega), mod60 _ (by omega), gW_B, show (4 : Int32) = iN 4 from rfl, iN_mul, iN_add, rSa5 H (by omega), gW_ret, h.2.2.2.2.2 i hi f hf]
theorem c_row_f {b : Nat} (H : SS u b) (h : cSt iv b W pn on rm) (hrm : rm ≤ 100) {a c : Int32} (ha : ¬ (0 ≤ a ∧ a ≤ iN (min 60 rm) - 1)) {P : Int32 → g_H → Prop} : gW (f_X3_row b a c) (iv, u) P ↔ P (-1) (iv, u) := by
  unfold f_X3_row f_X3_row_32
  rw [gW_B, rSc H, gW_B, c_kept H h.1.2.2.2.2.2.2.2 (by omega), bI_f ha, gW_ift rfl, gW_ret]
theorem w_ofLog (H : MS u (x + 353)) {i f : Nat} (hi : i < 60) (hf : f < 4) {P : Int32 → g_H → Prop} : gW (f_X8_ofLog (x + 353) (iN i) (iN f)) (iv, u) P ↔ P (iv (x + 353 + 1) (65 + 4 * i + f)) (iv, u) := by
  unfold f_X8_ofLog
  rw [gW_B, rMr0 H, gW_B, iNm4, iNl65, iN_add, rMa0 H (by omega), gW_ret]
theorem o_log {b : Nat} (ht : t ≤ 64) {a c : Int32} : gOp x z b n t (f_X0_log x a c (x + 369)) (f_X8_log (x + 353) a c) := by
  intro iv u hR
  obtain ⟨pn, on, rm, L, hC, hM, h1⟩ := hR.get
  have HX := hC.X
  have hrm : rm ≤ 100 := by have := h1.2.2.1; omega
  have h7 := h1.1.2.2.2.2.1
  unfold f_X0_log f_X1_log
  rw [gW_B, rXc HX, gW_B, gW_B, w_isIn, gW_T]
  by_cases hc : 0 ≤ c ∧ c ≤ 3
  · obtain ⟨f, hf, rfl⟩ := i_get2 (n := 3) (by decide) hc
    rw [w_thereIs_t (bI_t hc)]
    dsimp only
    rw [gW_B, rXr1 HX, gW_B, rSc HX.nw, gW_B]
    have fin : ∀ y : Int32, y = (if 0 ≤ a ∧ a ≤ iN (min 60 rm) - 1 then iv (x + 354) (65 + 4 * a.toInt.toNat + f) else -1) → gW (gSI (x + 369) 2 (0 : Int32) y) (iv, u) (fun _ h1 => gW (f_X8_log (x + 353) a (iN f)) h1 (fun c h2 => h2.1 (x + 353) 0 = 0 ∧ oE 0 (h2.1 (x + 369) 0) c ∧ RR x z b n (t + 1) h2.1 h2.2)) := by
      intro y hy
      refine op_end hR Sx.rf (fun kv hS hk => ?_)
      unfold f_X8_log f_X8_log_20 f_X8_log_56
      refine m_z (hM.fr hS) (fun lv z1 z2 z3 hM2 => ?_)
      have H := hM2.M
      rw [gW_B, m_in_t hc, gW_iff (by decide), gW_B, rMc H, gW_B, m_thr0, gW_ift rfl, gW_B, rMr0 H, gW_B, rMA0_7 H, hM2.vE, h7, gW_B]
      by_cases ha : 0 ≤ a ∧ a ≤ iN (min 60 rm) - 1
      · rw [m_in_t ha, gW_iff (by decide), gW_B, rMc H, gW_B]
        rw [if_pos ha] at hy
        obtain ⟨i, hi, rfl⟩ := i_get (by omega) ha
        rw [w_ofLog H (by omega) (by omega), gW_ret, hM2.vE]
        rw [iN_t (by omega)] at hy
        exact m_end z1 z2 z3 Sm.rf (by rw [hy]; rfl)
      · rw [m_in_f ha, gW_ift rfl, gW_ret]
        rw [if_neg ha] at hy
        exact m_end z1 z2 z3 Sm.rf hy.symm
    by_cases ha : 0 ≤ a ∧ a ≤ iN (min 60 rm) - 1
    · obtain ⟨i, hi, rfl⟩ := i_get (by omega) ha
      rw [c_row HX.nw h1.1 hrm hi (by omega), gW_ret]
      show gW (gB (gSI (x + 369) 2 (0 : Int32) _) _) _ _
      rw [gW_B]
      simp only [gW_ret]
      exact fin _ (by rw [if_pos ha, iN_t (by omega)]; rfl)
    · rw [c_row_f HX.nw h1.1 hrm ha, gW_ret]
      show gW (gB (gSI (x + 369) 2 (0 : Int32) _) _) _ _
      rw [gW_B]
      simp only [gW_ret]
      exact fin _ (by rw [if_neg ha])
  · refine w_thereIs_f (bI_f hc) (fun a' jv v hT => ?_)
    show gW (gIf ((20 : Nat) = 20) (gRet 1) gFail) (jv, v) _
    rw [gW_ift rfl, gW_ret]
    refine op_thr hR hT (by decide) ?_
    unfold f_X8_log f_X8_log_20
    refine m_z (hM.th hR.nx hT) (fun lv z1 z2 z3 hM2 => ?_)
    have H := hM2.M
    rw [gW_B, m_in_f hc, gW_ift rfl, gW_B, rMc H, gW_B, m_thr1 H, gW_iff (by decide), gW_ret]
    exact m_te z1
/-- who was led where, as the log has it -/
def ledF (W : Nat → Int32) (a c : Int32) : Nat → Nat → Int32 → Int32
  | 0, _, s => s
  | k + 1, i, s => ledF W a c k (i + 1) (s + if W (65 + 4 * i + 1) = a ∧ (c = 0 ∨ ¬ 10 ≤ W (65 + 4 * i + 2)) then 1 else 0)
theorem w_led_11 (HX : XS u x) (h : cSt iv (x + 28) W pn on rm) (hrm : rm ≤ 100) {a c : Int32} {P : Int32 ⊕ gE → g_H → Prop} : ∀ (k i n : Nat) (s : Int32), i + k = min 60 rm → k < n → (gW (f_X1_led_11 n x a c s (iN i)) (iv, u) P ↔ P (.inl (ledF W a c k i s)) (iv, u)) := by
  have h14 := h.1.2.2.2.2.2.2.2
  intro k
  induction k with
  | zero =>
    intro i n s h1 h2
    obtain ⟨n, rfl⟩ : ∃ n', n = n' + 1 := ⟨n - 1, by omega⟩
    unfold f_X1_led_11 f_X1_led_70
    have : ¬ (0 ≤ iN i ∧ iN i ≤ iN (min 60 rm) - 1) := fun q => by
      have := ((in_le (by omega)).mp q).2
      rw [iN_le (by omega) (by omega)] at this
      omega
    rw [gW_B, rXr1 HX, gW_B, rSc HX.nw, gW_B, c_kept HX.nw h14 (by omega), bI_f this, gW_ift rfl, gW_ret]
    rfl
  | succ k ih =>
    intro i n s h1 h2
    obtain ⟨n, rfl⟩ : ∃ n', n = n' + 1 := ⟨n - 1, by omega⟩
    rw [f_X1_led_11, gW_B, rXr1 HX, gW_B, rSc HX.nw, gW_B, c_kept HX.nw h14 (by omega), bI_t (i_put (by omega) (by omega)), gW_iff (by decide), gW_B, rXr1 HX, gW_B, rSc HX.nw, gW_B]
    unfold f_X1_led_57 f_X1_led_61 f_X1_led_62
    have r1 : ∀ {Q : Int32 → g_H → Prop}, gW (f_X3_row (x + 28) (iN i) 1) (iv, u) Q ↔ Q (W (65 + 4 * i + 1)) (iv, u) := c_row (f := 1) HX.nw h hrm (by omega) (by decide)
    have r2 : ∀ {Q : Int32 → g_H → Prop}, gW (f_X3_row (x + 28) (iN i) 2) (iv, u) Q ↔ Q (W (65 + 4 * i + 2)) (iv, u) := c_row (f := 2) HX.nw h hrm (by omega) (by decide)
    rw [r1, ledF]
    by_cases e1 : W (65 + 4 * i + 1) = a
    · rw [gW_ift e1]
      by_cases e2 : c = 0
      · rw [gW_ift e2, if_pos ⟨e1, Or.inl e2⟩, iNp1]
        exact ih (i + 1) n _ (by omega) (by omega)
      · rw [gW_iff e2, gW_B, rXr1 HX, gW_B, rSc HX.nw, gW_B, r2]
        by_cases e3 : 10 ≤ W (65 + 4 * i + 2)
        · rw [gW_ift e3, if_neg (fun q => q.2.elim e2 (fun q2 => q2 e3)), iNp1]
          exact ih (i + 1) n _ (by omega) (by omega)
        · rw [gW_iff e3, if_pos ⟨e1, Or.inr e3⟩, iNp1]
          exact ih (i + 1) n _ (by omega) (by omega)
    · rw [gW_iff e1, if_neg (fun q => e1 q.1), iNp1]
      exact ih (i + 1) n _ (by omega) (by omega)
theorem w_led_25 (H : MS u (x + 353)) (hW : iv (x + 353 + 1) = W) {m : Nat} (h7 : W 7 = iN m) (hm : m ≤ 60) {a c : Int32} {P : Int32 → g_H → Prop} : ∀ (k i n : Nat) (s : Int32), i + k = m → k < n → (gW (f_X8_led_25 n (x + 353) a c s (iN i)) (iv, u) P ↔ P (ledF W a c k i s) (iv, u)) := by
  intro k
  induction k with
  | zero =>
    intro i n s h1 h2
    obtain ⟨n, rfl⟩ : ∃ n', n = n' + 1 := ⟨n - 1, by omega⟩
    unfold f_X8_led_25 f_X8_led_78
    rw [gW_B, rMr0 H, gW_B, rMA0_7 H, hW, h7, gW_ift (by rw [iN_le (by omega) (by omega)]; omega), gW_ret]
    rfl
  | succ k ih =>
    intro i n s h1 h2
    obtain ⟨n, rfl⟩ : ∃ n', n = n' + 1 := ⟨n - 1, by omega⟩
    rw [f_X8_led_25, gW_B, rMr0 H, gW_B, rMA0_7 H, hW, h7, gW_iff (by rw [iN_le (by omega) (by omega)]; omega), gW_B, rMc H, gW_B]
    unfold f_X8_led_65 f_X8_led_69 f_X8_led_70
    have r1 : ∀ {Q : Int32 → g_H → Prop}, gW (f_X8_ofLog (x + 353) (iN i) 1) (iv, u) Q ↔ Q (W (65 + 4 * i + 1)) (iv, u) := by
      intro Q
      rw [← hW]
      exact w_ofLog (f := 1) H (by omega) (by decide)
    have r2 : ∀ {Q : Int32 → g_H → Prop}, gW (f_X8_ofLog (x + 353) (iN i) 2) (iv, u) Q ↔ Q (W (65 + 4 * i + 2)) (iv, u) := by
      intro Q
      rw [← hW]
      exact w_ofLog (f := 2) H (by omega) (by decide)
    rw [r1, ledF]
    by_cases e1 : W (65 + 4 * i + 1) = a
    · rw [gW_ift e1]
      by_cases e2 : c = 0
      · rw [gW_ift e2, if_pos ⟨e1, Or.inl e2⟩, iNp1]
        exact ih (i + 1) n _ (by omega) (by omega)
      · rw [gW_iff e2, gW_B, rMc H, gW_B, r2]
        by_cases e3 : 10 ≤ W (65 + 4 * i + 2)
        · rw [gW_ift e3, if_neg (fun q => q.2.elim e2 (fun q2 => q2 e3)), iNp1]
          exact ih (i + 1) n _ (by omega) (by omega)
        · rw [gW_iff e3, if_pos ⟨e1, Or.inr e3⟩, iNp1]
          exact ih (i + 1) n _ (by omega) (by omega)
    · rw [gW_iff e1, if_neg (fun q => e1 q.1), iNp1]
      exact ih (i + 1) n _ (by omega) (by omega)
theorem o_led {b : Nat} (ht : t ≤ 64) {a c : Int32} : gOp x z b n t (f_X0_led x a c (x + 369)) (f_X8_led (x + 353) a c) := by
  intro iv u hR
  obtain ⟨pn, on, rm, L, hC, hM, h1⟩ := hR.get
  have HX := hC.X
  have hrm : rm ≤ 100 := by have := h1.2.2.1; omega
  have h7 := h1.1.2.2.2.2.1
  have h6 := hC.o6
  unfold f_X0_led f_X1_led
  rw [gW_B, rXc HX, gW_B, gW_B, rXc HX, gW_T]
  by_cases ha : 0 ≤ a ∧ a ≤ iN on - 1
  · obtain ⟨o, ho, rfl⟩ := i_get (by omega) ha
    rw [w_oneAt_t hC ho]
    dsimp only
    show gW (f_X1_led_11 gN x (iN o) c 0 (iN 0)) _ _
    rw [w_led_11 HX h1.1 hrm (min 60 rm) 0 gN 0 (by omega) (by rw [gN_eq]; omega)]
    show gW (gB (gSI (x + 369) 2 (0 : Int32) _) _) _ _
    rw [gW_B]
    simp only [gW_ret]
    refine op_end hR Sx.rf (fun kv hS hk => ?_)
    unfold f_X8_led
    refine m_z (hM.fr hS) (fun lv z1 z2 z3 hM2 => ?_)
    have H := hM2.M
    rw [gW_B, rMc H, gW_B, m_noOne_t hM2 ho, gW_B, rMc H, gW_B, m_thr0, gW_ift rfl]
    show gW (f_X8_led_25 gN (x + 353) (iN o) c 0 (iN 0)) _ _
    rw [w_led_25 H hM2.vE h7 (Nat.min_le_left _ _) (min 60 rm) 0 gN 0 (by omega) (by rw [gN_eq]; omega)]
    exact m_end z1 z2 z3 Sm.rf rfl
  · refine w_oneAt_f hC ha (fun a' jv v hT => ?_)
    simp only [gW_tr, gW_fa, gW_ret, cN1, cN2, cN3, cN4]
    refine op_thr hR hT (by decide) ?_
    unfold f_X8_led
    refine m_z (hM.th hR.nx hT) (fun lv z1 z2 z3 hM2 => ?_)
    have H := hM2.M
    rw [gW_B, rMc H, gW_B, m_noOne_f hM2 ha, gW_B, rMc H, gW_B, m_thr1 H, gW_iff (by decide), gW_ret]
    exact m_te z1
end O9
