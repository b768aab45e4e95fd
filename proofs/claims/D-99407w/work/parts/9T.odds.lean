/-! OPS: ways, at, odds -/
section OD
variable {iv jv kv lv : gV} {u v : gU} {x z b n t : Nat} {V : Nat → Int32} {pn on : Nat} {L : gLw}
/-- an accused's nerve as a number -/
noncomputable def nO (V : Nat → Int32) (o : Nat) : Nat := (V (41 + 4 * o + 1)).toNatClampNeg
theorem nO_e (hW : WI V pn on) {o : Nat} (ho : o < on) : V (41 + 4 * o + 1) = iN (nO V o) ∧ 1 ≤ nO V o ∧ nO V o ≤ 60 := by
  obtain ⟨n, n1, n2, n3⟩ := (hW.2.2.2.1 o ho).2.1
  unfold nO
  rw [n3, iN_c (by omega)]
  exact ⟨rfl, n1, n2⟩
noncomputable def atO (V : Nat → Int32) (pn : Nat) (L : gLw) (o s : Nat) : Nat := wAt V pn L (V (41 + 4 * o + 0)) (nO V o) (V (41 + 4 * o + 2)) s
noncomputable def wyO (V : Nat → Int32) (pn : Nat) (L : gLw) (o : Nat) : Nat := nS (atO V pn L o) 10 0
noncomputable def odO (V : Nat → Int32) (pn : Nat) (L : gLw) (o : Nat) : Int32 := ((((10000 : Int64) * (iN (wyO V pn L o)).toInt64) / (iN (wLf V pn 0)).toInt64)).toInt32
/-- what the component's counts leave as it is -/
def cQ (x : Nat) (iv jv : gV) : Prop := ∀ a : Nat, a ≠ x + 33 → (a < x + 92 ∨ x + 95 < a) → jv a = iv a
theorem cQ.rf : cQ x iv iv := fun _ _ _ => rfl
theorem cQ.tr (h : cQ x iv jv) (g : cQ x jv kv) : cQ x iv kv := fun a b c => (g a b c).trans (h a b c)
theorem cQ.S (h : cQ x iv jv) : Sx x iv jv := ⟨fun k _ _ _ => by rw [h x (by omega) (by omega)], by rw [h (x + 1) (by omega) (by omega)], fun k _ => by rw [h (x + 96) (by omega) (by omega)], fun k _ => by rw [h (x + 353) (by omega) (by omega)], fun a ha => h a (by omega) (by omega)⟩
theorem c_cnt (hC : CI x iv u V pn on L) {o : Nat} (ho : o < on) {P : Unit → g_H → Prop} (hP : ∀ kv : gV, cQ x iv kv → CI x kv u V pn on L → (∀ j : Nat, j < 10 → kv (x + 95) j = iN (atO V pn L o j)) → kv (x + 92) 4 = iN (wyO V pn L o) → kv (x + 92) 3 = iN (wLf V pn 0) → P () (kv, u)) : gW (f_X7_counts (x + 92) (x + 28 + 15 + o)) (iv, u) P := by
  have hn := nO_e hC.W ho
  exact c_counts hC ho hn.2.2 hn.1 rfl rfl (fun kv g1 _ g3 _ g5 g6 g7 => hP kv g1 g3 g5 g6 g7)
theorem m_lays (hM : MI x iv u V pn on L) (hL : lS L) {o : Nat} (ho : o < on) {P : Unit → g_H → Prop} (hP : ∀ kv : gV, Sm x iv kv → MI x kv u V pn on L → (∀ j : Nat, j < 10 → kv (x + 367) j = iN (atO V pn L o j)) → kv (x + 353) 36 = iN (wLf V pn 0) → P () (kv, u)) : gW (f_X8_laysRows (x + 353) (iN o)) (iv, u) P := by
  have hn := nO_e hM.W ho
  exact m_rows hM hL ho hn.2.2 hn.1 rfl rfl (fun kv g1 g2 g3 g4 _ => hP kv g1 g2 g3 g4)
theorem nz64 (hW : WI V pn on) : ¬ (iN (wLf V pn 0)).toInt64 = 0 := by
  have h1 := wLf_0 hW
  have h2 : 0 < wLf V pn 0 := wLf_pos
  intro h
  have h3 : (iN (wLf V pn 0)).toInt64.toInt = (0 : Int64).toInt := congrArg Int64.toInt h
  rw [Int32.toInt_toInt64, iN_t (by omega)] at h3
  have : (0 : Int64).toInt = 0 := by decide
  omega
theorem c_oddsOf (hC : CI x iv u V pn on L) {o : Nat} (ho : o < on) {P : Int32 → g_H → Prop} (hP : ∀ kv : gV, cQ x iv kv → CI x kv u V pn on L → P (odO V pn L o) (kv, u)) : gW (f_X1_oddsOf x (iN o)) (iv, u) P := by
  have HX := hC.X
  have h6 := hC.o6
  unfold f_X1_oddsOf f_X7_odds
  rw [gW_B, rXr5 HX, gW_B, rXr1 HX, gW_B, rSr1 HX.nw, gW_B, rSO HX.nw (by omega), gW_B, rWc HX, gW_B]
  refine c_cnt hC ho (fun kv g1 g2 g3 g4 g5 => ?_)
  rw [gW_B, rXr5 HX, gW_B, rWc HX, gW_B, gW_B, rWi HX, g4, gW_B, rWi HX, g5, gW_B, gW_gd]
  refine ⟨nz64 hC.W, ?_⟩
  rw [gW_ret, gW_ret]
  exact hP kv g1 g2
theorem w_waysOf_9 (H : MS u (x + 353)) {a : Nat → Nat} {P : Int32 → g_H → Prop} (ha : ∀ j : Nat, j < 10 → iv (x + 367) j = iN (a j)) : ∀ (m s N c : Nat), s + m = 10 → m < N → (gW (f_X8_waysOf_9 N (x + 353) (iN c) (iN s)) (iv, u) P ↔ P (iN (c + nS a m s)) (iv, u)) := by
  intro m
  induction m with
  | zero =>
    intro s N c h1 h2
    obtain ⟨N, rfl⟩ : ∃ N', N = N' + 1 := ⟨N - 1, by omega⟩
    have : s = 10 := by omega
    subst this
    unfold f_X8_waysOf_9 f_X8_waysOf_30
    rw [gW_ift (by decide), gW_ret]
    rfl
  | succ m ih =>
    intro s N c h1 h2
    obtain ⟨N, rfl⟩ : ∃ N', N = N' + 1 := ⟨N - 1, by omega⟩
    rw [f_X8_waysOf_9, gW_iff (by rw [show (10 : Int32) = iN 10 from rfl, iN_le (by omega) (by omega)]; omega), gW_B, rMr13 H, gW_B, rMa13 H (by omega), show iv (x + 353 + 14) s = iN (a s) from ha s (by omega), iN_add, iNp1, ih (s + 1) N _ (by omega) (by omega), nS, Nat.add_assoc]
theorem m_waysOf (hM : MI x iv u V pn on L) (hL : lS L) {o : Nat} (ho : o < on) {P : Int32 → g_H → Prop} (hP : ∀ kv : gV, Sm x iv kv → MI x kv u V pn on L → kv (x + 353) 36 = iN (wLf V pn 0) → P (iN (wyO V pn L o)) (kv, u)) : gW (f_X8_waysOf (x + 353) (iN o)) (iv, u) P := by
  have H := hM.M
  unfold f_X8_waysOf
  rw [gW_B, rMc H, gW_B]
  refine m_lays hM hL ho (fun kv g1 g2 g3 g4 => ?_)
  show gW (f_X8_waysOf_9 gN (x + 353) (iN 0) (iN 0)) _ _
  rw [w_waysOf_9 H g3 10 0 gN 0 (by omega) (by rw [gN_eq]; omega), Nat.zero_add]
  exact hP kv g1 g2 g4
theorem m_oddsOf (hM : MI x iv u V pn on L) (hL : lS L) {o : Nat} (ho : o < on) {P : Int32 → g_H → Prop} (hP : ∀ kv : gV, Sm x iv kv → MI x kv u V pn on L → P (odO V pn L o) (kv, u)) : gW (f_X8_oddsOf (x + 353) (iN o)) (iv, u) P := by
  have H := hM.M
  unfold f_X8_oddsOf
  rw [gW_B, rMc H, gW_B]
  refine m_waysOf hM hL ho (fun kv g1 g2 g3 => ?_)
  rw [gW_B, rMi H, g3, gW_B, gW_gd]
  refine ⟨nz64 hM.W, ?_⟩
  rw [gW_ret]
  exact hP kv g1 g2
theorem o_ways {a : Int32} : gOp x z b n t (f_X0_ways x a (x + 369)) (f_X8_ways (x + 353) a) := by
  intro iv u hR
  obtain ⟨pn, on, rm, L, hC, hM, h1⟩ := hR.get
  have HX := hC.X
  have h6 := hC.o6
  unfold f_X0_ways f_X1_ways
  rw [gW_B, rXc HX, gW_B, gW_B, rXr5 HX, gW_B, rXc HX, gW_T]
  by_cases ha : 0 ≤ a ∧ a ≤ iN on - 1
  · obtain ⟨o, ho, rfl⟩ := i_get (by omega) ha
    rw [w_oneAt_t hC ho]
    dsimp only
    rw [gW_B, rWc HX, gW_B]
    refine c_cnt hC ho (fun kv g1 g2 g3 g4 g5 => ?_)
    rw [gW_B, rXr5 HX, gW_B, rWi HX, g4, gW_ret]
    show gW (gB (gSI (x + 369) 2 (0 : Int32) _) _) _ _
    rw [gW_B]
    simp only [gW_ret]
    refine op_end hR g1.S (fun kv hS hk => ?_)
    unfold f_X8_ways f_X8_ways_27
    refine m_z (hM.fr hS) (fun lv z1 z2 z3 hM2 => ?_)
    have H := hM2.M
    rw [gW_B, rMc H, gW_B, m_noOne_t hM2 ho, gW_B, rMc H, gW_B, m_thr0, gW_ift rfl, gW_B, rMc H, gW_B]
    refine m_waysOf hM2 hC.lS ho (fun mv m1 m2 m3 => ?_)
    rw [gW_ret]
    exact m_end z1 z2 z3 m1 rfl
  · refine w_oneAt_f hC ha (fun a' jv v hT => ?_)
    simp only [gW_tr, gW_fa, gW_ret, cN1, cN2, cN3, cN4]
    refine op_thr hR hT (by decide) ?_
    unfold f_X8_ways f_X8_ways_27
    refine m_z (hM.th hR.nx hT) (fun lv z1 z2 z3 hM2 => ?_)
    have H := hM2.M
    rw [gW_B, rMc H, gW_B, m_noOne_f hM2 ha, gW_B, rMc H, gW_B, m_thr1 H, gW_iff (by decide), gW_ret]
    exact m_te z1
theorem o_odds {a : Int32} : gOp x z b n t (f_X0_odds x a (x + 369)) (f_X8_odds (x + 353) a) := by
  intro iv u hR
  obtain ⟨pn, on, rm, L, hC, hM, h1⟩ := hR.get
  have HX := hC.X
  have h6 := hC.o6
  unfold f_X0_odds f_X1_odds
  rw [gW_B, rXc HX, gW_B, gW_B, rXc HX, gW_T]
  by_cases ha : 0 ≤ a ∧ a ≤ iN on - 1
  · obtain ⟨o, ho, rfl⟩ := i_get (by omega) ha
    rw [w_oneAt_t hC ho]
    dsimp only
    rw [gW_B, rXc HX, gW_B]
    refine c_oddsOf hC ho (fun kv g1 g2 => ?_)
    rw [gW_ret]
    show gW (gB (gSI (x + 369) 2 (0 : Int32) _) _) _ _
    rw [gW_B]
    simp only [gW_ret]
    refine op_end hR g1.S (fun kv hS hk => ?_)
    unfold f_X8_odds f_X8_odds_27
    refine m_z (hM.fr hS) (fun lv z1 z2 z3 hM2 => ?_)
    have H := hM2.M
    rw [gW_B, rMc H, gW_B, m_noOne_t hM2 ho, gW_B, rMc H, gW_B, m_thr0, gW_ift rfl, gW_B, rMc H, gW_B]
    refine m_oddsOf hM2 hC.lS ho (fun mv m1 m2 => ?_)
    rw [gW_ret]
    exact m_end z1 z2 z3 m1 rfl
  · refine w_oneAt_f hC ha (fun a' jv v hT => ?_)
    simp only [gW_tr, gW_fa, gW_ret, cN1, cN2, cN3, cN4]
    refine op_thr hR hT (by decide) ?_
    unfold f_X8_odds f_X8_odds_27
    refine m_z (hM.th hR.nx hT) (fun lv z1 z2 z3 hM2 => ?_)
    have H := hM2.M
    rw [gW_B, rMc H, gW_B, m_noOne_f hM2 ha, gW_B, rMc H, gW_B, m_thr1 H, gW_iff (by decide), gW_ret]
    exact m_te z1
theorem o_at {a c : Int32} : gOp x z b n t (f_X0_at x a c (x + 369)) (f_X8_at (x + 353) a c) := by
  intro iv u hR
  obtain ⟨pn, on, rm, L, hC, hM, h1⟩ := hR.get
  have HX := hC.X
  have h6 := hC.o6
  unfold f_X0_at f_X1_at
  rw [gW_B, rXc HX, gW_B, gW_B, rXc HX, gW_T]
  by_cases ha : 0 ≤ a ∧ a ≤ iN on - 1
  · obtain ⟨o, ho, rfl⟩ := i_get (by omega) ha
    rw [w_oneAt_t hC ho]
    dsimp only
    rw [gW_T]
    by_cases hc : okS c
    · obtain ⟨s, hs, rfl⟩ := i_get (by decide) hc
      rw [w_isSlot_t hc]
      dsimp only
      rw [gW_B, rXr5 HX, gW_B, rWc HX, gW_B]
      refine c_cnt hC ho (fun kv g1 g2 g3 g4 g5 => ?_)
      rw [gW_B, rXr5 HX, gW_B, rWr2 HX, gW_B, rWa2 HX hs, g3 s hs, gW_ret]
      show gW (gB (gSI (x + 369) 2 (0 : Int32) _) _) _ _
      rw [gW_B]
      simp only [gW_ret]
      refine op_end hR g1.S (fun kv hS hk => ?_)
      unfold f_X8_at f_X8_at_26
      refine m_z (hM.fr hS) (fun lv z1 z2 z3 hM2 => ?_)
      have H := hM2.M
      rw [gW_B, rMc H, gW_B, m_noOne_t hM2 ho, gW_ift rfl, gW_B, m_noSlot_t hc, gW_ift rfl, gW_B, rMc H, gW_B, m_thr0, gW_ift rfl, gW_B, rMc H, gW_B]
      refine m_lays hM2 hC.lS ho (fun mv m1 m2 m3 m4 => ?_)
      rw [gW_B, rMr13 H, gW_B, rMa13 H hs, gW_ret]
      exact m_end z1 z2 z3 m1 (m3 s hs)
    · refine w_isSlot_f hc (fun a' jv v hT => ?_)
      simp only [gW_tr, gW_fa, gW_ret, cN1, cN2, cN3, cN4]
      refine op_thr hR hT (by decide) ?_
      unfold f_X8_at f_X8_at_21 f_X8_at_26
      refine m_z (hM.th hR.nx hT) (fun lv z1 z2 z3 hM2 => ?_)
      have H := hM2.M
      rw [gW_B, rMc H, gW_B, m_noOne_t hM2 ho, gW_ift rfl, gW_B, m_noSlot_f hc, gW_iff (by decide), gW_B, rMc H, gW_B, m_thr1 H, gW_iff (by decide), gW_ret]
      exact m_te z1
  · refine w_oneAt_f hC ha (fun a' jv v hT => ?_)
    simp only [gW_tr, gW_fa, gW_ret, cN1, cN2, cN3, cN4]
    refine op_thr hR hT (by decide) ?_
    unfold f_X8_at f_X8_at_21 f_X8_at_26
    refine m_z (hM.th hR.nx hT) (fun lv z1 z2 z3 hM2 => ?_)
    have H := hM2.M
    rw [gW_B, rMc H, gW_B, m_noOne_f hM2 ha, gW_iff (by decide), gW_B, rMc H, gW_B, m_thr1 H, gW_iff (by decide), gW_ret]
    exact m_te z1
end OD
