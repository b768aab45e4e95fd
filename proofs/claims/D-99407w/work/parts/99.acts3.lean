/-! OPS: recall, mend, calm -/
section O3
variable {iv jv kv lv : gV} {u v : gU} {x z b n t : Nat}
theorem op_thrU (hR : RR x z b n t iv u) (hT : Th iv u jv v) {y : Int32} {f8 : gM Unit} (hP : gW f8 (jv, v) (fun _ h2 => h2.1 (x + 353) 0 = y ∧ oU h2 v ∧ Sx x jv h2.1)) : gW f8 (jv, v) (fun _ h2 => h2.1 (x + 353) 0 = y ∧ RR x z b n (t + 1) h2.1 h2.2) := by
  refine gW_mono hP (fun c h2 ⟨q1, q2, q3⟩ => ⟨q1, ?_⟩)
  rw [show h2.2 = v from q2]
  exact (hR.th hT).fr (Nat.le_refl _) q3
/-- the State that is now, when the component has remembered -/
theorem nowC {r pn on rm : Nat} {W : Nat → Int32} (h : cSt iv (x + 28) W pn on rm) (hW : WI W pn on) (hr : r < 12) (ha : ∀ a : Nat, a ≠ x → (a < x + 101 + 21 * r ∨ x + 101 + 21 * r + 21 ≤ a) → jv a = iv a) : cSt jv (x + 28) W pn on rm := h.fr hW.1.2.1 hW.1.2.2.2 (fun k _ => by rw [ha _ (by omega) (by omega)]) (fun a a1 a2 _ => ha a (by omega) (by omega))
theorem o_calm {a : Int32} : gOp x z b n t (f_X0_calm x a (x + 369)) (f_X8_calm (x + 353) a) := by
  intro iv u hR
  obtain ⟨pn, on, rm, L, q, r, hq, hr, g3, g4, g5, h1, h2, g6, hC, hM⟩ := hR.all
  have HX := hC.X
  have sO := hR.out
  unfold f_X0_calm f_X1_calm
  rw [gW_B, rXc HX, gW_B, gW_B, w_isIn, gW_T]
  by_cases ha : 0 ≤ a ∧ a ≤ 9
  · obtain ⟨c, hc, rfl⟩ := i_get2 (n := 9) (by decide) ha
    rw [w_must_t (bI_t ha)]
    dsimp only
    rw [gW_B, rXc HX, gW_B]
    refine c_rem HX hM.M h1.1 h1.2.1 hq hr g3 g5 (fun j1 v1 hA hk hj => ?_)
    have H1 := hA.2.1
    have M1 := hA.2.2.1
    have N1 := nowC h1.1 h1.2.1 hr hj
    rw [gW_B, rXr1 H1, gW_B, rSi H1.nw, N1.1.2.2.2.2.1, gW_B, rXr1 H1, gW_B, rSp H1.nw, gW_ret]
    show gW (gB (gSI (x + 369) 2 (0 : Int32) _) _) _ _
    rw [gW_B, w_outS (u := v1) (by rw [hA.2.2.2.1]; exact sO), gW_ret]
    unfold f_X8_calm f_X8_calm_21
    have e1 : ∀ a : Nat, a ≠ x + 28 → a ≠ x + 369 → g_u2 (g_u2 j1 (x + 28) 11 (iN c)) (x + 369) 0 (iv (x + 354) 5) a = j1 a := fun a a1 a2 => by rw [g_u2_ne _ _ _ a2, g_u2_ne _ _ _ a1]
    have e2 : g_u2 (g_u2 j1 (x + 28) 11 (iN c)) (x + 369) 0 (iv (x + 354) 5) (x + 28) = va_up (j1 (x + 28)) 11 (iN c) := by rw [g_u2_ne _ _ _ (by omega), g_u2_self]
    have e3 : g_u2 (g_u2 j1 (x + 28) 11 (iN c)) (x + 369) 0 (iv (x + 354) 5) (x + 369) 0 = iv (x + 354) 5 := by rw [g_u2_self, va_up_self]
    generalize g_u2 (g_u2 j1 (x + 28) 11 (iN c)) (x + 369) 0 (iv (x + 354) 5) = j2 at e1 e2 e3 ⊢
    have eW : j2 (x + 354) = iv (x + 354) := by rw [e1 _ (by omega) (by omega), hj _ (by omega) (by omega)]
    have hM2 : MI x j2 v1 (iv (x + 354)) pn on L := ⟨M1, eW, h1.2.1, h2⟩
    refine m_z hM2 (fun j3 z1 z2 z3 hM3 => ?_)
    have H := hM3.M
    rw [gW_B, m_in_t ha, gW_iff (by decide), gW_B, rMc H, gW_B, m_thr0, gW_ift rfl, gW_B, rMc H, gW_B]
    refine m_rem (iv := iv) H hq (by rw [z1.2.2.2.1 7 (by omega), e1 _ (by omega) (by omega), hj _ (by omega) (by omega)]; exact g4) (by rw [z3 _ (by omega)]; exact eW) (by rw [z3 _ (by omega), e1 _ (by omega) (by omega), hj _ (by omega) (by omega)]) (fun j4 m1 m2 m3 => ?_)
    have e4 : j4 (x + 353 + 1) = iv (x + 354) := by rw [m3 _ (by omega) (by omega), z3 _ (by omega)]; exact eW
    rw [gW_B, rMr0 H, gW_B, rMA0_5 H, e4, gW_B, rMr0 H, gW_B]
    show gW (gSI (x + 353 + 1) 0 (iN 5) (iN c)) _ _
    rw [rMs0 H (by omega), gW_ret]
    have e5 : g_u2 j4 (x + 353 + 1) 5 (iN c) (x + 354) = va_up (iv (x + 354)) 5 (iN c) := by
      show g_u2 j4 (x + 353 + 1) 5 (iN c) (x + 353 + 1) = _
      rw [g_u2_self, e4]
    refine ⟨?_, ?_, act_fin (j5 := g_u2 j4 (x + 353 + 1) 5 (iN c)) hR h1 h2 hq hr g6 hA hk hj (fun a a1 a2 => e1 a (by omega) a2) z1 z3 m1 m2 m3 (fun a a1 => g_u2_ne _ _ _ a1) (pn' := pn) (on' := on) (rm' := rm) ?_ ?_ (by have := h1.2.2.1; omega) (by rw [e2, va_up_ne _ _ (by decide)]) (fun k hk => ?_)⟩
    · show g_u2 j4 (x + 353 + 1) 5 (iN c) (x + 353) 0 = 0
      rw [g_u2_ne _ _ _ (by omega), m2 0 (by decide)]; exact z2
    · rw [oE0]
      show g_u2 j4 (x + 353 + 1) 5 (iN c) (x + 369) 0 = _
      rw [g_u2_ne _ _ _ (by omega), m3 _ (by omega) (by omega), z3 _ (by omega)]; exact e3
    · rw [e5]
      exact N1.fld (f := 11) h1.2.1 (by omega) (fun j j1 _ => by rw [e2, va_up_ne _ _ j1]) (by rw [e2, va_up_self]) (fun a a1 a2 _ => e1 a (by omega) (by omega))
    · rw [e5]
      exact h1.2.1.fld (by decide) (fun q => absurd q (by decide)) (fun q => absurd q (by decide)) (fun _ => ⟨c, hc, rfl⟩) (fun q => absurd q (by decide))
    · rw [e5, va_up_ne _ _ (by omega)]
  · refine w_must_f (bI_f ha) (fun a' jv v hT => ?_)
    simp only [gW_tr, gW_fa, gW_ret, cN1, cN2, cN3, cN4]
    refine op_thr hR hT (by decide) ?_
    unfold f_X8_calm f_X8_calm_21
    refine m_z (hM.th hR.nx hT) (fun lv z1 z2 z3 hM2 => ?_)
    have H := hM2.M
    rw [gW_B, m_in_f ha, gW_ift rfl, gW_B, rMc H, gW_B, m_thr1 H, gW_iff (by decide), gW_ret]
    exact m_te z1
theorem o_mend {a : Int32} : gOp x z b n t (f_X0_mend x a (x + 369)) (f_X8_mend (x + 353) a) := by
  intro iv u hR
  obtain ⟨pn, on, rm, L, q, r, hq, hr, g3, g4, g5, h1, h2, g6, hC, hM⟩ := hR.all
  have HX := hC.X
  have h8 := h1.2.1.1.2.1
  have sO := hR.out
  unfold f_X0_mend f_X1_mend
  rw [gW_B, rXc HX, gW_B, gW_B, rXc HX, gW_T]
  by_cases ha : 0 ≤ a ∧ a ≤ iN pn - 1
  · obtain ⟨o, ho, rfl⟩ := i_get (by omega) ha
    rw [w_propAt_t hC ho]
    dsimp only
    rw [gW_B, rXc HX, gW_B]
    refine c_rem HX hM.M h1.1 h1.2.1 hq hr g3 g5 (fun j1 v1 hA hk hj => ?_)
    have H1 := hA.2.1
    have M1 := hA.2.2.1
    have N1 := nowC h1.1 h1.2.1 hr hj
    rw [gW_B, rSPi H1.nw (by omega), N1.2.1 o ho 2 (by decide), gW_B, rSPp H1.nw (by omega), gW_ret]
    show gW (gB (gSI (x + 369) 2 (0 : Int32) _) _) _ _
    rw [gW_B, w_outS (u := v1) (by rw [hA.2.2.2.1]; exact sO), gW_ret]
    unfold f_X8_mend
    have e1 : ∀ a : Nat, a ≠ x + 28 + 7 + o → a ≠ x + 369 → g_u2 (g_u2 j1 (x + 28 + 7 + o) 2 0) (x + 369) 0 (iv (x + 354) (9 + 4 * o + 2)) a = j1 a := fun a a1 a2 => by rw [g_u2_ne _ _ _ a2, g_u2_ne _ _ _ a1]
    have e2 : g_u2 (g_u2 j1 (x + 28 + 7 + o) 2 0) (x + 369) 0 (iv (x + 354) (9 + 4 * o + 2)) (x + 28 + 7 + o) = va_up (j1 (x + 28 + 7 + o)) 2 0 := by rw [g_u2_ne _ _ _ (by omega), g_u2_self]
    have e3 : g_u2 (g_u2 j1 (x + 28 + 7 + o) 2 0) (x + 369) 0 (iv (x + 354) (9 + 4 * o + 2)) (x + 369) 0 = iv (x + 354) (9 + 4 * o + 2) := by rw [g_u2_self, va_up_self]
    generalize g_u2 (g_u2 j1 (x + 28 + 7 + o) 2 0) (x + 369) 0 (iv (x + 354) (9 + 4 * o + 2)) = j2 at e1 e2 e3 ⊢
    have eW : j2 (x + 354) = iv (x + 354) := by rw [e1 _ (by omega) (by omega), hj _ (by omega) (by omega)]
    have hM2 : MI x j2 v1 (iv (x + 354)) pn on L := ⟨M1, eW, h1.2.1, h2⟩
    refine m_z hM2 (fun j3 z1 z2 z3 hM3 => ?_)
    have H := hM3.M
    rw [gW_B, rMc H, gW_B, m_noProp_t hM3 ho, gW_B, rMc H, gW_B, m_thr0, gW_ift rfl, gW_B, rMc H, gW_B]
    refine m_rem (iv := iv) H hq (by rw [z1.2.2.2.1 7 (by omega), e1 _ (by omega) (by omega), hj _ (by omega) (by omega)]; exact g4) (by rw [z3 _ (by omega)]; exact eW) (by rw [z3 _ (by omega), e1 _ (by omega) (by omega), hj _ (by omega) (by omega)]) (fun j4 m1 m2 m3 => ?_)
    have e4 : j4 (x + 353 + 1) = iv (x + 354) := by rw [m3 _ (by omega) (by omega), z3 _ (by omega)]; exact eW
    rw [gW_B, rMc H, gW_B, w_ofProp2 H (by omega), e4, gW_B, rMr0 H, gW_B, wpA.2.2.1, gW_B, rMs0 H (by omega), gW_ret]
    have e5 : g_u2 j4 (x + 353 + 1) (9 + 4 * o + 2) 0 (x + 354) = va_up (iv (x + 354)) (9 + 4 * o + 2) 0 := by
      show g_u2 j4 (x + 353 + 1) _ 0 (x + 353 + 1) = _
      rw [g_u2_self, e4]
    refine ⟨?_, ?_, act_fin (j5 := g_u2 j4 (x + 353 + 1) (9 + 4 * o + 2) 0) hR h1 h2 hq hr g6 hA hk hj (fun a a1 a2 => e1 a (by omega) a2) z1 z3 m1 m2 m3 (fun a a1 => g_u2_ne _ _ _ a1) (pn' := pn) (on' := on) (rm' := rm) ?_ ?_ (by have := h1.2.2.1; omega) (by rw [e1 _ (by omega) (by omega)]) (fun k hk => ?_)⟩
    · show g_u2 j4 (x + 353 + 1) _ 0 (x + 353) 0 = 0
      rw [g_u2_ne _ _ _ (by omega), m2 0 (by decide)]; exact z2
    · rw [oE0]
      show g_u2 j4 (x + 353 + 1) _ 0 (x + 369) 0 = _
      rw [g_u2_ne _ _ _ (by omega), m3 _ (by omega) (by omega), z3 _ (by omega)]; exact e3
    · rw [e5]
      exact N1.prp h1.2.1 ho (by decide) e2 (fun a a1 a2 a3 => e1 a a3 (by omega))
    · rw [e5]
      exact h1.2.1.prp (wn := 0) ho (by decide)
    · rw [e5, va_up_ne _ _ (by omega)]
  · refine w_propAt_f hC ha (fun a' jv v hT => ?_)
    simp only [gW_tr, gW_fa, gW_ret, cN1, cN2, cN3, cN4]
    refine op_thr hR hT (by decide) ?_
    unfold f_X8_mend
    refine m_z (hM.th hR.nx hT) (fun lv z1 z2 z3 hM2 => ?_)
    have H := hM2.M
    rw [gW_B, rMc H, gW_B, m_noProp_f hM2 ha, gW_B, rMc H, gW_B, m_thr1 H, gW_iff (by decide), gW_ret]
    exact m_te z1
theorem o_recall {a : Int32} : gOpU x z b n t (f_X0_recall x a) (f_X8_recall (x + 353) a) := by
  intro iv u hR
  obtain ⟨pn, on, rm, L, q, r, hq, hr, g3, g4, g5, h1, h2, g6, hC, hM⟩ := hR.all
  have HX := hC.X
  have h8 := h1.2.1.1.2.1
  have h6 := h1.2.1.1.2.2.2
  unfold f_X0_recall f_X1_recall f_X1_recall_19
  rw [gW_B, rXc HX, gW_B, gW_B, rXc HX, gW_T]
  by_cases ha : 0 ≤ a ∧ a ≤ iN on - 1
  · obtain ⟨o, ho, rfl⟩ := i_get (by omega) ha
    rw [w_oneAt_t hC ho]
    dsimp only
    rw [gW_B, rSOi HX.nw (by omega), h1.1.2.2.1 o ho 3 (by decide)]
    by_cases c2 : iv (x + 354) (41 + 4 * o + 3) = 2
    · rw [gW_ift c2, gW_T, w_can_t rfl]
      dsimp only
      rw [gW_B, rXc HX, gW_B]
      refine c_rem HX hM.M h1.1 h1.2.1 hq hr g3 g5 (fun j1 v1 hA hk hj => ?_)
      have H1 := hA.2.1
      have M1 := hA.2.2.1
      have N1 := nowC h1.1 h1.2.1 hr hj
      rw [gW_B, rSOp H1.nw (by omega), gW_ret]
      show gW (gRet (0 : Int32)) _ _
      rw [gW_ret]
      unfold f_X8_recall f_X8_recall_34 f_X8_recall_41
      have e1 : ∀ a : Nat, a ≠ x + 28 + 15 + o → g_u2 j1 (x + 28 + 15 + o) 3 0 a = j1 a := fun a a1 => g_u2_ne _ _ _ a1
      have e2 : g_u2 j1 (x + 28 + 15 + o) 3 0 (x + 28 + 15 + o) = va_up (j1 (x + 28 + 15 + o)) 3 0 := g_u2_self _ _ _ _
      generalize g_u2 j1 (x + 28 + 15 + o) 3 0 = j2 at e1 e2 ⊢
      have eW : j2 (x + 354) = iv (x + 354) := by rw [e1 _ (by omega), hj _ (by omega) (by omega)]
      have hM2 : MI x j2 v1 (iv (x + 354)) pn on L := ⟨M1, eW, h1.2.1, h2⟩
      refine m_z hM2 (fun j3 z1 z2 z3 hM3 => ?_)
      have H := hM3.M
      have e3 : j3 (x + 353 + 1) = iv (x + 354) := hM3.vE
      rw [gW_B, rMc H, gW_B, m_noOne_t hM3 ho, gW_B, rMc H, gW_B, m_thr0, gW_ift rfl, gW_B, rMc H, gW_B, w_of3 H (by omega), e3, gW_ift c2, gW_B, rMc H, gW_B, m_thr0, gW_ift rfl, gW_B, rMc H, gW_B]
      refine m_rem (iv := iv) H hq (by rw [z1.2.2.2.1 7 (by omega), e1 _ (by omega), hj _ (by omega) (by omega)]; exact g4) e3 (by rw [z3 _ (by omega), e1 _ (by omega), hj _ (by omega) (by omega)]) (fun j4 m1 m2 m3 => ?_)
      have e4 : j4 (x + 353 + 1) = iv (x + 354) := by rw [m3 _ (by omega) (by omega)]; exact e3
      rw [gW_B, rMr0 H, gW_B, woA.2.2.2, gW_B, rMs0 H (by omega), gW_ret]
      have e5 : g_u2 j4 (x + 353 + 1) (41 + 4 * o + 3) 0 (x + 354) = va_up (iv (x + 354)) (41 + 4 * o + 3) 0 := by
        show g_u2 j4 (x + 353 + 1) _ 0 (x + 353 + 1) = _
        rw [g_u2_self, e4]
      refine ⟨?_, act_fin (j5 := g_u2 j4 (x + 353 + 1) (41 + 4 * o + 3) 0) hR h1 h2 hq hr g6 hA hk hj (fun a a1 a2 => e1 a (by omega)) z1 z3 m1 m2 m3 (fun a a1 => g_u2_ne _ _ _ a1) (pn' := pn) (on' := on) (rm' := rm) ?_ ?_ (by have := h1.2.2.1; omega) (by rw [e1 _ (by omega)]) (fun k hk => ?_)⟩
      · show g_u2 j4 (x + 353 + 1) _ 0 (x + 353) 0 = 0
        rw [g_u2_ne _ _ _ (by omega), m2 0 (by decide)]; exact z2
      · rw [e5]
        exact N1.one h1.2.1 ho (by decide) e2 (fun a a1 a2 a3 => e1 a a3)
      · rw [e5]
        exact h1.2.1.one ho (Or.inr rfl) ⟨fun q => absurd q (by decide), fun _ => ⟨0, by decide, rfl⟩⟩
      · rw [e5, va_up_ne _ _ (by omega)]
    · rw [gW_iff c2, gW_T]
      refine w_can_f rfl (fun a' jv v hT => ?_)
      show gW (gIf ((13 : Nat) = 19) (gRet 1) (gIf ((13 : Nat) = 13) (gRet 2) gFail)) (jv, v) _
      rw [gW_iff (by decide), gW_ift rfl, gW_ret]
      refine op_thrU hR hT ?_
      unfold f_X8_recall f_X8_recall_34 f_X8_recall_41
      refine m_z (hM.th hR.nx hT) (fun lv z1 z2 z3 hM2 => ?_)
      have H := hM2.M
      rw [gW_B, rMc H, gW_B, m_noOne_t hM2 ho, gW_B, rMc H, gW_B, m_thr0, gW_ift rfl, gW_B, rMc H, gW_B, w_of3 H (by omega), show lv (x + 353 + 1) = iv (x + 354) from hM2.vE, gW_iff c2, gW_B, rMc H, gW_B, m_thr1 H, gW_iff (by decide), gW_ret]
      exact m_te z1
  · refine w_oneAt_f hC ha (fun a' jv v hT => ?_)
    simp only [gW_tr, gW_fa, gW_ret, cN1, cN2, cN3, cN4]
    refine op_thrU hR hT ?_
    unfold f_X8_recall f_X8_recall_41
    refine m_z (hM.th hR.nx hT) (fun lv z1 z2 z3 hM2 => ?_)
    have H := hM2.M
    rw [gW_B, rMc H, gW_B, m_noOne_f hM2 ha, gW_B, rMc H, gW_B, m_thr1 H, gW_iff (by decide), gW_ret]
    exact m_te z1
end O3
