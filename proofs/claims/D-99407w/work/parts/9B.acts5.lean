/-! OPS: nail, down -/
section O5
variable {iv jv kv lv : gV} {u v : gU} {x z b n t : Nat}
theorem o_nail {a c : Int32} : gOpU x z b n t (f_X0_nail x a c) (f_X8_nail (x + 353) a c) := by
  intro iv u hR
  obtain ⟨pn, on, rm, L, q, r, hq, hr, g3, g4, g5, h1, h2, g6, hC, hM⟩ := hR.all
  have HX := hC.X
  have h8 := h1.2.1.1.2.1
  have h6 := h1.2.1.1.2.2.2
  have hW := h1.2.1
  unfold f_X0_nail f_X1_nail
  rw [gW_B, rXc HX, gW_B, gW_B, rXc HX, gW_T]
  by_cases ha : 0 ≤ a ∧ a ≤ iN pn - 1
  · obtain ⟨o, ho, rfl⟩ := i_get (by omega) ha
    rw [w_propAt_t hC ho]
    dsimp only
    rw [gW_T]
    by_cases hc : okS c
    · obtain ⟨s, hs, rfl⟩ := i_get (by decide) hc
      rw [w_isSlot_t hc]
      dsimp only
      rw [gW_B, rSPi HX.nw (by omega), h1.1.2.1 o ho 3 (by decide)]
      by_cases ok : iv (x + 354) (9 + 4 * o + 3) = -1 ∧ sIn (iv (x + 354)) pn (iN s) = -1
      · obtain ⟨o1, o2⟩ := ok
        rw [gW_ift o1, gW_B, rXr1 HX, gW_B, rSr3 HX.nw, gW_B, rSa3 HX.nw hs, h1.1.2.2.2.1 s hs, gW_ift o2]
        unfold f_X1_nail_36
        rw [gW_T, w_can_t rfl]
        dsimp only
        rw [gW_B, rXc HX, gW_B]
        refine c_rem HX hM.M h1.1 hW hq hr g3 g5 (fun j1 v1 hA hk hj => ?_)
        have H1 := hA.2.1
        have M1 := hA.2.2.1
        have N1 := nowC h1.1 hW hr hj
        have ne1 : iN s ≠ -1 := iN_eqm (by omega)
        have nn := sIn_none hW o2 ne1
        have WN : WI (va_up (iv (x + 354)) (9 + 4 * o + 3) (iN s)) pn on := hW.slt ho (Or.inr ⟨s, hs, rfl⟩) (fun _ => nn)
        unfold f_X3_nails
        rw [gW_B, rXr1 H1, gW_B, rSc H1.nw, gW_B, gW_B, rSr3 H1.nw, gW_B, rSs3 H1.nw hs, gW_B, rSr0 H1.nw, gW_B, rSP H1.nw (by omega), gW_B, rSPp H1.nw (by omega), gW_ret, gW_ret]
        show gW (gRet (0 : Int32)) _ _
        rw [gW_ret]
        have e1 : ∀ a : Nat, a ≠ x + 28 + 7 + o → a ≠ x + 28 + 4 → g_u2 (g_u2 j1 (x + 28 + 4) s (iN o)) (x + 28 + 7 + o) 3 (iN s) a = j1 a := fun a a1 a2 => by rw [g_u2_ne _ _ _ a1, g_u2_ne _ _ _ a2]
        have e2 : g_u2 (g_u2 j1 (x + 28 + 4) s (iN o)) (x + 28 + 7 + o) 3 (iN s) (x + 28 + 7 + o) = va_up (j1 (x + 28 + 7 + o)) 3 (iN s) := by rw [g_u2_self, g_u2_ne _ _ _ (by omega)]
        have e3 : g_u2 (g_u2 j1 (x + 28 + 4) s (iN o)) (x + 28 + 7 + o) 3 (iN s) (x + 28 + 4) = va_up (j1 (x + 28 + 4)) s (iN o) := by rw [g_u2_ne _ _ _ (by omega), g_u2_self]
        generalize g_u2 (g_u2 j1 (x + 28 + 4) s (iN o)) (x + 28 + 7 + o) 3 (iN s) = j2 at e1 e2 e3 ⊢
        unfold f_X8_nail f_X8_nail_26 f_X8_nail_56
        have eW : j2 (x + 354) = iv (x + 354) := by rw [e1 _ (by omega) (by omega), hj _ (by omega) (by omega)]
        have hM2 : MI x j2 v1 (iv (x + 354)) pn on L := ⟨M1, eW, hW, h2⟩
        refine m_z hM2 (fun j3 z1 z2 z3 hM3 => ?_)
        have H := hM3.M
        have w3 : j3 (x + 353 + 1) = iv (x + 354) := hM3.vE
        rw [gW_B, rMc H, gW_B, m_noProp_t hM3 ho, gW_ift rfl, gW_B, m_noSlot_t hc, gW_ift rfl, gW_B, rMc H, gW_B, m_thr0, gW_ift rfl, gW_B, rMc H, gW_B, w_isNailed H (by omega), w3, bI_f (fun q => q o1), gW_ift rfl, gW_B, rMc H, gW_B, w_propIn H hM3.pN h8, w3, gW_ift o2, gW_B, rMc H, gW_B, m_thr0, gW_ift rfl, gW_B, rMc H, gW_B]
        refine m_rem (iv := iv) H hq (by rw [z1.2.2.2.1 7 (by omega), e1 _ (by omega) (by omega), hj _ (by omega) (by omega)]; exact g4) w3 (by rw [z3 _ (by omega), e1 _ (by omega) (by omega), hj _ (by omega) (by omega)]) (fun j4 m1 m2 m3 => ?_)
        have e4 : j4 (x + 353 + 1) = iv (x + 354) := by rw [m3 _ (by omega) (by omega)]; exact w3
        rw [gW_B, rMr0 H, gW_B, wpA.2.2.2, gW_B, rMs0 H (by omega), gW_ret]
        have e5 : g_u2 j4 (x + 353 + 1) (9 + 4 * o + 3) (iN s) (x + 354) = va_up (iv (x + 354)) (9 + 4 * o + 3) (iN s) := by
          show g_u2 j4 (x + 353 + 1) _ _ (x + 353 + 1) = _
          rw [g_u2_self, e4]
        refine ⟨?_, act_fin (j5 := g_u2 j4 (x + 353 + 1) (9 + 4 * o + 3) (iN s)) hR h1 h2 hq hr g6 hA hk hj (fun a a1 a2 => e1 a (by omega) (by omega)) z1 z3 m1 m2 m3 (fun a a1 => g_u2_ne _ _ _ a1) (pn' := pn) (on' := on) (rm' := rm) ?_ ?_ (by have := h1.2.2.1; omega) (by rw [e1 _ (by omega) (by omega)]) (fun k hk => ?_)⟩
        · show g_u2 j4 (x + 353 + 1) _ _ (x + 353) 0 = 0
          rw [g_u2_ne _ _ _ (by omega), m2 0 (by decide)]; exact z2
        · rw [e5]
          refine N1.sl hW ho e2 (fun s' hs' => ?_) (fun a a1 a2 a3 a4 => e1 a a3 a4)
          rw [e3]
          by_cases es : s' = s
          · subst es
            have := sIn_found WN ho (by rw [va_up_self]; exact ne1)
            rw [va_up_self] at this
            rw [va_up_self, this]
          · rw [va_up_ne _ _ es, N1.2.2.2.1 s' hs']
            refine (sIn_iff (fun p hp => ?_)).symm
            by_cases ep : p = o
            · subst ep
              rw [va_up_self, o1]
              exact ⟨fun q => absurd ((iN_eq (by omega) (by omega)).mp q) (fun q2 => es q2.symm), fun q => absurd q.symm (iN_eqm (by omega))⟩
            · rw [va_up_ne _ _ (by omega)]
        · rw [e5]
          exact WN
        · rw [e5, va_up_ne _ _ (by omega)]
      · -- it can not be
        have key : gW (f_X1_nail_36 x (iN o) (iN s) 0) (iv, u) (fun r9 h1 => gW (match r9 with
            | .inl r1 => gRet (0 : Int32)
            | .inr x9 => (gIf (x9.1 = 19) (gRet (1 : Int32)) (gIf (x9.1 = 13) (gRet (2 : Int32)) gFail))) h1 (fun k h1 => gW (f_X8_nail (x + 353) (iN o) (iN s)) h1 (fun _ h2 => h2.1 (x + 353) 0 = k ∧ RR x z b n (t + 1) h2.1 h2.2))) := by
          unfold f_X1_nail_36
          rw [gW_T]
          refine w_can_f rfl (fun a' jv v hT => ?_)
          show gW (gIf ((13 : Nat) = 19) (gRet 1) (gIf ((13 : Nat) = 13) (gRet 2) gFail)) (jv, v) _
          rw [gW_iff (by decide), gW_ift rfl, gW_ret]
          refine op_thrU hR hT ?_
          unfold f_X8_nail f_X8_nail_26 f_X8_nail_51 f_X8_nail_56 f_X8_nail_63
          refine m_z (hM.th hR.nx hT) (fun lv z1 z2 z3 hM2 => ?_)
          have H := hM2.M
          have w3 : lv (x + 353 + 1) = iv (x + 354) := hM2.vE
          rw [gW_B, rMc H, gW_B, m_noProp_t hM2 ho, gW_ift rfl, gW_B, m_noSlot_t hc, gW_ift rfl, gW_B, rMc H, gW_B, m_thr0, gW_ift rfl, gW_B, rMc H, gW_B, w_isNailed H (by omega), w3]
          by_cases o1 : iv (x + 354) (9 + 4 * o + 3) = -1
          · have o2 : ¬ sIn (iv (x + 354)) pn (iN s) = -1 := fun q => ok ⟨o1, q⟩
            rw [bI_f (fun q => q o1), gW_ift rfl, gW_B, rMc H, gW_B, w_propIn H hM2.pN h8, w3, gW_iff o2, gW_B, rMc H, gW_B, m_thr1 H, gW_iff (by decide), gW_ret]
            exact m_te z1
          · rw [bI_t o1, gW_iff (by decide), gW_B, rMc H, gW_B, m_thr1 H, gW_iff (by decide), gW_ret]
            exact m_te z1
        by_cases o1 : iv (x + 354) (9 + 4 * o + 3) = -1
        · have o2 : ¬ sIn (iv (x + 354)) pn (iN s) = -1 := fun q => ok ⟨o1, q⟩
          rw [gW_ift o1, gW_B, rXr1 HX, gW_B, rSr3 HX.nw, gW_B, rSa3 HX.nw hs, h1.1.2.2.2.1 s hs, gW_iff o2]
          unfold f_X1_nail_35
          exact key
        · rw [gW_iff o1]
          unfold f_X1_nail_35
          exact key
    · refine w_isSlot_f hc (fun a' jv v hT => ?_)
      simp only [gW_tr, gW_fa, gW_ret, cN1, cN2, cN3, cN4]
      refine op_thrU hR hT ?_
      unfold f_X8_nail f_X8_nail_21 f_X8_nail_26 f_X8_nail_63
      refine m_z (hM.th hR.nx hT) (fun lv z1 z2 z3 hM2 => ?_)
      have H := hM2.M
      rw [gW_B, rMc H, gW_B, m_noProp_t hM2 ho, gW_ift rfl, gW_B, m_noSlot_f hc, gW_iff (by decide), gW_B, rMc H, gW_B, m_thr1 H, gW_iff (by decide), gW_ret]
      exact m_te z1
  · refine w_propAt_f hC ha (fun a' jv v hT => ?_)
    simp only [gW_tr, gW_fa, gW_ret, cN1, cN2, cN3, cN4]
    refine op_thrU hR hT ?_
    unfold f_X8_nail f_X8_nail_21 f_X8_nail_26 f_X8_nail_63
    refine m_z (hM.th hR.nx hT) (fun lv z1 z2 z3 hM2 => ?_)
    have H := hM2.M
    rw [gW_B, rMc H, gW_B, m_noProp_f hM2 ha, gW_iff (by decide), gW_B, rMc H, gW_B, m_thr1 H, gW_iff (by decide), gW_ret]
    exact m_te z1
theorem o_down {a : Int32} : gOp x z b n t (f_X0_down x a (x + 369)) (f_X8_down (x + 353) a) := by
  intro iv u hR
  obtain ⟨pn, on, rm, L, q, r, hq, hr, g3, g4, g5, h1, h2, g6, hC, hM⟩ := hR.all
  have HX := hC.X
  have h8 := h1.2.1.1.2.1
  have h6 := h1.2.1.1.2.2.2
  have hW := h1.2.1
  have sO := hR.out
  unfold f_X0_down f_X1_down
  rw [gW_B, rXc HX, gW_B, gW_T]
  by_cases hc : okS a
  · obtain ⟨s, hs, rfl⟩ := i_get (by decide) hc
    rw [w_isSlot_t hc]
    dsimp only
    rw [gW_B, rXr1 HX, gW_B, rSr3 HX.nw, gW_B, rSa3 HX.nw hs, h1.1.2.2.2.1 s hs]
    unfold f_X1_down_22
    rcases sIn_or (iv (x + 354)) pn (iN s) with o2 | ⟨o, ho, o2, o3⟩
    · rw [gW_ift o2, gW_T]
      refine w_can_f rfl (fun a' jv v hT => ?_)
      show gW (gIf ((13 : Nat) = 19) (gRet 1) (gIf ((13 : Nat) = 13) (gRet 2) gFail)) (jv, v) _
      rw [gW_iff (by decide), gW_ift rfl, gW_ret]
      refine op_thr hR hT (by decide) ?_
      unfold f_X8_down f_X8_down_32 f_X8_down_39
      refine m_z (hM.th hR.nx hT) (fun lv z1 z2 z3 hM2 => ?_)
      have H := hM2.M
      have w3 : lv (x + 353 + 1) = iv (x + 354) := hM2.vE
      rw [gW_B, m_noSlot_t hc, gW_B, rMc H, gW_B, m_thr0, gW_ift rfl, gW_B, rMc H, gW_B, w_propIn H hM2.pN h8, w3, gW_ift o2, gW_B, rMc H, gW_B, m_thr1 H, gW_iff (by decide), gW_ret]
      exact m_te z1
    · have o4 : ¬ sIn (iv (x + 354)) pn (iN s) = -1 := fun q => iN_eqm (by omega) (o2.symm.trans q)
      rw [gW_iff o4, gW_T, w_can_t rfl]
      dsimp only
      rw [gW_B, rXc HX, gW_B]
      refine c_rem HX hM.M h1.1 hW hq hr g3 g5 (fun j1 v1 hA hk hj => ?_)
      have H1 := hA.2.1
      have M1 := hA.2.2.1
      have N1 := nowC h1.1 hW hr hj
      have ne1 : iN s ≠ -1 := iN_eqm (by omega)
      have WN : WI (va_up (iv (x + 354)) (9 + 4 * o + 3) (-1)) pn on := hW.slt ho (Or.inl rfl) (fun q => absurd rfl q)
      unfold f_X3_takes
      rw [gW_B, rXr1 H1, gW_B, rSr3 H1.nw, gW_B, rSa3 H1.nw hs, N1.2.2.2.1 s hs, o2, gW_B, rXr1 H1, gW_B, rSc H1.nw, gW_B, gW_B, rSr0 H1.nw, gW_B, rSr3 H1.nw, gW_B, rSa3 H1.nw hs, N1.2.2.2.1 s hs, o2, gW_B, rSP H1.nw (by omega), gW_B, rSPp H1.nw (by omega), gW_B, rSr3 H1.nw, gW_B, rSs3 H1.nw hs, gW_ret, gW_ret]
      show gW (gB (gSI (x + 369) 2 (0 : Int32) (iN o)) _) _ _
      rw [gW_B, w_outS (u := v1) (by rw [hA.2.2.2.1]; exact sO), gW_ret]
      have e1 : ∀ a : Nat, a ≠ x + 28 + 7 + o → a ≠ x + 28 + 4 → a ≠ x + 369 → g_u2 (g_u2 (g_u2 j1 (x + 28 + 7 + o) 3 (-1)) (x + 28 + 4) s (-1)) (x + 369) 0 (iN o) a = j1 a := fun a a1 a2 a3 => by rw [g_u2_ne _ _ _ a3, g_u2_ne _ _ _ a2, g_u2_ne _ _ _ a1]
      have e2 : g_u2 (g_u2 (g_u2 j1 (x + 28 + 7 + o) 3 (-1)) (x + 28 + 4) s (-1)) (x + 369) 0 (iN o) (x + 28 + 7 + o) = va_up (j1 (x + 28 + 7 + o)) 3 (-1) := by rw [g_u2_ne _ _ _ (by omega), g_u2_ne _ _ _ (by omega), g_u2_self]
      have e3 : g_u2 (g_u2 (g_u2 j1 (x + 28 + 7 + o) 3 (-1)) (x + 28 + 4) s (-1)) (x + 369) 0 (iN o) (x + 28 + 4) = va_up (j1 (x + 28 + 4)) s (-1) := by rw [g_u2_ne _ _ _ (by omega), g_u2_self, g_u2_ne _ _ _ (by omega)]
      have e9 : g_u2 (g_u2 (g_u2 j1 (x + 28 + 7 + o) 3 (-1)) (x + 28 + 4) s (-1)) (x + 369) 0 (iN o) (x + 369) 0 = iN o := by rw [g_u2_self, va_up_self]
      generalize g_u2 (g_u2 (g_u2 j1 (x + 28 + 7 + o) 3 (-1)) (x + 28 + 4) s (-1)) (x + 369) 0 (iN o) = j2 at e1 e2 e3 e9 ⊢
      unfold f_X8_down f_X8_down_32 f_X8_down_39
      have eW : j2 (x + 354) = iv (x + 354) := by rw [e1 _ (by omega) (by omega) (by omega), hj _ (by omega) (by omega)]
      have hM2 : MI x j2 v1 (iv (x + 354)) pn on L := ⟨M1, eW, hW, h2⟩
      refine m_z hM2 (fun j3 z1 z2 z3 hM3 => ?_)
      have H := hM3.M
      have w3 : j3 (x + 353 + 1) = iv (x + 354) := hM3.vE
      rw [gW_B, m_noSlot_t hc, gW_B, rMc H, gW_B, m_thr0, gW_ift rfl, gW_B, rMc H, gW_B, w_propIn H hM3.pN h8, w3, gW_iff o4, gW_B, rMc H, gW_B, m_thr0, gW_ift rfl, gW_B, rMc H, gW_B]
      refine m_rem (iv := iv) H hq (by rw [z1.2.2.2.1 7 (by omega), e1 _ (by omega) (by omega) (by omega), hj _ (by omega) (by omega)]; exact g4) w3 (by rw [z3 _ (by omega), e1 _ (by omega) (by omega) (by omega), hj _ (by omega) (by omega)]) (fun j4 m1 m2 m3 => ?_)
      have e4 : j4 (x + 353 + 1) = iv (x + 354) := by rw [m3 _ (by omega) (by omega)]; exact w3
      rw [gW_B, rMc H, gW_B, w_propIn H (by rw [e4]; exact hW.1.1) h8, e4, o2, gW_B, rMr0 H, gW_B, wpA.2.2.2, gW_B, rMs0 H (by omega), gW_ret]
      have e5 : g_u2 j4 (x + 353 + 1) (9 + 4 * o + 3) (-1) (x + 354) = va_up (iv (x + 354)) (9 + 4 * o + 3) (-1) := by
        show g_u2 j4 (x + 353 + 1) _ _ (x + 353 + 1) = _
        rw [g_u2_self, e4]
      refine ⟨?_, ?_, act_fin (j5 := g_u2 j4 (x + 353 + 1) (9 + 4 * o + 3) (-1)) hR h1 h2 hq hr g6 hA hk hj (fun a a1 a2 => e1 a (by omega) (by omega) a2) z1 z3 m1 m2 m3 (fun a a1 => g_u2_ne _ _ _ a1) (pn' := pn) (on' := on) (rm' := rm) ?_ ?_ (by have := h1.2.2.1; omega) (by rw [e1 _ (by omega) (by omega) (by omega)]) (fun k hk => ?_)⟩
      · show g_u2 j4 (x + 353 + 1) _ _ (x + 353) 0 = 0
        rw [g_u2_ne _ _ _ (by omega), m2 0 (by decide)]; exact z2
      · rw [oE0]
        show g_u2 j4 (x + 353 + 1) _ _ (x + 369) 0 = _
        rw [g_u2_ne _ _ _ (by omega), m3 _ (by omega) (by omega), z3 _ (by omega)]; exact e9
      · rw [e5]
        refine N1.sl hW ho e2 (fun s' hs' => ?_) (fun a a1 a2 a3 a4 => e1 a a3 a4 (by omega))
        rw [e3]
        by_cases es : s' = s
        · subst es
          rw [va_up_self]
          refine (sIn_no (fun p hp => ?_)).symm
          by_cases ep : p = o
          · rw [ep, va_up_self]; exact fun q => ne1 q.symm
          · rw [va_up_ne _ _ (by omega)]
            exact fun q => ep (hW.2.2.1 p o hp ho (q.trans o3.symm) (by rw [q]; exact ne1))
        · rw [va_up_ne _ _ es, N1.2.2.2.1 s' hs']
          refine (sIn_iff (fun p hp => ?_)).symm
          by_cases ep : p = o
          · subst ep
            rw [va_up_self, o3]
            exact ⟨fun q => absurd q.symm (iN_eqm (by omega)), fun q => absurd ((iN_eq (by omega) (by omega)).mp q) (fun q2 => es q2.symm)⟩
          · rw [va_up_ne _ _ (by omega)]
      · rw [e5]
        exact WN
      · rw [e5, va_up_ne _ _ (by omega)]
  · refine w_isSlot_f hc (fun a' jv v hT => ?_)
    simp only [gW_tr, gW_fa, gW_ret, cN1, cN2, cN3, cN4]
    refine op_thr hR hT (by decide) ?_
    unfold f_X8_down f_X8_down_39
    refine m_z (hM.th hR.nx hT) (fun lv z1 z2 z3 hM2 => ?_)
    have H := hM2.M
    rw [gW_B, m_noSlot_f hc, gW_B, rMc H, gW_B, m_thr1 H, gW_iff (by decide), gW_ret]
    exact m_te z1
end O5
