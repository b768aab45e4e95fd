/-! OPS: fright, tense -/
section OF
variable {iv jv kv lv : gV} {u v : gU} {x z b n t : Nat} {V : Nat → Int32} {pn on rm : Nat} {L : gLw}
theorem o_fright {a c d s4 : Int32} : gOp x z b n t (f_X0_fright x a c d s4 (x + 369)) (f_X8_fright (x + 353) a c d s4) := by
  intro iv u hR
  obtain ⟨pn, on, rm, L, hC, hM, h1⟩ := hR.get
  have HX := hC.X
  have h6 := hC.o6
  have h8 := hC.p8
  unfold f_X0_fright f_X1_fright
  rw [gW_B, rXc HX, gW_B, gW_B, rXc HX, gW_T]
  by_cases ha : 0 ≤ a ∧ a ≤ iN on - 1
  · obtain ⟨o, ho, rfl⟩ := i_get (by omega) ha
    rw [w_oneAt_t hC ho]
    dsimp only
    rw [gW_T]
    by_cases hc : okS c
    · obtain ⟨s, hs, rfl⟩ := i_get (by decide) hc
      rw [w_isSlot_t hc]
      dsimp only
      rw [gW_B, w_isIn, gW_T]
      by_cases hd : 0 ≤ d ∧ d ≤ 99
      · rw [w_must_t (bI_t hd)]
        dsimp only
        have mod : ∀ {kv : gV}, Sx x iv kv → gW (f_X8_fright (x + 353) (iN o) (iN s) d s4) (kv, u) (fun c h2 => c = (if sIn (iv (x + 354)) pn (iN s) = -1 then 0 else if s4 = 0 then fR (iv (x + 354)) L (iv (x + 354) (41 + 4 * o + 0)) (iv (x + 354) (41 + 4 * o + 1)) (iv (x + 354) (41 + 4 * o + 2)) (sIn (iv (x + 354)) pn (iN s)).toNatClampNeg d else wR (iv (x + 354)) L (iv (x + 354) (41 + 4 * o + 0)) (iv (x + 354) (41 + 4 * o + 1)) (iv (x + 354) (41 + 4 * o + 2)) (sIn (iv (x + 354)) pn (iN s)).toNatClampNeg d) ∧ h2.1 (x + 353) 0 = 0 ∧ h2.1 (x + 369) = kv (x + 369) ∧ oU h2 u ∧ Sx x kv h2.1) := by
          intro kv hS
          unfold f_X8_fright f_X8_fright_26 f_X8_fright_49 f_X8_fright_100
          refine m_z (hM.fr hS) (fun lv z1 z2 z3 hM2 => ?_)
          have H := hM2.M
          rw [gW_B, rMc H, gW_B, m_noOne_t hM2 ho, gW_ift rfl, gW_B, m_noSlot_t hc, gW_ift rfl, gW_B, rMc H, gW_B, m_thr0, gW_ift rfl, gW_B, m_in_t hd, gW_iff (by decide), gW_B, rMc H, gW_B, m_thr0, gW_ift rfl, gW_B, rMc H, gW_B, w_propIn H hM2.pN h8, hM2.vE]
          rcases sIn_or (iv (x + 354)) pn (iN s) with o2 | ⟨p, hp, o2, o3⟩
          · rw [gW_ift o2, gW_ret]
            exact m_end z1 z2 z3 Sm.rf (by rw [if_pos o2])
          · have o4 : ¬ sIn (iv (x + 354)) pn (iN s) = -1 := fun q => iN_eqm (by omega) (o2.symm.trans q)
            rw [gW_iff o4, gW_B, rMc H, gW_B]
            refine m_looksAt hM2 ho (fun mv m1 hM3 m2 m3 e18 e19 e20 => ?_)
            rw [o2]
            by_cases c4 : s4 = 0
            · rw [gW_ift c4, gW_B, rMc H, gW_B]
              refine w_frightsBy H (by omega) hM3.mL (fun st => ?_)
              rw [gW_ret, hM3.vE, e18, e19, e20]
              refine m_end z1 z2 z3 (m1.tr ((Sm.um (by omega)).tr ((Sm.um (by omega)).tr (Sm.up (by omega))))) ?_
              rw [if_neg (iN_eqm (by omega)), if_pos c4, iN_c (by omega)]
            · rw [gW_iff c4, gW_B, rMc H, gW_B]
              refine w_wearsBy H (by omega) hM3.mL (fun st => ?_)
              rw [gW_ret, hM3.vE, e18, e19, e20]
              refine m_end z1 z2 z3 (m1.tr ((Sm.um (by omega)).tr ((Sm.um (by omega)).tr (Sm.up (by omega))))) ?_
              rw [if_neg (iN_eqm (by omega)), if_neg c4, iN_c (by omega)]
        by_cases c4 : s4 = 0
        · rw [gW_ift c4, gW_B, rXr1 HX, gW_B, rSc HX.nw, gW_B]
          refine c_frights hC (hC.sO ho) hs (fun f => ?_)
          unfold f_X1_fright_51
          rw [gW_ret, hC.o ho (by decide), hC.o ho (by decide), hC.o ho (by decide)]
          show gW (gB (gSI (x + 369) 2 (0 : Int32) _) _) _ _
          rw [gW_B]
          simp only [gW_ret]
          refine op_end hR (Sx.up (by omega)) (fun kv hS hk => ?_)
          refine gW_mono (mod hS) (fun c h2 ⟨q1, q2⟩ => ⟨q1.trans ?_, q2⟩)
          unfold fS
          by_cases o2 : sIn (iv (x + 354)) pn (iN s) = -1
          · rw [if_pos o2, if_pos o2]
          · rw [if_neg o2, if_neg o2, if_pos c4]
        · rw [gW_iff c4, gW_B, rXr1 HX, gW_B, rSc HX.nw, gW_B]
          rcases sIn_or (iv (x + 354)) pn (iN s) with o2 | ⟨p, hp, o2, o3⟩
          · unfold f_X3_wears f_X1_fright_51
            rw [gW_B, rSr3 HX.nw, gW_B, rSa3 HX.nw hs, hC.s hs, gW_ift o2, gW_ret, gW_ret]
            show gW (gB (gSI (x + 369) 2 (0 : Int32) _) _) _ _
            rw [gW_B]
            simp only [gW_ret]
            refine op_end hR Sx.rf (fun kv hS hk => ?_)
            refine gW_mono (mod hS) (fun c h2 ⟨q1, q2⟩ => ⟨q1.trans ?_, q2⟩)
            rw [if_pos o2]
          · refine c_wears hC (hC.sO ho) hs (show p < 8 by omega) o2 (fun f => ?_)
            unfold f_X1_fright_51
            rw [gW_ret, hC.o ho (by decide), hC.o ho (by decide), hC.o ho (by decide)]
            show gW (gB (gSI (x + 369) 2 (0 : Int32) _) _) _ _
            rw [gW_B]
            simp only [gW_ret]
            refine op_end hR (Sx.up (by omega)) (fun kv hS hk => ?_)
            refine gW_mono (mod hS) (fun c h2 ⟨q1, q2⟩ => ⟨q1.trans ?_, q2⟩)
            rw [o2, if_neg (iN_eqm (by omega)), if_neg c4, iN_c (by omega)]
      · refine w_must_f (bI_f hd) (fun a' jv v hT => ?_)
        show gW (gIf ((17 : Nat) = 19) (gRet 1) (gIf ((17 : Nat) = 17) (gRet 2) gFail)) (jv, v) _
        rw [gW_iff (by decide), gW_ift rfl, gW_ret]
        refine op_thr hR hT (by decide) ?_
        unfold f_X8_fright f_X8_fright_26 f_X8_fright_49 f_X8_fright_56
        refine m_z (hM.th hR.nx hT) (fun lv z1 z2 z3 hM2 => ?_)
        have H := hM2.M
        rw [gW_B, rMc H, gW_B, m_noOne_t hM2 ho, gW_ift rfl, gW_B, m_noSlot_t hc, gW_ift rfl, gW_B, rMc H, gW_B, m_thr0, gW_ift rfl, gW_B, m_in_f hd, gW_ift rfl, gW_B, rMc H, gW_B, m_thr1 H, gW_iff (by decide), gW_ret]
        exact m_te z1
    · refine w_isSlot_f hc (fun a' jv v hT => ?_)
      simp only [gW_tr, gW_fa, gW_ret, cN1, cN2, cN3, cN4]
      refine op_thr hR hT (by decide) ?_
      unfold f_X8_fright f_X8_fright_21 f_X8_fright_26 f_X8_fright_56
      refine m_z (hM.th hR.nx hT) (fun lv z1 z2 z3 hM2 => ?_)
      have H := hM2.M
      rw [gW_B, rMc H, gW_B, m_noOne_t hM2 ho, gW_ift rfl, gW_B, m_noSlot_f hc, gW_iff (by decide), gW_B, rMc H, gW_B, m_thr1 H, gW_iff (by decide), gW_ret]
      exact m_te z1
  · refine w_oneAt_f hC ha (fun a' jv v hT => ?_)
    simp only [gW_tr, gW_fa, gW_ret, cN1, cN2, cN3, cN4]
    refine op_thr hR hT (by decide) ?_
    unfold f_X8_fright f_X8_fright_21 f_X8_fright_26 f_X8_fright_56
    refine m_z (hM.th hR.nx hT) (fun lv z1 z2 z3 hM2 => ?_)
    have H := hM2.M
    rw [gW_B, rMc H, gW_B, m_noOne_f hM2 ha, gW_iff (by decide), gW_B, rMc H, gW_B, m_thr1 H, gW_iff (by decide), gW_ret]
    exact m_te z1
theorem aS_mono {d n k : Int32} {j s : Nat} (h : aS V pn L d n k j = false) (hj : j ≤ s) : aS V pn L d n k s = false := by
  obtain ⟨i, rfl⟩ : ∃ i, s = j + i := ⟨s - j, by omega⟩
  clear hj
  induction i with
  | zero => exact h
  | succ i ih =>
    show (aS V pn L d n k (j + i) && _) = false
    rw [ih]
    rfl
/-- how tense one is behind a slot, in the component -/
theorem w_tense_16 (hC : CI x iv u V pn on L) {o s : Nat} (ho : o < on) (hs : s < 10) {P : Int32 ⊕ gE → g_H → Prop} (hP : ∀ jv, Sx x iv jv → P (.inl (if aO V pn L o s = true then tO V pn L o (s + 1) else -1)) (jv, u)) : ∀ (k j N : Nat) (jv : gV), j + k = s + 1 → k < N → Sx x iv jv → CI x jv u V pn on L → (∀ i : Nat, i < j → aO V pn L o i = true) → gW (f_X1_tense_16 N x (iN s) (x + 28 + 15 + o) (tO V pn L o j) (iN j)) (jv, u) P := by
  intro k
  induction k with
  | zero =>
    intro j N jv h1 h2 hS hCj hA
    obtain ⟨N, rfl⟩ : ∃ N', N = N' + 1 := ⟨N - 1, by omega⟩
    have : j = s + 1 := by omega
    subst this
    unfold f_X1_tense_16 f_X1_tense_54
    rw [gW_ift (by rw [iN_lt (by omega) (by omega)]; omega), gW_ret]
    have := hP jv hS
    rw [if_pos (hA s (by omega))] at this
    exact this
  | succ k ih =>
    intro j N jv h1 h2 hS hCj hA
    obtain ⟨N, rfl⟩ : ∃ N', N = N' + 1 := ⟨N - 1, by omega⟩
    have HX := hCj.X
    have h6 := hCj.o6
    rw [f_X1_tense_16, gW_iff (by rw [iN_lt (by omega) (by omega)]; omega), gW_B, rSOi HX.nw (by omega), hCj.o ho (by decide)]
    have hn := hCj.W.2.2.2.1 o ho
    obtain ⟨nn, n1, n2, n3⟩ := hn.2.1
    have ha : tO V pn L o j ≤ V (41 + 4 * o + 1) ↔ aO V pn L o j = true := by
      cases j with
      | zero =>
        refine ⟨fun _ => rfl, fun _ => ?_⟩
        show (0 : Int32) ≤ _
        rw [n3]
        exact iN_ge (by omega)
      | succ j =>
        show _ ↔ (aS V pn L _ _ _ j && decide _) = true
        rw [show aS V pn L (V (41 + 4 * o + 0)) (V (41 + 4 * o + 1)) (V (41 + 4 * o + 2)) j = true from hA j (by omega), Bool.true_and, decide_eq_true_eq]
    by_cases c : tO V pn L o j ≤ V (41 + 4 * o + 1)
    · rw [gW_ift c, gW_B, rXr1 HX, gW_B, rSc HX.nw, gW_B]
      show gW (f_X3_behind (x + 28) (x + 28 + 15 + o) (iN j) (tO V pn L o j) (iN 1)) _ _
      refine c_behind hCj (hCj.sO ho) (by omega) (fun f => ?_)
      rw [hCj.o ho (by decide), hCj.o ho (by decide), hCj.o ho (by decide), iNp1]
      have S2 : Sx x jv (va_up jv (x + 33) f) := Sx.up (by omega)
      refine ih (j + 1) N _ (by omega) (by omega) (hS.tr S2) (hCj.fr S2) (fun i hi => ?_)
      by_cases e : i = j
      · rw [e]; exact ha.mp c
      · exact hA i (by omega)
    · unfold f_X1_tense_31
      rw [gW_iff c, gW_ret]
      have hf : aO V pn L o j = false := by
        cases hh : aO V pn L o j with
        | true => exact (c (ha.mpr hh)).elim
        | false => rfl
      have := hP jv hS
      rw [if_neg (by
        have h0 : aO V pn L o s = false := aS_mono (s := s) hf (by omega)
        rw [h0]
        exact Bool.false_ne_true)] at this
      exact this
theorem o_tense {a c : Int32} : gOp x z b n t (f_X0_tense x a c (x + 369)) (f_X8_tense (x + 353) a c) := by
  intro iv u hR
  obtain ⟨pn, on, rm, L, hC, hM, h1⟩ := hR.get
  have HX := hC.X
  have h6 := hC.o6
  have hT0 := hR.2.1
  unfold f_X0_tense f_X1_tense
  rw [gW_B, rXc HX, gW_B, gW_B, rXc HX, gW_T]
  by_cases ha : 0 ≤ a ∧ a ≤ iN on - 1
  · obtain ⟨o, ho, rfl⟩ := i_get (by omega) ha
    rw [w_oneAt_t hC ho]
    dsimp only
    rw [gW_T]
    by_cases hc : okS c
    · obtain ⟨s, hs, rfl⟩ := i_get (by decide) hc
      rw [w_isSlot_t hc]
      dsimp only
      show gW (f_X1_tense_16 gN x (iN s) (x + 28 + 15 + o) (tO (iv (x + 354)) pn L o 0) (iN 0)) _ _
      refine w_tense_16 hC ho hs (fun jv hS0 => ?_) (s + 1) 0 gN iv (by omega) (by rw [gN_eq]; omega) Sx.rf hC (fun i hi => absurd hi (Nat.not_lt_zero i))
      show gW (gB (gSI (x + 369) 2 (0 : Int32) _) _) _ _
      rw [gW_B]
      simp only [gW_ret]
      refine op_end hR hS0 (fun kv hS hk => ?_)
      unfold f_X8_tense f_X8_tense_26
      refine m_z (hM.fr hS) (fun lv z1 z2 z3 hM2 => ?_)
      have H := hM2.M
      rw [gW_B, rMc H, gW_B, m_noOne_t hM2 ho, gW_ift rfl, gW_B, m_noSlot_t hc, gW_ift rfl, gW_B, rMc H, gW_B, m_thr0, gW_ift rfl, gW_B, rMc H, gW_B]
      refine m_straight hM2 ho rfl (fun mv m1 m2 m3 => ?_)
      have e1 : lv (x + 353) 23 = 0 := by rw [z1.2.2.2.1 23 (by omega), hS.2.2.2.1 23 (by omega)]; exact hT0.2.2.2.1
      have e2 : lv (x + 353) 24 = 0 := by rw [z1.2.2.2.1 24 (by omega), hS.2.2.2.1 24 (by omega)]; exact hT0.2.2.2.2.1
      rw [gW_B, rMr8 H, gW_B, rMa8 H hs, gW_ret]
      exact m_end z1 z2 z3 m1 (m3 e1 e2 s hs).1
    · refine w_isSlot_f hc (fun a' jv v hT => ?_)
      simp only [gW_tr, gW_fa, gW_ret, cN1, cN2, cN3, cN4]
      refine op_thr hR hT (by decide) ?_
      unfold f_X8_tense f_X8_tense_21 f_X8_tense_26
      refine m_z (hM.th hR.nx hT) (fun lv z1 z2 z3 hM2 => ?_)
      have H := hM2.M
      rw [gW_B, rMc H, gW_B, m_noOne_t hM2 ho, gW_ift rfl, gW_B, m_noSlot_f hc, gW_iff (by decide), gW_B, rMc H, gW_B, m_thr1 H, gW_iff (by decide), gW_ret]
      exact m_te z1
  · refine w_oneAt_f hC ha (fun a' jv v hT => ?_)
    simp only [gW_tr, gW_fa, gW_ret, cN1, cN2, cN3, cN4]
    refine op_thr hR hT (by decide) ?_
    unfold f_X8_tense f_X8_tense_21 f_X8_tense_26
    refine m_z (hM.th hR.nx hT) (fun lv z1 z2 z3 hM2 => ?_)
    have H := hM2.M
    rw [gW_B, rMc H, gW_B, m_noOne_f hM2 ha, gW_iff (by decide), gW_B, rMc H, gW_B, m_thr1 H, gW_iff (by decide), gW_ret]
    exact m_te z1
end OF
