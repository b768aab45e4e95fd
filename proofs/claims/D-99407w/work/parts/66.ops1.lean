/-! OPS: what is there, who rides straight -/
section O1
variable {iv jv kv : gV} {u v : gU} {x z b n t : Nat}
theorem oE0 {y c : Int32} : oE 0 y c ↔ y = c := ⟨fun h => h rfl, fun h _ => h⟩
theorem o_fault : gOp1 x z b n t (f_X1_fault x) (f_X8_fault (x + 353)) := by
  intro iv u hR
  obtain ⟨pn, on, rm, L, hC, hM, h1⟩ := hR.get
  have HX := hC.X
  have H := hM.M
  have hT := hR.2.1
  unfold f_X1_fault
  simp only [gW_B, gW_ret, gW_tr, gW_fa, iN_add, iN_mul, iN_sub, iN_m1, iNp1, iNp2, iNp3, iNp4, iNp5, iNp6, iNp8, iNp12, iNp16, iNp20, iNp305, iNl1, iNl6, iNl9, iNl12, iNl41, iNl65, iNl305, iNl306, iNl354, iNl1154, iNl1155, iNl1203, iNm2, iNm4, iNm6, iNm8, iNm10, iNm12, iNm60, iNm305, iNs1, iNs4, iNs8, rXi HX, rXp HX, rXc HX, rXsi HX, rXsp HX, rXr0 HX, rXr1 HX, rXr2 HX, rXr3 HX, rXr4 HX, rXr5 HX, rXr6 HX, rXr7 HX, rXr8 HX, rXr9 HX, rXr10 HX, rXa97 HX, rXa98 HX, rXa99 HX, rXa100 HX, rXs97 HX, rXs98 HX, rXs99 HX, rXs100 HX, rSi (HX.nw), rSp (HX.nw), rSc (HX.nw), rSP (HX.nw), rSO (HX.nw), rSPi (HX.nw), rSPp (HX.nw), rSPc (HX.nw), rSOi (HX.nw), rSOp (HX.nw), rSOc (HX.nw), rSr0 (HX.nw), rSr1 (HX.nw), rSr2 (HX.nw), rSr3 (HX.nw), rSr4 (HX.nw), rSr5 (HX.nw), rSa3 (HX.nw), rSa4 (HX.nw), rSa5 (HX.nw), rSs3 (HX.nw), rSs4 (HX.nw), rSs5 (HX.nw), rSf0 (HX.nw), rSf1 (HX.nw), rSf2 (HX.nw), rSf3 (HX.nw), rSf4 (HX.nw), rSf5 (HX.nw), rSf6 (HX.nw), rSf7 (HX.nw), gW_ret]
  unfold f_X8_fault
  refine m_z hM (fun jv z1 z2 z3 hM2 => ?_)
  simp only [gW_B, gW_ret, gW_tr, gW_fa, rMi H, rMp H, rMc H, rMr0 H, rMr1 H, rMr2 H, rMr3 H, rMr4 H, rMr5 H, rMr6 H, rMr7 H, rMr8 H, rMr9 H, rMr10 H, rMr11 H, rMr12 H, rMr13 H, rMr14 H, rMa0 H, rMa1 H, rMa2 H, rMa3 H, rMa4 H, rMa5 H, rMa6 H, rMa7 H, rMa8 H, rMa9 H, rMa10 H, rMa11 H, rMa12 H, rMa13 H, rMa14 H, rMs0 H, rMs1 H, rMs2 H, rMs3 H, rMs4 H, rMs5 H, rMs6 H, rMs7 H, rMs8 H, rMs9 H, rMs10 H, rMs11 H, rMs12 H, rMs13 H, rMs14 H, rMA0_0 H, rMA0_1 H, rMA0_2 H, rMA0_3 H, rMA0_4 H, rMA0_5 H, rMA0_6 H, rMA0_7 H, rMA0_8 H, rMA0_65 H, rMA0_66 H, rMA0_67 H, rMA0_68 H, rMA0_305 H, rMA0_1154 H, rMS0_0 H, rMS0_1 H, rMS0_2 H, rMS0_3 H, rMS0_4 H, rMS0_5 H, rMS0_6 H, rMS0_7 H, rMS0_8 H, rMS0_65 H, rMS0_66 H, rMS0_67 H, rMS0_68 H, rMS0_305 H, rMS0_1154 H, rMA7_0 H, rMS6_0 H, rMS6_1 H, rMS6_2 H, rMS6_3 H, rMS6_4 H, iN_add, iN_mul, iN_sub, iN_m1, iNp1, iNp2, iNp3, iNp4, iNp5, iNp6, iNp8, iNp12, iNp16, iNp20, iNp305, iNl1, iNl6, iNl9, iNl12, iNl41, iNl65, iNl305, iNl306, iNl354, iNl1154, iNl1155, iNl1203, iNm2, iNm4, iNm6, iNm8, iNm10, iNm12, iNm60, iNm305, iNs1, iNs4, iNs8, gW_ret]
  refine ⟨?_, hR.fr (by omega) z1⟩
  rw [z1.2.2.2.1 14 (by omega)]
  exact hT.2.1
theorem o_slot {a : Int32} : gOp x z b n t (f_X0_slot x a (x + 369)) (f_X8_slot (x + 353) a) := by
  intro iv u hR
  obtain ⟨pn, on, rm, L, hC, hM, h1⟩ := hR.get
  have HX := hC.X
  unfold f_X0_slot f_X1_slot
  simp only [gW_B, gW_ret, gW_tr, gW_fa, iN_add, iN_mul, iN_sub, iN_m1, iNp1, iNp2, iNp3, iNp4, iNp5, iNp6, iNp8, iNp12, iNp16, iNp20, iNp305, iNl1, iNl6, iNl9, iNl12, iNl41, iNl65, iNl305, iNl306, iNl354, iNl1154, iNl1155, iNl1203, iNm2, iNm4, iNm6, iNm8, iNm10, iNm12, iNm60, iNm305, iNs1, iNs4, iNs8, rXi HX, rXp HX, rXc HX, rXsi HX, rXsp HX, rXr0 HX, rXr1 HX, rXr2 HX, rXr3 HX, rXr4 HX, rXr5 HX, rXr6 HX, rXr7 HX, rXr8 HX, rXr9 HX, rXr10 HX, rXa97 HX, rXa98 HX, rXa99 HX, rXa100 HX, rXs97 HX, rXs98 HX, rXs99 HX, rXs100 HX, rSi (HX.nw), rSp (HX.nw), rSc (HX.nw), rSP (HX.nw), rSO (HX.nw), rSPi (HX.nw), rSPp (HX.nw), rSPc (HX.nw), rSOi (HX.nw), rSOp (HX.nw), rSOc (HX.nw), rSr0 (HX.nw), rSr1 (HX.nw), rSr2 (HX.nw), rSr3 (HX.nw), rSr4 (HX.nw), rSr5 (HX.nw), rSa3 (HX.nw), rSa4 (HX.nw), rSa5 (HX.nw), rSs3 (HX.nw), rSs4 (HX.nw), rSs5 (HX.nw), rSf0 (HX.nw), rSf1 (HX.nw), rSf2 (HX.nw), rSf3 (HX.nw), rSf4 (HX.nw), rSf5 (HX.nw), rSf6 (HX.nw), rSf7 (HX.nw), gW_T]
  by_cases ha : okS a
  · obtain ⟨s, hs, rfl⟩ := i_get (by decide) ha
    simp (disch := omega) only [w_isSlot_t ha, gW_B, gW_ret, gW_tr, gW_fa, iN_add, iN_mul, iN_sub, iN_m1, iNp1, iNp2, iNp3, iNp4, iNp5, iNp6, iNp8, iNp12, iNp16, iNp20, iNp305, iNl1, iNl6, iNl9, iNl12, iNl41, iNl65, iNl305, iNl306, iNl354, iNl1154, iNl1155, iNl1203, iNm2, iNm4, iNm6, iNm8, iNm10, iNm12, iNm60, iNm305, iNs1, iNs4, iNs8, rXi HX, rXp HX, rXc HX, rXsi HX, rXsp HX, rXr0 HX, rXr1 HX, rXr2 HX, rXr3 HX, rXr4 HX, rXr5 HX, rXr6 HX, rXr7 HX, rXr8 HX, rXr9 HX, rXr10 HX, rXa97 HX, rXa98 HX, rXa99 HX, rXa100 HX, rXs97 HX, rXs98 HX, rXs99 HX, rXs100 HX, rSi (HX.nw), rSp (HX.nw), rSc (HX.nw), rSP (HX.nw), rSO (HX.nw), rSPi (HX.nw), rSPp (HX.nw), rSPc (HX.nw), rSOi (HX.nw), rSOp (HX.nw), rSOc (HX.nw), rSr0 (HX.nw), rSr1 (HX.nw), rSr2 (HX.nw), rSr3 (HX.nw), rSr4 (HX.nw), rSr5 (HX.nw), rSa3 (HX.nw), rSa4 (HX.nw), rSa5 (HX.nw), rSs3 (HX.nw), rSs4 (HX.nw), rSs5 (HX.nw), rSf0 (HX.nw), rSf1 (HX.nw), rSf2 (HX.nw), rSf3 (HX.nw), rSf4 (HX.nw), rSf5 (HX.nw), rSf6 (HX.nw), rSf7 (HX.nw), hC.s hs]
    refine op_end hR Sx.rf (fun kv hS hk => ?_)
    unfold f_X8_slot f_X8_slot_26
    refine m_z (hM.fr hS) (fun lv z1 z2 z3 hM2 => ?_)
    have H := hM2.M
    simp only [gW_B, rMc H, m_noSlot_t ha, m_thr0, gW_00, gW_tr, w_propIn H hM2.pN hM2.p8, gW_ret]
    exact m_end z1 z2 z3 Sm.rf (by rw [hM2.vE])
  · refine w_isSlot_f ha (fun a' jv v hT => ?_)
    simp only [gW_tr, gW_fa, gW_ret, cN1, cN2, cN3, cN4]
    refine op_thr hR hT (by decide) ?_
    unfold f_X8_slot f_X8_slot_26
    refine m_z (hM.th hR.nx hT) (fun lv z1 z2 z3 hM2 => ?_)
    have H := hM2.M
    simp only [gW_B, rMc H, m_noSlot_f ha, m_thr1 H, gW_10, gW_fa, gW_ret]
    exact m_te z1
theorem o_straight {a : Int32} : gOp x z b n t (f_X0_straight x a (x + 369)) (f_X8_straight (x + 353) a) := by
  intro iv u hR
  obtain ⟨pn, on, rm, L, hC, hM, h1⟩ := hR.get
  have HX := hC.X
  have hT := hR.2.1
  unfold f_X0_straight f_X1_straight
  simp only [gW_B, gW_ret, gW_tr, gW_fa, iN_add, iN_mul, iN_sub, iN_m1, iNp1, iNp2, iNp3, iNp4, iNp5, iNp6, iNp8, iNp12, iNp16, iNp20, iNp305, iNl1, iNl6, iNl9, iNl12, iNl41, iNl65, iNl305, iNl306, iNl354, iNl1154, iNl1155, iNl1203, iNm2, iNm4, iNm6, iNm8, iNm10, iNm12, iNm60, iNm305, iNs1, iNs4, iNs8, rXi HX, rXp HX, rXc HX, rXsi HX, rXsp HX, rXr0 HX, rXr1 HX, rXr2 HX, rXr3 HX, rXr4 HX, rXr5 HX, rXr6 HX, rXr7 HX, rXr8 HX, rXr9 HX, rXr10 HX, rXa97 HX, rXa98 HX, rXa99 HX, rXa100 HX, rXs97 HX, rXs98 HX, rXs99 HX, rXs100 HX, rSi (HX.nw), rSp (HX.nw), rSc (HX.nw), rSP (HX.nw), rSO (HX.nw), rSPi (HX.nw), rSPp (HX.nw), rSPc (HX.nw), rSOi (HX.nw), rSOp (HX.nw), rSOc (HX.nw), rSr0 (HX.nw), rSr1 (HX.nw), rSr2 (HX.nw), rSr3 (HX.nw), rSr4 (HX.nw), rSr5 (HX.nw), rSa3 (HX.nw), rSa4 (HX.nw), rSa5 (HX.nw), rSs3 (HX.nw), rSs4 (HX.nw), rSs5 (HX.nw), rSf0 (HX.nw), rSf1 (HX.nw), rSf2 (HX.nw), rSf3 (HX.nw), rSf4 (HX.nw), rSf5 (HX.nw), rSf6 (HX.nw), rSf7 (HX.nw), gW_T]
  by_cases ha : 0 ≤ a ∧ a ≤ iN on - 1
  · obtain ⟨o, ho, rfl⟩ := i_get (by have := hC.o6; omega) ha
    simp only [w_oneAt_t hC ho, rXc HX]
    refine c_straight hC (Or.inl hT.2.2.1) ho (fun jv hS hB => ?_)
    simp only [gW_B, gW_ret, gW_tr, gW_fa, iN_add, iN_mul, iN_sub, iN_m1, iNp1, iNp2, iNp3, iNp4, iNp5, iNp6, iNp8, iNp12, iNp16, iNp20, iNp305, iNl1, iNl6, iNl9, iNl12, iNl41, iNl65, iNl305, iNl306, iNl354, iNl1154, iNl1155, iNl1203, iNm2, iNm4, iNm6, iNm8, iNm10, iNm12, iNm60, iNm305, iNs1, iNs4, iNs8, rXi HX, rXp HX, rXc HX, rXsi HX, rXsp HX, rXr0 HX, rXr1 HX, rXr2 HX, rXr3 HX, rXr4 HX, rXr5 HX, rXr6 HX, rXr7 HX, rXr8 HX, rXr9 HX, rXr10 HX, rXa97 HX, rXa98 HX, rXa99 HX, rXa100 HX, rXs97 HX, rXs98 HX, rXs99 HX, rXs100 HX, rSi (HX.nw), rSp (HX.nw), rSc (HX.nw), rSP (HX.nw), rSO (HX.nw), rSPi (HX.nw), rSPp (HX.nw), rSPc (HX.nw), rSOi (HX.nw), rSOp (HX.nw), rSOc (HX.nw), rSr0 (HX.nw), rSr1 (HX.nw), rSr2 (HX.nw), rSr3 (HX.nw), rSr4 (HX.nw), rSr5 (HX.nw), rSa3 (HX.nw), rSa4 (HX.nw), rSa5 (HX.nw), rSs3 (HX.nw), rSs4 (HX.nw), rSs5 (HX.nw), rSf0 (HX.nw), rSf1 (HX.nw), rSf2 (HX.nw), rSf3 (HX.nw), rSf4 (HX.nw), rSf5 (HX.nw), rSf6 (HX.nw), rSf7 (HX.nw)]
    refine op_end hR hS (fun kv hS hk => ?_)
    unfold f_X8_straight f_X8_straight_27
    refine m_z (hM.fr hS) (fun lv z1 z2 z3 hM2 => ?_)
    have H := hM2.M
    simp only [gW_B, rMc H, m_noOne_t hM2 ho, m_thr0, gW_00, gW_tr, gW_ret]
    refine m_straight hM2 ho rfl (fun mv m1 m2 m3 => ?_)
    refine m_end z1 z2 z3 m1 ?_
    rw [hB.2.1, hT.2.2.1, eSet_m1]
    have e1 : lv (x + 353) 23 = 0 := by rw [z1.2.2.2.1 23 (by omega), hS.2.2.2.1 23 (by omega)]; exact hT.2.2.2.1
    have e2 : lv (x + 353) 24 = 0 := by rw [z1.2.2.2.1 24 (by omega), hS.2.2.2.1 24 (by omega)]; exact hT.2.2.2.2.1
    rw [e1, e2]
  · refine w_oneAt_f hC ha (fun a' jv v hT => ?_)
    simp only [gW_tr, gW_fa, gW_ret, cN1, cN2, cN3, cN4]
    refine op_thr hR hT (by decide) ?_
    unfold f_X8_straight f_X8_straight_27
    refine m_z (hM.th hR.nx hT) (fun lv z1 z2 z3 hM2 => ?_)
    have H := hM2.M
    simp only [gW_B, rMc H, m_noOne_f hM2 ha, m_thr1 H, gW_10, gW_fa, gW_ret]
    exact m_te z1
theorem o_prop {a c : Int32} : gOp x z b n t (f_X0_prop x a c (x + 369)) (f_X8_prop (x + 353) a c) := by
  intro iv u hR
  obtain ⟨pn, on, rm, L, hC, hM, h1⟩ := hR.get
  have HX := hC.X
  have hp8 := hC.p8
  unfold f_X0_prop f_X1_prop
  simp only [gW_B, gW_ret, gW_tr, gW_fa, iN_add, iN_mul, iN_sub, iN_m1, iNp1, iNp2, iNp3, iNp4, iNp5, iNp6, iNp8, iNp12, iNp16, iNp20, iNp305, iNl1, iNl6, iNl9, iNl12, iNl41, iNl65, iNl305, iNl306, iNl354, iNl1154, iNl1155, iNl1203, iNm2, iNm4, iNm6, iNm8, iNm10, iNm12, iNm60, iNm305, iNs1, iNs4, iNs8, rXi HX, rXp HX, rXc HX, rXsi HX, rXsp HX, rXr0 HX, rXr1 HX, rXr2 HX, rXr3 HX, rXr4 HX, rXr5 HX, rXr6 HX, rXr7 HX, rXr8 HX, rXr9 HX, rXr10 HX, rXa97 HX, rXa98 HX, rXa99 HX, rXa100 HX, rXs97 HX, rXs98 HX, rXs99 HX, rXs100 HX, rSi (HX.nw), rSp (HX.nw), rSc (HX.nw), rSP (HX.nw), rSO (HX.nw), rSPi (HX.nw), rSPp (HX.nw), rSPc (HX.nw), rSOi (HX.nw), rSOp (HX.nw), rSOc (HX.nw), rSr0 (HX.nw), rSr1 (HX.nw), rSr2 (HX.nw), rSr3 (HX.nw), rSr4 (HX.nw), rSr5 (HX.nw), rSa3 (HX.nw), rSa4 (HX.nw), rSa5 (HX.nw), rSs3 (HX.nw), rSs4 (HX.nw), rSs5 (HX.nw), rSf0 (HX.nw), rSf1 (HX.nw), rSf2 (HX.nw), rSf3 (HX.nw), rSf4 (HX.nw), rSf5 (HX.nw), rSf6 (HX.nw), rSf7 (HX.nw), gW_T]
  by_cases ha : 0 ≤ a ∧ a ≤ iN pn - 1
  · obtain ⟨o, ho, rfl⟩ := i_get (by omega) ha
    simp only [w_propAt_t hC ho]
    by_cases hc : 0 ≤ c ∧ c ≤ iN 3
    · obtain ⟨k, hk, rfl⟩ := i_get2 (by decide) hc
      have hs := h1.1.2.1 o ho
      have key : gW (gSI (x + 369) 2 (0 : Int32) (iv (x + 354) (9 + 4 * o + k))) (iv, u) (fun _ h1 => gW (f_X8_prop (x + 353) (iN o) (iN k)) h1 (fun c h2 => h2.1 (x + 353) 0 = 0 ∧ oE 0 (h2.1 (x + 369) 0) c ∧ RR x z b n (t + 1) h2.1 h2.2)) := by
        refine op_end hR Sx.rf (fun kv hS hkv => ?_)
        unfold f_X8_prop f_X8_prop_33 f_X8_prop_50
        refine m_z (hM.fr hS) (fun lv z1 z2 z3 hM2 => ?_)
        have H := hM2.M
        simp (disch := omega) only [gW_B, rMc H, m_noProp_t hM2 ho, m_thr0, gW_00, gW_tr, m_in_t (show 0 ≤ iN k ∧ iN k ≤ 3 from hc), gW_10, gW_fa, w_ofProp H, gW_ret]
        exact m_end z1 z2 z3 Sm.rf (by rw [hM2.vE])
      have : k = 0 ∨ k = 1 ∨ k = 2 ∨ k = 3 := by omega
      rcases this with rfl | rfl | rfl | rfl
      · rw [gW_ift (by decide)]
        simp (disch := omega) only [gW_B, gW_ret, gW_tr, gW_fa, iN_add, iN_mul, iN_sub, iN_m1, iNp1, iNp2, iNp3, iNp4, iNp5, iNp6, iNp8, iNp12, iNp16, iNp20, iNp305, iNl1, iNl6, iNl9, iNl12, iNl41, iNl65, iNl305, iNl306, iNl354, iNl1154, iNl1155, iNl1203, iNm2, iNm4, iNm6, iNm8, iNm10, iNm12, iNm60, iNm305, iNs1, iNs4, iNs8, rXi HX, rXp HX, rXc HX, rXsi HX, rXsp HX, rXr0 HX, rXr1 HX, rXr2 HX, rXr3 HX, rXr4 HX, rXr5 HX, rXr6 HX, rXr7 HX, rXr8 HX, rXr9 HX, rXr10 HX, rXa97 HX, rXa98 HX, rXa99 HX, rXa100 HX, rXs97 HX, rXs98 HX, rXs99 HX, rXs100 HX, rSi (HX.nw), rSp (HX.nw), rSc (HX.nw), rSP (HX.nw), rSO (HX.nw), rSPi (HX.nw), rSPp (HX.nw), rSPc (HX.nw), rSOi (HX.nw), rSOp (HX.nw), rSOc (HX.nw), rSr0 (HX.nw), rSr1 (HX.nw), rSr2 (HX.nw), rSr3 (HX.nw), rSr4 (HX.nw), rSr5 (HX.nw), rSa3 (HX.nw), rSa4 (HX.nw), rSa5 (HX.nw), rSs3 (HX.nw), rSs4 (HX.nw), rSs5 (HX.nw), rSf0 (HX.nw), rSf1 (HX.nw), rSf2 (HX.nw), rSf3 (HX.nw), rSf4 (HX.nw), rSf5 (HX.nw), rSf6 (HX.nw), rSf7 (HX.nw), hs]
        exact key
      · rw [gW_iff (by decide), gW_ift (by decide)]
        simp (disch := omega) only [gW_B, gW_ret, gW_tr, gW_fa, iN_add, iN_mul, iN_sub, iN_m1, iNp1, iNp2, iNp3, iNp4, iNp5, iNp6, iNp8, iNp12, iNp16, iNp20, iNp305, iNl1, iNl6, iNl9, iNl12, iNl41, iNl65, iNl305, iNl306, iNl354, iNl1154, iNl1155, iNl1203, iNm2, iNm4, iNm6, iNm8, iNm10, iNm12, iNm60, iNm305, iNs1, iNs4, iNs8, rXi HX, rXp HX, rXc HX, rXsi HX, rXsp HX, rXr0 HX, rXr1 HX, rXr2 HX, rXr3 HX, rXr4 HX, rXr5 HX, rXr6 HX, rXr7 HX, rXr8 HX, rXr9 HX, rXr10 HX, rXa97 HX, rXa98 HX, rXa99 HX, rXa100 HX, rXs97 HX, rXs98 HX, rXs99 HX, rXs100 HX, rSi (HX.nw), rSp (HX.nw), rSc (HX.nw), rSP (HX.nw), rSO (HX.nw), rSPi (HX.nw), rSPp (HX.nw), rSPc (HX.nw), rSOi (HX.nw), rSOp (HX.nw), rSOc (HX.nw), rSr0 (HX.nw), rSr1 (HX.nw), rSr2 (HX.nw), rSr3 (HX.nw), rSr4 (HX.nw), rSr5 (HX.nw), rSa3 (HX.nw), rSa4 (HX.nw), rSa5 (HX.nw), rSs3 (HX.nw), rSs4 (HX.nw), rSs5 (HX.nw), rSf0 (HX.nw), rSf1 (HX.nw), rSf2 (HX.nw), rSf3 (HX.nw), rSf4 (HX.nw), rSf5 (HX.nw), rSf6 (HX.nw), rSf7 (HX.nw), hs]
        exact key
      · rw [gW_iff (by decide), gW_iff (by decide), gW_ift (by decide)]
        simp (disch := omega) only [gW_B, gW_ret, gW_tr, gW_fa, iN_add, iN_mul, iN_sub, iN_m1, iNp1, iNp2, iNp3, iNp4, iNp5, iNp6, iNp8, iNp12, iNp16, iNp20, iNp305, iNl1, iNl6, iNl9, iNl12, iNl41, iNl65, iNl305, iNl306, iNl354, iNl1154, iNl1155, iNl1203, iNm2, iNm4, iNm6, iNm8, iNm10, iNm12, iNm60, iNm305, iNs1, iNs4, iNs8, rXi HX, rXp HX, rXc HX, rXsi HX, rXsp HX, rXr0 HX, rXr1 HX, rXr2 HX, rXr3 HX, rXr4 HX, rXr5 HX, rXr6 HX, rXr7 HX, rXr8 HX, rXr9 HX, rXr10 HX, rXa97 HX, rXa98 HX, rXa99 HX, rXa100 HX, rXs97 HX, rXs98 HX, rXs99 HX, rXs100 HX, rSi (HX.nw), rSp (HX.nw), rSc (HX.nw), rSP (HX.nw), rSO (HX.nw), rSPi (HX.nw), rSPp (HX.nw), rSPc (HX.nw), rSOi (HX.nw), rSOp (HX.nw), rSOc (HX.nw), rSr0 (HX.nw), rSr1 (HX.nw), rSr2 (HX.nw), rSr3 (HX.nw), rSr4 (HX.nw), rSr5 (HX.nw), rSa3 (HX.nw), rSa4 (HX.nw), rSa5 (HX.nw), rSs3 (HX.nw), rSs4 (HX.nw), rSs5 (HX.nw), rSf0 (HX.nw), rSf1 (HX.nw), rSf2 (HX.nw), rSf3 (HX.nw), rSf4 (HX.nw), rSf5 (HX.nw), rSf6 (HX.nw), rSf7 (HX.nw), hs]
        exact key
      · rw [gW_iff (by decide), gW_iff (by decide), gW_iff (by decide), gW_ift (by decide)]
        simp (disch := omega) only [gW_B, gW_ret, gW_tr, gW_fa, iN_add, iN_mul, iN_sub, iN_m1, iNp1, iNp2, iNp3, iNp4, iNp5, iNp6, iNp8, iNp12, iNp16, iNp20, iNp305, iNl1, iNl6, iNl9, iNl12, iNl41, iNl65, iNl305, iNl306, iNl354, iNl1154, iNl1155, iNl1203, iNm2, iNm4, iNm6, iNm8, iNm10, iNm12, iNm60, iNm305, iNs1, iNs4, iNs8, rXi HX, rXp HX, rXc HX, rXsi HX, rXsp HX, rXr0 HX, rXr1 HX, rXr2 HX, rXr3 HX, rXr4 HX, rXr5 HX, rXr6 HX, rXr7 HX, rXr8 HX, rXr9 HX, rXr10 HX, rXa97 HX, rXa98 HX, rXa99 HX, rXa100 HX, rXs97 HX, rXs98 HX, rXs99 HX, rXs100 HX, rSi (HX.nw), rSp (HX.nw), rSc (HX.nw), rSP (HX.nw), rSO (HX.nw), rSPi (HX.nw), rSPp (HX.nw), rSPc (HX.nw), rSOi (HX.nw), rSOp (HX.nw), rSOc (HX.nw), rSr0 (HX.nw), rSr1 (HX.nw), rSr2 (HX.nw), rSr3 (HX.nw), rSr4 (HX.nw), rSr5 (HX.nw), rSa3 (HX.nw), rSa4 (HX.nw), rSa5 (HX.nw), rSs3 (HX.nw), rSs4 (HX.nw), rSs5 (HX.nw), rSf0 (HX.nw), rSf1 (HX.nw), rSf2 (HX.nw), rSf3 (HX.nw), rSf4 (HX.nw), rSf5 (HX.nw), rSf6 (HX.nw), rSf7 (HX.nw), hs]
        exact key
    · have hne : ∀ k : Nat, k ≤ 3 → c ≠ iN k := fun k hk e => hc (by
        rw [e, show (0 : Int32) = iN 0 from rfl, iN_le (by omega) (by omega), iN_le (by omega) (by omega)]
        omega)
      rw [gW_iff (show ¬ c = 0 from hne 0 (by decide)), gW_iff (show ¬ c = 1 from hne 1 (by decide)), gW_iff (show ¬ c = 2 from hne 2 (by decide)), gW_iff (show ¬ c = 3 from hne 3 (by decide))]
      refine w_thr (fun a' jv v hT => ?_)
      simp only [gW_tr, gW_fa, gW_ret, cN1, cN2, cN3, cN4]
      refine op_thr hR hT (by decide) ?_
      unfold f_X8_prop f_X8_prop_33 f_X8_prop_40 f_X8_prop_50
      refine m_z (hM.th hR.nx hT) (fun lv z1 z2 z3 hM2 => ?_)
      have H := hM2.M
      simp only [gW_B, rMc H, m_noProp_t hM2 ho, m_thr0, gW_00, gW_tr, m_in_f (show ¬ (0 ≤ c ∧ c ≤ 3) from hc), m_thr1 H, gW_10, gW_fa, gW_ret]
      exact m_te z1
  · refine w_propAt_f hC ha (fun a' jv v hT => ?_)
    simp only [gW_tr, gW_fa, gW_ret, cN1, cN2, cN3, cN4]
    refine op_thr hR hT (by decide) ?_
    unfold f_X8_prop f_X8_prop_40 f_X8_prop_50
    refine m_z (hM.th hR.nx hT) (fun lv z1 z2 z3 hM2 => ?_)
    have H := hM2.M
    simp only [gW_B, rMc H, m_noProp_f hM2 ha, m_thr1 H, gW_10, gW_fa, gW_ret]
    exact m_te z1
theorem o_accused {a c : Int32} : gOp x z b n t (f_X0_accused x a c (x + 369)) (f_X8_accused (x + 353) a c) := by
  intro iv u hR
  obtain ⟨pn, on, rm, L, hC, hM, h1⟩ := hR.get
  have HX := hC.X
  have hp8 := hC.o6
  unfold f_X0_accused f_X1_accused
  simp only [gW_B, gW_ret, gW_tr, gW_fa, iN_add, iN_mul, iN_sub, iN_m1, iNp1, iNp2, iNp3, iNp4, iNp5, iNp6, iNp8, iNp12, iNp16, iNp20, iNp305, iNl1, iNl6, iNl9, iNl12, iNl41, iNl65, iNl305, iNl306, iNl354, iNl1154, iNl1155, iNl1203, iNm2, iNm4, iNm6, iNm8, iNm10, iNm12, iNm60, iNm305, iNs1, iNs4, iNs8, rXi HX, rXp HX, rXc HX, rXsi HX, rXsp HX, rXr0 HX, rXr1 HX, rXr2 HX, rXr3 HX, rXr4 HX, rXr5 HX, rXr6 HX, rXr7 HX, rXr8 HX, rXr9 HX, rXr10 HX, rXa97 HX, rXa98 HX, rXa99 HX, rXa100 HX, rXs97 HX, rXs98 HX, rXs99 HX, rXs100 HX, rSi (HX.nw), rSp (HX.nw), rSc (HX.nw), rSP (HX.nw), rSO (HX.nw), rSPi (HX.nw), rSPp (HX.nw), rSPc (HX.nw), rSOi (HX.nw), rSOp (HX.nw), rSOc (HX.nw), rSr0 (HX.nw), rSr1 (HX.nw), rSr2 (HX.nw), rSr3 (HX.nw), rSr4 (HX.nw), rSr5 (HX.nw), rSa3 (HX.nw), rSa4 (HX.nw), rSa5 (HX.nw), rSs3 (HX.nw), rSs4 (HX.nw), rSs5 (HX.nw), rSf0 (HX.nw), rSf1 (HX.nw), rSf2 (HX.nw), rSf3 (HX.nw), rSf4 (HX.nw), rSf5 (HX.nw), rSf6 (HX.nw), rSf7 (HX.nw), gW_T]
  by_cases ha : 0 ≤ a ∧ a ≤ iN on - 1
  · obtain ⟨o, ho, rfl⟩ := i_get (by omega) ha
    simp only [w_oneAt_t hC ho]
    by_cases hc : 0 ≤ c ∧ c ≤ iN 3
    · obtain ⟨k, hk, rfl⟩ := i_get2 (by decide) hc
      have hs := h1.1.2.2.1 o ho
      have key : gW (gSI (x + 369) 2 (0 : Int32) (iv (x + 354) (41 + 4 * o + k))) (iv, u) (fun _ h1 => gW (f_X8_accused (x + 353) (iN o) (iN k)) h1 (fun c h2 => h2.1 (x + 353) 0 = 0 ∧ oE 0 (h2.1 (x + 369) 0) c ∧ RR x z b n (t + 1) h2.1 h2.2)) := by
        refine op_end hR Sx.rf (fun kv hS hkv => ?_)
        unfold f_X8_accused f_X8_accused_33 f_X8_accused_50
        refine m_z (hM.fr hS) (fun lv z1 z2 z3 hM2 => ?_)
        have H := hM2.M
        simp (disch := omega) only [gW_B, rMc H, m_noOne_t hM2 ho, m_thr0, gW_00, gW_tr, m_in_t (show 0 ≤ iN k ∧ iN k ≤ 3 from hc), gW_10, gW_fa, w_of H, gW_ret]
        exact m_end z1 z2 z3 Sm.rf (by rw [hM2.vE])
      have : k = 0 ∨ k = 1 ∨ k = 2 ∨ k = 3 := by omega
      rcases this with rfl | rfl | rfl | rfl
      · rw [gW_ift (by decide)]
        simp (disch := omega) only [gW_B, gW_ret, gW_tr, gW_fa, iN_add, iN_mul, iN_sub, iN_m1, iNp1, iNp2, iNp3, iNp4, iNp5, iNp6, iNp8, iNp12, iNp16, iNp20, iNp305, iNl1, iNl6, iNl9, iNl12, iNl41, iNl65, iNl305, iNl306, iNl354, iNl1154, iNl1155, iNl1203, iNm2, iNm4, iNm6, iNm8, iNm10, iNm12, iNm60, iNm305, iNs1, iNs4, iNs8, rXi HX, rXp HX, rXc HX, rXsi HX, rXsp HX, rXr0 HX, rXr1 HX, rXr2 HX, rXr3 HX, rXr4 HX, rXr5 HX, rXr6 HX, rXr7 HX, rXr8 HX, rXr9 HX, rXr10 HX, rXa97 HX, rXa98 HX, rXa99 HX, rXa100 HX, rXs97 HX, rXs98 HX, rXs99 HX, rXs100 HX, rSi (HX.nw), rSp (HX.nw), rSc (HX.nw), rSP (HX.nw), rSO (HX.nw), rSPi (HX.nw), rSPp (HX.nw), rSPc (HX.nw), rSOi (HX.nw), rSOp (HX.nw), rSOc (HX.nw), rSr0 (HX.nw), rSr1 (HX.nw), rSr2 (HX.nw), rSr3 (HX.nw), rSr4 (HX.nw), rSr5 (HX.nw), rSa3 (HX.nw), rSa4 (HX.nw), rSa5 (HX.nw), rSs3 (HX.nw), rSs4 (HX.nw), rSs5 (HX.nw), rSf0 (HX.nw), rSf1 (HX.nw), rSf2 (HX.nw), rSf3 (HX.nw), rSf4 (HX.nw), rSf5 (HX.nw), rSf6 (HX.nw), rSf7 (HX.nw), hs]
        exact key
      · rw [gW_iff (by decide), gW_ift (by decide)]
        simp (disch := omega) only [gW_B, gW_ret, gW_tr, gW_fa, iN_add, iN_mul, iN_sub, iN_m1, iNp1, iNp2, iNp3, iNp4, iNp5, iNp6, iNp8, iNp12, iNp16, iNp20, iNp305, iNl1, iNl6, iNl9, iNl12, iNl41, iNl65, iNl305, iNl306, iNl354, iNl1154, iNl1155, iNl1203, iNm2, iNm4, iNm6, iNm8, iNm10, iNm12, iNm60, iNm305, iNs1, iNs4, iNs8, rXi HX, rXp HX, rXc HX, rXsi HX, rXsp HX, rXr0 HX, rXr1 HX, rXr2 HX, rXr3 HX, rXr4 HX, rXr5 HX, rXr6 HX, rXr7 HX, rXr8 HX, rXr9 HX, rXr10 HX, rXa97 HX, rXa98 HX, rXa99 HX, rXa100 HX, rXs97 HX, rXs98 HX, rXs99 HX, rXs100 HX, rSi (HX.nw), rSp (HX.nw), rSc (HX.nw), rSP (HX.nw), rSO (HX.nw), rSPi (HX.nw), rSPp (HX.nw), rSPc (HX.nw), rSOi (HX.nw), rSOp (HX.nw), rSOc (HX.nw), rSr0 (HX.nw), rSr1 (HX.nw), rSr2 (HX.nw), rSr3 (HX.nw), rSr4 (HX.nw), rSr5 (HX.nw), rSa3 (HX.nw), rSa4 (HX.nw), rSa5 (HX.nw), rSs3 (HX.nw), rSs4 (HX.nw), rSs5 (HX.nw), rSf0 (HX.nw), rSf1 (HX.nw), rSf2 (HX.nw), rSf3 (HX.nw), rSf4 (HX.nw), rSf5 (HX.nw), rSf6 (HX.nw), rSf7 (HX.nw), hs]
        exact key
      · rw [gW_iff (by decide), gW_iff (by decide), gW_ift (by decide)]
        simp (disch := omega) only [gW_B, gW_ret, gW_tr, gW_fa, iN_add, iN_mul, iN_sub, iN_m1, iNp1, iNp2, iNp3, iNp4, iNp5, iNp6, iNp8, iNp12, iNp16, iNp20, iNp305, iNl1, iNl6, iNl9, iNl12, iNl41, iNl65, iNl305, iNl306, iNl354, iNl1154, iNl1155, iNl1203, iNm2, iNm4, iNm6, iNm8, iNm10, iNm12, iNm60, iNm305, iNs1, iNs4, iNs8, rXi HX, rXp HX, rXc HX, rXsi HX, rXsp HX, rXr0 HX, rXr1 HX, rXr2 HX, rXr3 HX, rXr4 HX, rXr5 HX, rXr6 HX, rXr7 HX, rXr8 HX, rXr9 HX, rXr10 HX, rXa97 HX, rXa98 HX, rXa99 HX, rXa100 HX, rXs97 HX, rXs98 HX, rXs99 HX, rXs100 HX, rSi (HX.nw), rSp (HX.nw), rSc (HX.nw), rSP (HX.nw), rSO (HX.nw), rSPi (HX.nw), rSPp (HX.nw), rSPc (HX.nw), rSOi (HX.nw), rSOp (HX.nw), rSOc (HX.nw), rSr0 (HX.nw), rSr1 (HX.nw), rSr2 (HX.nw), rSr3 (HX.nw), rSr4 (HX.nw), rSr5 (HX.nw), rSa3 (HX.nw), rSa4 (HX.nw), rSa5 (HX.nw), rSs3 (HX.nw), rSs4 (HX.nw), rSs5 (HX.nw), rSf0 (HX.nw), rSf1 (HX.nw), rSf2 (HX.nw), rSf3 (HX.nw), rSf4 (HX.nw), rSf5 (HX.nw), rSf6 (HX.nw), rSf7 (HX.nw), hs]
        exact key
      · rw [gW_iff (by decide), gW_iff (by decide), gW_iff (by decide), gW_ift (by decide)]
        simp (disch := omega) only [gW_B, gW_ret, gW_tr, gW_fa, iN_add, iN_mul, iN_sub, iN_m1, iNp1, iNp2, iNp3, iNp4, iNp5, iNp6, iNp8, iNp12, iNp16, iNp20, iNp305, iNl1, iNl6, iNl9, iNl12, iNl41, iNl65, iNl305, iNl306, iNl354, iNl1154, iNl1155, iNl1203, iNm2, iNm4, iNm6, iNm8, iNm10, iNm12, iNm60, iNm305, iNs1, iNs4, iNs8, rXi HX, rXp HX, rXc HX, rXsi HX, rXsp HX, rXr0 HX, rXr1 HX, rXr2 HX, rXr3 HX, rXr4 HX, rXr5 HX, rXr6 HX, rXr7 HX, rXr8 HX, rXr9 HX, rXr10 HX, rXa97 HX, rXa98 HX, rXa99 HX, rXa100 HX, rXs97 HX, rXs98 HX, rXs99 HX, rXs100 HX, rSi (HX.nw), rSp (HX.nw), rSc (HX.nw), rSP (HX.nw), rSO (HX.nw), rSPi (HX.nw), rSPp (HX.nw), rSPc (HX.nw), rSOi (HX.nw), rSOp (HX.nw), rSOc (HX.nw), rSr0 (HX.nw), rSr1 (HX.nw), rSr2 (HX.nw), rSr3 (HX.nw), rSr4 (HX.nw), rSr5 (HX.nw), rSa3 (HX.nw), rSa4 (HX.nw), rSa5 (HX.nw), rSs3 (HX.nw), rSs4 (HX.nw), rSs5 (HX.nw), rSf0 (HX.nw), rSf1 (HX.nw), rSf2 (HX.nw), rSf3 (HX.nw), rSf4 (HX.nw), rSf5 (HX.nw), rSf6 (HX.nw), rSf7 (HX.nw), hs]
        exact key
    · have hne : ∀ k : Nat, k ≤ 3 → c ≠ iN k := fun k hk e => hc (by
        rw [e, show (0 : Int32) = iN 0 from rfl, iN_le (by omega) (by omega), iN_le (by omega) (by omega)]
        omega)
      rw [gW_iff (show ¬ c = 0 from hne 0 (by decide)), gW_iff (show ¬ c = 1 from hne 1 (by decide)), gW_iff (show ¬ c = 2 from hne 2 (by decide)), gW_iff (show ¬ c = 3 from hne 3 (by decide))]
      refine w_thr (fun a' jv v hT => ?_)
      simp only [gW_tr, gW_fa, gW_ret, cN1, cN2, cN3, cN4]
      refine op_thr hR hT (by decide) ?_
      unfold f_X8_accused f_X8_accused_33 f_X8_accused_40 f_X8_accused_50
      refine m_z (hM.th hR.nx hT) (fun lv z1 z2 z3 hM2 => ?_)
      have H := hM2.M
      simp only [gW_B, rMc H, m_noOne_t hM2 ho, m_thr0, gW_00, gW_tr, m_in_f (show ¬ (0 ≤ c ∧ c ≤ 3) from hc), m_thr1 H, gW_10, gW_fa, gW_ret]
      exact m_te z1
  · refine w_oneAt_f hC ha (fun a' jv v hT => ?_)
    simp only [gW_tr, gW_fa, gW_ret, cN1, cN2, cN3, cN4]
    refine op_thr hR hT (by decide) ?_
    unfold f_X8_accused f_X8_accused_40 f_X8_accused_50
    refine m_z (hM.th hR.nx hT) (fun lv z1 z2 z3 hM2 => ?_)
    have H := hM2.M
    simp only [gW_B, rMc H, m_noOne_f hM2 ha, m_thr1 H, gW_10, gW_fa, gW_ret]
    exact m_te z1
end O1
