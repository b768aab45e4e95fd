/-! THE MODEL'S ATOMS, WHOLE -/
section MB
variable {iv jv kv lv : gV} {u v w y : gU} {x : Nat} {h : g_H} {B : Nat → Int32} {e : Nat}
/-- the depth -/
def d13 (x : Nat) (iv : gV) (k : Nat) : gV := g_u2 iv (x + 353) 13 (iN k)
theorem d13_k {k j : Nat} (hj : j ≠ 13) : d13 x iv k (x + 353) j = iv (x + 353) j := by unfold d13; rw [g_u2_self, va_up_ne _ _ hj]
theorem d13_s {k : Nat} : d13 x iv k (x + 353) 13 = iN k := by unfold d13; rw [g_u2_self, va_up_self]
theorem d13_a {k a : Nat} (ha : a ≠ x + 353) : d13 x iv k a = iv a := g_u2_ne _ _ _ ha
theorem d13_mT {k b p : Nat} : g_u2 (mT x iv b p) (x + 353) 13 (iN k) = mT x (d13 x iv k) b p := by
  unfold mT d13
  rw [g_u2_sw _ _ _ _ (show (10 : Nat) ≠ 13 by decide), g_u2_sw _ _ _ _ (show (12 : Nat) ≠ 13 by decide)]
theorem PM.d13 (h : PM x iv u B e) {k : Nat} : PM x (d13 x iv k) u B e := h.fr (d13_k (by decide)) (d13_a (by omega)) (fun a ha => d13_a (by omega))
theorem QM.d13 {st st' k dp : Nat} (q : QM x (d13 x iv k) jv st st') (h13 : iv (x + 353) 13 = iN dp) : QM x iv (d13 x jv dp) st st' := by
  refine ⟨fun j j1 j2 j3 => ?_, by rw [d13_k (by decide)]; exact q.2.1, fun a a1 a2 => by rw [d13_a a1, q.2.2.1 a a1 a2, d13_a a1], fun j hj => by rw [d13_a (by omega), q.2.2.2 j hj, d13_a (by omega)]⟩
  by_cases e' : j = 13
  · rw [e', d13_s, h13]
  · rw [d13_k e', q.1 j j1 j2 j3, d13_k e']
theorem QN.d13 {st f k : Nat} (q : QN x (d13 x iv k) jv st f) : QN x iv jv st f := ⟨fun j j1 j2 j3 j4 => by rw [q.1 j j1 j2 j3 j4, d13_k j3], q.2.1, fun a a1 a2 => by rw [q.2.2.1 a a1 a2, d13_a a1], fun j hj => by rw [q.2.2.2 j hj, d13_a (by omega)]⟩
theorem Dw_d13 {k : Nat} : Dw x (d13 x iv k) = Dw x iv := by
  unfold Dw
  rw [d13_a (by omega)]
theorem w_matom {R1 R2 R3 : Nat → gM Int32} {dp r : Nat} (hdp : dp + (r + 1) = 6) (hrow : okM x B e (dp + 1) (pCnd B e (pAtm B e r)) (R1 (x + 353))) (hatm : okM x B e (dp + 1) (pAtm B e r) (R3 (x + 353))) : okM x B e dp (pAtm B e (r + 1)) (f_X8_readAtom R1 R2 R3 (x + 353)) := by
  intro iv u b p st h hp hst h16 h13 P h1 h2
  have H := h.M
  have h4 := h.e4
  have b1 := kB_b (B := B) hp
  have b2 := kW_b (B := B) hp
  have hst' : st ≤ 399 := by omega
  rw [pAtm] at h1 h2
  dsimp only at h1 h2
  unfold f_X8_readAtom
  rw [gW_B, rMc H, gW_B]
  show gW (f_X8_sign (x + 353) (iN 40)) _ _
  rw [w_msign h hp]
  by_cases hp40 : isS B e p 40 = true
  · rw [if_pos hp40] at h1 h2
    have hs := isS_b hp hp40
    rw [bI_t hp40, if_pos hp40, gW_iff (by decide), gW_B, rMi H, mT_13, h13, gW_iff (by rw [show (6 : Int32) = iN 6 from rfl, iN_eq (by omega) (by omega)]; omega), gW_B, rMi H, mT_13, h13, gW_B, rMp H, iNp1, d13_mT, gW_B, rMc H, gW_B]
    refine hrow (d13 x iv (dp + 1)) u (kB B e p) (kB B e p + 1) st h.d13 (by omega) (by omega) (by rw [d13_k (by decide)]; exact h16) d13_s _ (fun C q hn jv c st1 j1 j2 j3 => ?_) (fun f hn jv j1 => ?_)
    · rw [hn] at h1 h2
      dsimp only at h1 h2
      have hq := ((okA.atm r).row (al := true)).row (al := false) _ _ _ (by omega) hn
      have bq := kB_b (B := B) hq.2
      have hj : PM x jv u B e := h.d13.qm j1
      have j13 : jv (x + 353) 13 = iN (dp + 1) := (j1.1 13 (by decide) (by decide) (by decide)).trans d13_s
      rw [gW_iff (by decide), gW_B, rMi H, mT_13, j13, gW_B, rMp H, show iN (dp + 1) - 1 = iN dp from by rw [show (1 : Int32) = iN 1 from rfl, iN_sub (by omega)]; rfl, d13_mT, gW_B, rMc H, gW_B]
      show gW (f_X8_sign (x + 353) (iN 41)) _ _
      rw [w_msign hj.d13 hq.2]
      by_cases z : isS B e q 41 = true
      · rw [if_pos z] at h1
        rw [bI_t z, if_pos z, gW_gd1 (Or.inr rfl)]
        have hz := isS_b hq.2 z
        refine h1 _ _ rfl _ _ st1 (j1.d13 h13) (by omega) ?_
        rw [Dw_d13]
        exact j3
      · rw [if_neg z] at h2
        rw [bI_f z, if_neg z, gW_gd1 (Or.inl rfl)]
        exact h2 _ rfl _ (j1.d13 h13).mN
    · rw [hn] at h2
      rw [gW_ift rfl, gW_ret]
      exact h2 f rfl jv j1.d13
  · rw [if_neg hp40] at h1 h2
    rw [bI_f hp40, if_neg hp40, gW_ift rfl, gW_B, gW_Tx, gW_B, rMc H, gW_B, w_passes h (i := 36) (by decide) b1.2, show g_byt.getD 36 [] = g_byt.getD 18 [] from rfl, tk_kB hp]
    by_cases nt : tk B e (g_byt.getD 18 []) p = true
    · rw [if_pos nt] at h1 h2
      have l := tk_b hp (by decide) nt
      have hl : (g_byt.getD 18 []).length = 3 := by decide
      rw [bI_t nt, kT_t (by rw [tk_kB hp]; exact nt), kWB hp, gW_iff (by decide), gW_B, rMi H, mT_13, h13, gW_iff (by rw [show (6 : Int32) = iN 6 from rfl, iN_eq (by omega) (by omega)]; omega), gW_B, rMi H, mT_13, h13, gW_B, rMp H, iNp1, d13_mT, gW_B, rMc H, gW_B]
      refine hatm (d13 x iv (dp + 1)) u _ (kW B e p) st h.d13 b2.2 (by omega) (by rw [d13_k (by decide)]; exact h16) d13_s _ (fun C q hn jv c st1 j1 j2 j3 => ?_) (fun f hn jv j1 => ?_)
      · rw [hn] at h1
        dsimp only at h1
        have hq := okA.atm r _ _ _ b2.2 hn
        have hj : PM x jv u B e := h.d13.qm j1
        have j13 : jv (x + 353) 13 = iN (dp + 1) := (j1.1 13 (by decide) (by decide) (by decide)).trans d13_s
        have k1 := j1.d13 h13
        rw [gW_iff (by decide), gW_B, rMi H, mT_13, j13, gW_B, rMp H, show iN (dp + 1) - 1 = iN dp from by rw [show (1 : Int32) = iN 1 from rfl, iN_sub (by omega)]; rfl, d13_mT, gW_B, rMc H, gW_B, w_emM hj.d13 (st := st1) (by omega) k1.2.1, gW_ret]
        have hD : mD (Dw x (em x (d13 x jv dp) st1 12 0)) st (st1 + 1) (fun F => bI ((!C F) = true)) := by
          have j4 : mD (Dw x (d13 x jv dp)) st st1 (fun F => bI (C F = true)) := by rw [Dw_d13]; exact j3
          refine mD_not (j4.qm em_q (Nat.le_refl _)) em_D.1 (fun F _ => ?_)
          cases C F <;> decide
        exact h1 _ _ rfl _ _ (st1 + 1) (k1.tr em_q (by have := j3.1; omega)) (by omega) hD
      · rw [hn] at h2
        rw [gW_ift rfl, gW_ret]
        exact h2 f rfl jv j1.d13
    · rw [if_neg nt] at h1 h2
      rw [bI_f nt, kT_f (by rw [tk_kB hp]; exact nt), kBB hp, gW_ift rfl]
      refine w_mtag h b1.2 (by omega) h16 (fun C q hn jv c st1 j1 j2 j3 => ?_) (fun f hn jv j1 => ?_)
      · rw [pTag_kB hp] at hn
        exact h1 C q hn jv c st1 j1 (by omega) j3
      · rw [pTag_kB hp] at hn
        exact h2 f hn jv j1
theorem w_matom0 {R1 R2 R3 : Nat → gM Int32} : okM x B e 6 (pAtm B e 0) (f_X8_readAtom R1 R2 R3 (x + 353)) := by
  intro iv u b p st h hp hst h16 h13 P h1 h2
  have H := h.M
  have h4 := h.e4
  have b1 := kB_b (B := B) hp
  have b2 := kW_b (B := B) hp
  rw [pAtm] at h1 h2
  dsimp only at h1 h2
  unfold f_X8_readAtom
  rw [gW_B, rMc H, gW_B]
  show gW (f_X8_sign (x + 353) (iN 40)) _ _
  rw [w_msign h hp]
  by_cases hp40 : isS B e p 40 = true
  · rw [if_pos (Or.inl hp40)] at h2
    rw [bI_t hp40, if_pos hp40, gW_iff (by decide), gW_B, rMi H, mT_13, h13, gW_ift (by decide), gW_ret]
    exact h2 _ rfl _ (QM.rf h16).mN
  · rw [bI_f hp40, if_neg hp40, gW_ift rfl, gW_B, gW_Tx, gW_B, rMc H, gW_B, w_passes h (i := 36) (by decide) b1.2, show g_byt.getD 36 [] = g_byt.getD 18 [] from rfl, tk_kB hp, kBB hp]
    by_cases nt : tk B e (g_byt.getD 18 []) p = true
    · rw [if_pos (Or.inr nt)] at h2
      rw [bI_t nt, gW_iff (by decide), gW_B, rMi H, mT_13, h13, gW_ift (by decide), gW_ret]
      exact h2 _ rfl _ (QM.rf h16).mN
    · rw [if_neg (fun z => z.elim hp40 nt)] at h1 h2
      rw [bI_f nt, kT_f (by rw [tk_kB hp]; exact nt), kBB hp, gW_ift rfl]
      refine w_mtag h b1.2 (by omega) h16 (fun C q hn jv c st1 j1 j2 j3 => ?_) (fun f hn jv j1 => ?_)
      · rw [pTag_kB hp] at hn
        exact h1 C q hn jv c st1 j1 (by omega) j3
      · rw [pTag_kB hp] at hn
        exact h2 f hn jv j1
/-- by the recursion of the model -/
theorem w_mrec : ∀ r : Nat, r ≤ 6 → (∀ dd : Nat, 3 * r + 1 ≤ dd → okM x B e (6 - r) (pAtm B e r) (f_X8_readAtom_r dd (x + 353))) ∧ ∀ dd : Nat, 3 * r + 3 ≤ dd → okM x B e (6 - r) (pCnd B e (pAtm B e r)) (f_X8_readCond_r dd (x + 353)) := by
  have rows : ∀ r : Nat, (∀ dd : Nat, 3 * r + 1 ≤ dd → okM x B e (6 - r) (pAtm B e r) (f_X8_readAtom_r dd (x + 353))) → ∀ dd : Nat, 3 * r + 3 ≤ dd → okM x B e (6 - r) (pCnd B e (pAtm B e r)) (f_X8_readCond_r dd (x + 353)) := by
    intro r hat dd hd
    obtain ⟨dd, rfl⟩ : ∃ d', dd = d' + 1 + 1 := ⟨dd - 2, by omega⟩
    have h1 : okM x B e (6 - r) (pRow B e true (pAtm B e r)) (f_X8_readAllOf (f_recB dd).1 (f_recB dd).2.1 (f_recB dd).2.2 (x + 353)) := w_mand (okA.atm r) (hat dd (by omega))
    exact w_mor ((okA.atm r).row) h1
  intro r
  induction r with
  | zero =>
    intro _
    have h0 : ∀ dd : Nat, 3 * 0 + 1 ≤ dd → okM x B e (6 - 0) (pAtm B e 0) (f_X8_readAtom_r dd (x + 353)) := by
      intro dd hd
      obtain ⟨dd, rfl⟩ : ∃ d', dd = d' + 1 := ⟨dd - 1, by omega⟩
      exact w_matom0
    exact ⟨h0, rows 0 h0⟩
  | succ r ih =>
    intro hr
    obtain ⟨i1, i2⟩ := ih (by omega)
    have h0 : ∀ dd : Nat, 3 * (r + 1) + 1 ≤ dd → okM x B e (6 - (r + 1)) (pAtm B e (r + 1)) (f_X8_readAtom_r dd (x + 353)) := by
      intro dd hd
      obtain ⟨dd, rfl⟩ : ∃ d', dd = d' + 1 := ⟨dd - 1, by omega⟩
      have e6 : 6 - r = 6 - (r + 1) + 1 := by omega
      have j1 := i1 dd (by omega)
      have j2 := i2 dd (by omega)
      rw [e6] at j1 j2
      exact w_matom (dp := 6 - (r + 1)) (by omega) j2 j1
    exact ⟨h0, rows (r + 1) h0⟩
end MB
