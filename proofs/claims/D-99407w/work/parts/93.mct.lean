/-! THE MODEL READS A COURT -/
section MCT
variable {iv jv kv lv : gV} {u v y : gU} {x : Nat} {B : Nat → Int32} {e : Nat} {W : Nat → Int32} {pn on : Nat}
/-- what reading a court's text keeps in the model -/
def MF (x : Nat) (iv jv : gV) : Prop := (∀ k : Nat, k ≠ 10 → k ≠ 12 → jv (x + 353) k = iv (x + 353) k) ∧ ∀ a : Nat, a ≠ x + 353 → a ≠ x + 353 + 1 → jv a = iv a
theorem MF.rf : MF x iv iv := ⟨fun _ _ _ => rfl, fun _ _ _ => rfl⟩
theorem MF.tr (h : MF x iv jv) (g : MF x jv kv) : MF x iv kv := ⟨fun k a b => (g.1 k a b).trans (h.1 k a b), fun k a b => (g.2 k a b).trans (h.2 k a b)⟩
theorem MF.mt {b p : Nat} : MF x iv (mT x iv b p) := ⟨fun _ k1 k2 => mT_k k1 k2, fun _ a1 _ => mT_a a1⟩
theorem MF.up {k : Nat} {z : Int32} (h : MF x iv jv) : MF x iv (g_u2 jv (x + 353 + 1) k z) := ⟨fun j k1 k2 => by rw [g_u2_ne _ _ _ (by omega)]; exact h.1 j k1 k2, fun a a1 a2 => by rw [g_u2_ne _ _ _ a2]; exact h.2 a a1 a2⟩
theorem PM.mf (h : PM x iv u B e) (q : MF x iv jv) : PM x jv u B e := h.fr (q.1 11 (by decide) (by decide)) (q.2 _ (by omega) (by omega)) (fun a ha => q.2 a (by omega) (by omega))
theorem iN_ge {n : Nat} (h : n < 2147483648) : (0 : Int32) ≤ iN n := by rw [show (0 : Int32) = iN 0 from rfl, iN_le (by omega) h]; omega
theorem wpA {h : g_H} {a : Nat} {P : Int32 → g_H → Prop} : (gW (f_X8_propAt (iN a) 0) h P ↔ P (iN (9 + 4 * a + 0)) h) ∧ (gW (f_X8_propAt (iN a) 1) h P ↔ P (iN (9 + 4 * a + 1)) h) ∧ (gW (f_X8_propAt (iN a) 2) h P ↔ P (iN (9 + 4 * a + 2)) h) ∧ (gW (f_X8_propAt (iN a) 3) h P ↔ P (iN (9 + 4 * a + 3)) h) := ⟨w_propAt, w_propAt, w_propAt, w_propAt⟩
theorem woA {h : g_H} {a : Nat} {P : Int32 → g_H → Prop} : (gW (f_X8_oneAt (iN a) 0) h P ↔ P (iN (41 + 4 * a + 0)) h) ∧ (gW (f_X8_oneAt (iN a) 1) h P ↔ P (iN (41 + 4 * a + 1)) h) ∧ (gW (f_X8_oneAt (iN a) 2) h P ↔ P (iN (41 + 4 * a + 2)) h) ∧ (gW (f_X8_oneAt (iN a) 3) h P ↔ P (iN (41 + 4 * a + 3)) h) := ⟨w_oneAt, w_oneAt, w_oneAt, w_oneAt⟩
theorem w_mprop_106 (H : MS u (x + 353)) (hv : iv (x + 353 + 1) = W) (hW : WI W pn on) (hp8 : pn < 8) {d wn b r : Nat} (hd : d < 6) (hw : wn ≤ 99) {j s : Int32} {P : Int32 → g_H → Prop}
    (hP : ∀ jv : gV, MF x iv jv → jv (x + 353 + 1) = addP W pn (iN d) j (iN wn) s → P 1 (mT x jv b r, u)) : gW (f_X8_readProp_106 (x + 353) (iN pn) (iN (2 ^ d)) j s (iN wn)) (mT x iv b r, u) P := by
  unfold f_X8_readProp_106
  rw [gW_ift (iN_ge (by omega)), gW_B, rMr0 H, gW_B, wpA.1, gW_B, w_ntz hd, gW_B, rMs0 H (by omega), mT_w (by omega), gW_B, rMr0 H, gW_B, wpA.2.1, gW_B, rMs0 H (by omega), mT_w (by omega), gW_B, rMr0 H, gW_B, wpA.2.2.1, gW_B, rMs0 H (by omega), mT_w (by omega), gW_B, rMr0 H, gW_B, wpA.2.2.2, gW_B, rMs0 H (by omega), mT_w (by omega), gW_B, rMr0 H, gW_B, rMA0_0 H, mT_1, gW_B, rMS0_0 H, mT_w (by omega), gW_ret]
  refine hP _ ((((MF.rf.up).up).up).up).up ?_
  have e0 : va_up (va_up (va_up (va_up W (9 + 4 * pn + 0) (iN d)) (9 + 4 * pn + 1) j) (9 + 4 * pn + 2) (iN wn)) (9 + 4 * pn + 3) s 0 = iN pn := by
    rw [va_up_ne _ _ (by omega), va_up_ne _ _ (by omega), va_up_ne _ _ (by omega), va_up_ne _ _ (by omega)]
    exact hW.1.1
  rw [g_u2_self, g_u2_self, g_u2_self, g_u2_self, g_u2_self, hv, e0, iNp1]
  rfl
theorem w_mprop (h : PM x iv u B e) (hv : iv (x + 353 + 1) = W) (hW : WI W pn on) {f p : Nat} (hp : p ≤ e) {P : Int32 → g_H → Prop}
    (h1 : ∀ W' r, pPrp B e W pn on f p = .inl ((W', pn + 1, on), r) → ∀ (jv : gV) (b : Nat), MF x iv jv → jv (x + 353 + 1) = W' → P 1 (mT x jv b r, u))
    (h2 : ∀ g, pPrp B e W pn on f p = .inr g → ∀ q : Nat, P 0 (mT x iv g q, u)) : gW (f_X8_readProp (x + 353)) (mT x iv f p, u) P := by
  have H := h.M
  have h8 := hW.1.2.1
  unfold f_X8_readProp
  unfold pPrp at h1 h2
  rw [gW_B, rMc H, gW_B, w_props H, mT_1, hv, hW.1.1]
  by_cases c8 : pn = 8
  · rw [gW_ift (by rw [c8]; rfl), gW_ret]
    rw [if_pos c8] at h2
    exact h2 f rfl p
  rw [if_neg c8] at h1 h2
  have hp8 : pn < 8 := by omega
  rw [gW_iff (by rw [show (8 : Int32) = iN 8 from rfl, iN_eq (by omega) (by omega)]; exact c8), gW_B, rMc H, gW_B]
  refine w_deeds h hp (fun s q hl => ?_) (fun g hl q hq => ?_)
  · obtain ⟨l1, l2, v, l3, rfl⟩ := pLet_n hp hl
    have l0 := pLet_0 hp hl
    have hv0 : v ≠ 0 := fun q => l0 (by rw [q]; rfl)
    obtain ⟨c1, c2⟩ := bC_1 v l3 hv0
    rw [gW_iff (iN_0 (by omega)), gW_B, w_bitCount]
    unfold pLe at h1 h2
    rw [hl] at h1 h2
    dsimp only at h1 h2
    by_cases c : bC (iN v) = 1
    · obtain ⟨d, hd, rfl⟩ := c2 c
      rw [if_neg (fun q => q.2 (c1.mpr c))] at h1 h2
      dsimp only at h1 h2
      rw [ntz_d d hd] at h1 h2
      rw [gW_ift c, gW_B, gW_Tx, gW_B, rMc H, gW_B]
      refine w_mafter h (i := 22) (by decide) l2 (fun j r ha b => ?_) (fun g ha r hr => ?_)
      · rw [show g_byt.getD 22 [] = g_byt.getD 2 [] from rfl] at ha
        rw [ha] at h1 h2
        dsimp only at h1 h2
        have ha' := ha
        unfold pAft at ha'
        by_cases t2 : tk B e (g_byt.getD 2 []) q = true
        · rw [if_pos t2] at ha'
          have bw := kW_b (B := B) l2
          obtain ⟨n1, n2, n3, n4, -⟩ := pNum_n bw.2 ha'
          have br := kB_b (B := B) n2
          have bwr := kW_b (B := B) n2
          have tail : ∀ (s : Int32) (b q : Nat), q ≤ e → (∀ W' r, pPr2 B e W pn on (iN d) j s q = .inl ((W', pn + 1, on), r) → ∀ (jv : gV) (b : Nat), MF x iv jv → jv (x + 353 + 1) = W' → P 1 (mT x jv b r, u)) → (∀ g, pPr2 B e W pn on (iN d) j s q = .inr g → ∀ q : Nat, P 0 (mT x iv g q, u)) → gW (f_X8_readProp_86 (x + 353) (iN pn) (iN (2 ^ d)) j s) (mT x iv b q, u) P := by
            intro s b q hq g1 g2
            have bq := kW_b (B := B) hq
            unfold f_X8_readProp_86
            unfold pPr2 at g1 g2
            rw [gW_B, gW_Tx, gW_B, rMc H, gW_B, w_passes h (i := 24) (by decide) hq, show g_byt.getD 24 [] = g_byt.getD 3 [] from rfl]
            by_cases t3 : tk B e (g_byt.getD 3 []) q = true
            · rw [if_pos t3] at g1 g2
              rw [bI_t t3, gW_iff (by decide), kT_t t3, gW_B, rMc H, gW_B]
              refine w_mnum h bq.2 (fun w r hn => ?_) (fun g hn r hr => ?_)
              · obtain ⟨m1, m2, m3, m4, wn, m5, m6⟩ := pNum_n bq.2 hn
                rw [hn] at g1
                subst m6
                rw [show (99 : Int32) = iN 99 from rfl, iN_le (by omega) (by omega)] at m4
                exact w_mprop_106 H hv hW hp8 hd m4 (fun jv k1 k2 => g1 _ r rfl jv _ k1 k2)
              · rw [hn] at g2
                unfold f_X8_readProp_106
                rw [gW_iff (by decide), gW_ret]
                exact g2 g rfl r
            · rw [if_neg t3] at g1
              rw [bI_f t3, gW_ift rfl, kT_f t3]
              exact w_mprop_106 H hv hW hp8 hd (wn := 0) (by decide) (fun jv k1 k2 => g1 _ _ rfl jv _ k1 k2)
          rw [gW_ift n3, gW_B, gW_Tx, gW_B, rMc H, gW_B, w_passes h (i := 23) (by decide) n2, show g_byt.getD 23 [] = g_byt.getD 8 [] from rfl]
          by_cases t8 : tk B e (g_byt.getD 8 []) r = true
          · rw [if_pos t8] at h1 h2
            rw [bI_t t8, gW_iff (by decide), kT_t t8, gW_B, rMc H, gW_B]
            refine w_mnum h bwr.2 (fun w r2 hn => ?_) (fun g hn r2 hr => ?_)
            · obtain ⟨m1, m2, m3, m4, sl, m5, m6⟩ := pNum_n bwr.2 hn
              rw [hn] at h1 h2
              dsimp only at h1 h2
              rw [gW_iff (fun q => absurd (Int32.le_trans m3 (Int32.le_of_lt q)) (fun q2 => by
                have := Int32.lt_irrefl (Int32.lt_of_le_of_lt m3 q)
                exact this)), gW_B, rMc H, gW_B]
              rw [w_propIn H (pn := pn) (by rw [mT_1, hv]; exact hW.1.1) h8, mT_1, hv]
              by_cases c : sIn W pn w = -1
              · rw [if_pos c] at h1 h2
                rw [gW_ift c]
                exact tail _ _ _ m2 h1 h2
              · rw [if_neg c] at h2
                rw [gW_iff c]
                unfold f_X8_readProp_84
                rw [gW_ret]
                exact h2 _ rfl _
            · rw [hn] at h2
              rw [gW_ift (by decide)]
              unfold f_X8_readProp_84
              rw [gW_ret]
              exact h2 _ rfl _
          · rw [if_neg t8] at h1 h2
            rw [bI_f t8, gW_ift rfl, kT_f t8]
            exact tail _ _ _ br.2 h1 h2
        · rw [if_neg t2] at ha'; cases ha'
      · rw [show g_byt.getD 22 [] = g_byt.getD 2 [] from rfl] at ha
        rw [ha] at h2
        rw [gW_iff (by decide), gW_ret]
        exact h2 g rfl r
    · rw [if_pos ⟨rfl, fun q => c (c1.mp q)⟩] at h2
      rw [gW_iff c]
      unfold f_X8_readProp_30
      rw [gW_ret]
      exact h2 _ rfl q
  · unfold pLe at h2
    rw [hl] at h2
    rw [gW_ift (by decide)]
    unfold f_X8_readProp_30
    rw [gW_ret]
    exact h2 g rfl q
theorem w_macc_91 (H : MS u (x + 353)) (hv : iv (x + 353 + 1) = W) (hW : WI W pn on) (ho6 : on < 6) {b r : Nat} {d nv k : Int32} {P : Int32 → g_H → Prop}
    (hP : ∀ jv : gV, MF x iv jv → jv (x + 353 + 1) = addO W on d nv k → P 1 (mT x jv b r, u)) : gW (f_X8_readAccused_91 (x + 353) (iN on) nv d k) (mT x iv b r, u) P := by
  unfold f_X8_readAccused_91
  rw [gW_B, rMr0 H, gW_B, woA.1, gW_B, rMs0 H (by omega), mT_w (by omega), gW_B, rMr0 H, gW_B, woA.2.1, gW_B, rMs0 H (by omega), mT_w (by omega), gW_B, rMr0 H, gW_B, woA.2.2.1, gW_B, rMs0 H (by omega), mT_w (by omega), gW_B, rMr0 H, gW_B, woA.2.2.2, gW_B, rMs0 H (by omega), mT_w (by omega), gW_B, rMr0 H, gW_B, rMA0_1 H, mT_1, gW_B, rMS0_1 H, mT_w (by omega), gW_ret]
  refine hP _ ((((MF.rf.up).up).up).up).up ?_
  have e0 : va_up (va_up (va_up (va_up W (41 + 4 * on + 0) d) (41 + 4 * on + 1) nv) (41 + 4 * on + 2) k) (41 + 4 * on + 3) 0 1 = iN on := by
    rw [va_up_ne _ _ (by omega), va_up_ne _ _ (by omega), va_up_ne _ _ (by omega), va_up_ne _ _ (by omega)]
    exact hW.1.2.2.1
  rw [g_u2_self, g_u2_self, g_u2_self, g_u2_self, g_u2_self, hv, e0, iNp1]
  rfl
theorem w_macc_46 (h : PM x iv u B e) (hv : iv (x + 353 + 1) = W) (hW : WI W pn on) (ho6 : on < 6) {b q : Nat} (hq : q ≤ e) {d nv : Int32} (hd : 0 ≤ d) {P : Int32 → g_H → Prop}
    (h1 : ∀ W' r, pAc2 B e W pn on nv d q = .inl ((W', pn, on + 1), r) → ∀ (jv : gV) (b : Nat), MF x iv jv → jv (x + 353 + 1) = W' → P 1 (mT x jv b r, u))
    (h2 : ∀ g, pAc2 B e W pn on nv d q = .inr g → ∀ q : Nat, P 0 (mT x iv g q, u)) : gW (f_X8_readAccused_46 (x + 353) (iN on) nv d) (mT x iv b q, u) P := by
  have H := h.M
  have bq := kW_b (B := B) hq
  unfold f_X8_readAccused_46
  unfold pAc2 at h1 h2
  rw [gW_ift hd, gW_B, gW_Tx, gW_B, rMc H, gW_B, w_passes h (i := 28) (by decide) hq, show g_byt.getD 28 [] = g_byt.getD 6 [] from rfl]
  by_cases t6 : tk B e (g_byt.getD 6 []) q = true
  · rw [if_pos t6] at h1 h2
    rw [bI_t t6, gW_iff (by decide), kT_t t6, gW_B, rMc H, gW_B, w_props H, mT_1, hv, hW.1.1, gW_B, rMc H, gW_B]
    refine w_mnum h bq.2 (fun w r hn => ?_) (fun g hn r hr => ?_)
    · obtain ⟨m1, m2, m3, m4, -⟩ := pNum_n bq.2 hn
      rw [hn] at h1
      rw [gW_ift m3, gW_B, gW_ret]
      exact w_macc_91 H hv hW ho6 (fun jv k1 k2 => h1 _ r rfl jv _ k1 k2)
    · rw [hn] at h2
      rw [gW_iff (by decide), gW_ret]
      exact h2 g rfl r
  · rw [if_neg t6] at h1
    rw [bI_f t6, gW_ift rfl, kT_f t6]
    exact w_macc_91 H hv hW ho6 (fun jv k1 k2 => h1 _ _ rfl jv _ k1 k2)
theorem w_macc (h : PM x iv u B e) (hv : iv (x + 353 + 1) = W) (hW : WI W pn on) {f p : Nat} (hp : p ≤ e) {P : Int32 → g_H → Prop}
    (h1 : ∀ W' r, pAcc B e W pn on f p = .inl ((W', pn, on + 1), r) → ∀ (jv : gV) (b : Nat), MF x iv jv → jv (x + 353 + 1) = W' → P 1 (mT x jv b r, u))
    (h2 : ∀ g, pAcc B e W pn on f p = .inr g → ∀ q : Nat, P 0 (mT x iv g q, u)) : gW (f_X8_readAccused (x + 353)) (mT x iv f p, u) P := by
  have H := h.M
  have h6 := hW.1.2.2.2
  unfold f_X8_readAccused
  unfold pAcc at h1 h2
  rw [gW_B, rMc H, gW_B, w_oneCount H, mT_1, hv, hW.1.2.2.1]
  by_cases c6 : on = 6
  · rw [gW_ift (by rw [c6]; rfl), gW_ret]
    rw [if_pos c6] at h2
    exact h2 f rfl p
  rw [if_neg c6] at h1 h2
  have ho6 : on < 6 := by omega
  rw [gW_iff (by rw [show (6 : Int32) = iN 6 from rfl, iN_eq (by omega) (by omega)]; exact c6), gW_B, gW_Tx, gW_B, rMc H, gW_B]
  refine w_mafter h (i := 26) (by decide) hp (fun j r ha b => ?_) (fun g ha r hr => ?_)
  · rw [show g_byt.getD 26 [] = g_byt.getD 5 [] from rfl] at ha
    rw [ha] at h1 h2
    dsimp only at h1 h2
    have ha' := ha
    unfold pAft at ha'
    by_cases t5 : tk B e (g_byt.getD 5 []) p = true
    · rw [if_pos t5] at ha'
      have bw := kW_b (B := B) hp
      obtain ⟨n1, n2, n3, n4, -⟩ := pNum_n bw.2 ha'
      have br := kB_b (B := B) n2
      have bwr := kW_b (B := B) n2
      rw [gW_ift (Int32.le_trans (by decide) n3), gW_B, gW_Tx, gW_B, rMc H, gW_B, w_passes h (i := 27) (by decide) n2, show g_byt.getD 27 [] = g_byt.getD 10 [] from rfl]
      by_cases t10 : tk B e (g_byt.getD 10 []) r = true
      · rw [if_pos t10] at h1 h2
        rw [bI_t t10, gW_iff (by decide), kT_t t10, gW_B, rMc H, gW_B]
        refine w_deeds h bwr.2 (fun s q hl => ?_) (fun g hl q hq => ?_)
        · obtain ⟨l1, l2, v, l3, rfl⟩ := pLet_n bwr.2 hl
          unfold pLe at h1 h2
          rw [hl] at h1 h2
          dsimp only at h1 h2
          rw [if_neg (fun q => absurd q.1 (by decide))] at h1 h2
          exact w_macc_46 h hv hW ho6 l2 (iN_ge (by omega)) h1 h2
        · unfold pLe at h2
          rw [hl] at h2
          unfold f_X8_readAccused_46
          rw [gW_iff (by decide), gW_ret]
          exact h2 g rfl q
      · rw [if_neg t10] at h1 h2
        rw [bI_f t10, gW_ift rfl, kT_f t10]
        exact w_macc_46 h hv hW ho6 br.2 (by decide) h1 h2
    · rw [if_neg t5] at ha'; cases ha'
  · rw [show g_byt.getD 26 [] = g_byt.getD 5 [] from rfl] at ha
    rw [ha] at h2
    rw [gW_iff (by decide), gW_ret]
    exact h2 g rfl r
end MCT
