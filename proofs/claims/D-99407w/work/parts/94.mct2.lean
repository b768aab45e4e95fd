/-! THE MODEL READS A COURT: a line, all -/
section MCU
variable {iv jv kv lv : gV} {u v y : gU} {x : Nat} {B : Nat → Int32} {e : Nat} {W : Nat → Int32} {pn on : Nat}
/-! what a line keeps -/
theorem pPr2_n (hW : WI W pn on) (hp8 : pn < 8) {d j q : Nat} (hd : d < 6) (hj : j ≤ 20) {s : Int32} (hs : s = -1 ∨ ∃ k : Nat, k < 10 ∧ s = iN k) (hf : s ≠ -1 → sIn W pn s = -1) (hq : q ≤ e) {c : gCt} {r : Nat} (h : pPr2 B e W pn on (iN d) (iN j) s q = .inl (c, r)) : q ≤ r ∧ r ≤ e ∧ WI c.1 c.2.1 c.2.2 := by
  have bq := kB_b (B := B) hq
  have bw := kW_b (B := B) hq
  unfold pPr2 at h
  by_cases t : tk B e (g_byt.getD 3 []) q = true
  · rw [if_pos t] at h
    cases hn : pNum B e (kW B e q) 0 99 with
    | inr f => rw [hn] at h; cases h
    | inl z =>
      obtain ⟨w, r'⟩ := z
      rw [hn] at h
      obtain ⟨n1, n2, n3, n4, k, n5, n6⟩ := pNum_n bw.2 hn
      subst n6
      rw [show (99 : Int32) = iN 99 from rfl, iN_le (by omega) (by omega)] at n4
      injection h with h
      injection h with h1 h2
      subst h1 h2
      exact ⟨by omega, n2, hW.moP hp8 hd hj n4 hs hf⟩
  · rw [if_neg t] at h
    injection h with h
    injection h with h1 h2
    subst h1 h2
    exact ⟨bq.1, bq.2, hW.moP (w := 0) hp8 hd hj (by decide) hs hf⟩
theorem pPrp_n (hW : WI W pn on) {f p : Nat} (hp : p ≤ e) {c : gCt} {r : Nat} (h : pPrp B e W pn on f p = .inl (c, r)) : p ≤ r ∧ r ≤ e ∧ WI c.1 c.2.1 c.2.2 := by
  have h8 := hW.1.2.1
  unfold pPrp at h
  by_cases c8 : pn = 8
  · rw [if_pos c8] at h; cases h
  rw [if_neg c8] at h
  cases hl : pLe B e p true with
  | inr f => rw [hl] at h; cases h
  | inl z =>
    obtain ⟨s, q⟩ := z
    rw [hl] at h
    obtain ⟨l1, l2, -, l3⟩ := pLe_n hp hl
    obtain ⟨d, hd, rfl⟩ := l3 rfl
    dsimp only at h
    rw [ntz_d d hd] at h
    cases ha : pAft B e (g_byt.getD 2 []) q 0 20 with
    | inr f => rw [ha] at h; cases h
    | inl z =>
      obtain ⟨jv, q2⟩ := z
      rw [ha] at h
      dsimp only at h
      unfold pAft at ha
      by_cases t2 : tk B e (g_byt.getD 2 []) q = true
      · rw [if_pos t2] at ha
        have bw := kW_b (B := B) l2
        have bb := kB_b (B := B) l2
        obtain ⟨n1, n2, n3, n4, j, n5, n6⟩ := pNum_n bw.2 ha
        subst n6
        rw [show (20 : Int32) = iN 20 from rfl, iN_le (by omega) (by omega)] at n4
        have b2 := kB_b (B := B) n2
        have w2 := kW_b (B := B) n2
        by_cases t8 : tk B e (g_byt.getD 8 []) q2 = true
        · rw [if_pos t8] at h
          cases hn : pNum B e (kW B e q2) 0 9 with
          | inr f => rw [hn] at h; cases h
          | inl z =>
            obtain ⟨slv, q3⟩ := z
            rw [hn] at h
            dsimp only at h
            obtain ⟨m1, m2, m3, m4, sl, m5, m6⟩ := pNum_n w2.2 hn
            subst m6
            rw [show (9 : Int32) = iN 9 from rfl, iN_le (by omega) (by omega)] at m4
            by_cases c : sIn W pn (iN sl) = -1
            · rw [if_pos c] at h
              obtain ⟨g1, g2, g3⟩ := pPr2_n hW (by omega) hd n4 (Or.inr ⟨sl, by omega, rfl⟩) (fun _ => c) m2 h
              exact ⟨by omega, g2, g3⟩
            · rw [if_neg c] at h; cases h
        · rw [if_neg t8] at h
          obtain ⟨g1, g2, g3⟩ := pPr2_n hW (by omega) hd n4 (Or.inl rfl) (fun q => absurd rfl q) b2.2 h
          exact ⟨by omega, g2, g3⟩
      · rw [if_neg t2] at ha; cases ha
theorem pAc2_n (hW : WI W pn on) (ho6 : on < 6) {d nv q : Nat} (hd : d < 64) (hnv : 1 ≤ nv ∧ nv ≤ 60) (hq : q ≤ e) {c : gCt} {r : Nat} (h : pAc2 B e W pn on (iN nv) (iN d) q = .inl (c, r)) : q ≤ r ∧ r ≤ e ∧ WI c.1 c.2.1 c.2.2 := by
  have h8 := hW.1.2.1
  have bq := kB_b (B := B) hq
  have bw := kW_b (B := B) hq
  unfold pAc2 at h
  by_cases t : tk B e (g_byt.getD 6 []) q = true
  · rw [if_pos t] at h
    cases hn : pNum B e (kW B e q) 0 (iN pn - 1) with
    | inr f => rw [hn] at h; cases h
    | inl z =>
      obtain ⟨w, r'⟩ := z
      rw [hn] at h
      obtain ⟨n1, n2, n3, n4, k, n5, n6⟩ := pNum_n bw.2 hn
      subst n6
      have hk8 : k < 8 := by
        have h0 : pn ≠ 0 := by
          intro q
          rw [q] at n4
          have : iN k ≤ -1 := n4
          have h3 : ¬ (0 : Int32) ≤ -1 := by decide
          exact h3 (Int32.le_trans n3 this)
        rw [show (1 : Int32) = iN 1 from rfl, iN_sub (by omega), iN_le (by omega) (by omega)] at n4
        omega
      obtain ⟨n, hn1, hn2⟩ := sh_n k hk8
      injection h with h
      injection h with h1 h2
      subst h1 h2
      rw [hn2]
      exact ⟨by omega, n2, hW.moO ho6 hd hnv hn1⟩
  · rw [if_neg t] at h
    injection h with h
    injection h with h1 h2
    subst h1 h2
    exact ⟨bq.1, bq.2, hW.moO (k := 0) ho6 hd hnv (by decide)⟩
theorem pAcc_n (hW : WI W pn on) {f p : Nat} (hp : p ≤ e) {c : gCt} {r : Nat} (h : pAcc B e W pn on f p = .inl (c, r)) : p ≤ r ∧ r ≤ e ∧ WI c.1 c.2.1 c.2.2 := by
  have h6 := hW.1.2.2.2
  unfold pAcc at h
  by_cases c6 : on = 6
  · rw [if_pos c6] at h; cases h
  rw [if_neg c6] at h
  cases ha : pAft B e (g_byt.getD 5 []) p 1 60 with
  | inr f => rw [ha] at h; cases h
  | inl z =>
    obtain ⟨nvv, q⟩ := z
    rw [ha] at h
    dsimp only at h
    unfold pAft at ha
    by_cases t5 : tk B e (g_byt.getD 5 []) p = true
    · rw [if_pos t5] at ha
      have bw := kW_b (B := B) hp
      have bb := kB_b (B := B) hp
      obtain ⟨n1, n2, n3, n4, nv, n5, n6⟩ := pNum_n bw.2 ha
      subst n6
      rw [show (60 : Int32) = iN 60 from rfl, iN_le (by omega) (by omega)] at n4
      rw [show (1 : Int32) = iN 1 from rfl, iN_le (by omega) (by omega)] at n3
      have bq := kB_b (B := B) n2
      have wq := kW_b (B := B) n2
      by_cases t10 : tk B e (g_byt.getD 10 []) q = true
      · rw [if_pos t10] at h
        cases hl : pLe B e (kW B e q) false with
        | inr f => rw [hl] at h; cases h
        | inl z =>
          obtain ⟨s, q2⟩ := z
          rw [hl] at h
          obtain ⟨l1, l2, ⟨d, hd, rfl⟩, -⟩ := pLe_n wq.2 hl
          obtain ⟨g1, g2, g3⟩ := pAc2_n hW (by omega) hd ⟨n3, n4⟩ l2 h
          exact ⟨by omega, g2, g3⟩
      · rw [if_neg t10] at h
        obtain ⟨g1, g2, g3⟩ := pAc2_n hW (by omega) (d := 0) (by decide) ⟨n3, n4⟩ bq.2 h
        exact ⟨by omega, g2, g3⟩
    · rw [if_neg t5] at ha; cases ha
theorem pFld_n (hW : WI W pn on) {p k : Nat} (hp : p ≤ e) {hi : Nat} (hkf : (k = 4 ∧ hi = 999) ∨ (k = 5 ∧ hi = 9) ∨ (k = 6 ∧ hi = 20)) {c : gCt} {r : Nat} (h : pFld B e W pn on p (iN hi) k = .inl (c, r)) : p ≤ r ∧ r ≤ e ∧ WI c.1 c.2.1 c.2.2 := by
  unfold pFld at h
  cases hn : pNum B e p 0 (iN hi) with
  | inr f => rw [hn] at h; cases h
  | inl z =>
    obtain ⟨w, r'⟩ := z
    rw [hn] at h
    obtain ⟨n1, n2, n3, n4, t, n5, n6⟩ := pNum_n hp hn
    subst n6
    rw [iN_le (by omega) (by omega)] at n4
    injection h with h
    injection h with h1 h2
    subst h1 h2
    exact ⟨by omega, n2, hW.fld (by omega) (fun q => by omega) (fun q => ⟨t, by omega, rfl⟩) (fun q => ⟨t, by omega, rfl⟩) (fun q => ⟨t, by omega, rfl⟩)⟩
theorem pCtL_n {c c' : gCt} (hW : WI c.1 c.2.1 c.2.2) {p r : Nat} (hp : p ≤ e) (h : pCtL B e c p = .inl (c', r)) : p < r ∧ r ≤ e ∧ WI c'.1 c'.2.1 c'.2.2 := by
  have bw := kW_b (B := B) hp
  have lt : ∀ i : Nat, i < 42 → tk B e (g_byt.getD i []) p = true → p < kW B e p := fun i hi t => tk_lt hi hp t
  unfold pCtL at h
  by_cases t0 : tk B e (g_byt.getD 0 []) p = true
  · rw [if_pos t0] at h
    have l := lt 0 (by decide) t0
    obtain ⟨g1, g2, g3⟩ := pPrp_n hW bw.2 h
    exact ⟨by omega, g2, g3⟩
  rw [if_neg t0] at h
  by_cases t9 : tk B e (g_byt.getD 9 []) p = true
  · rw [if_pos t9] at h
    have l := lt 9 (by decide) t9
    obtain ⟨g1, g2, g3⟩ := pAcc_n hW bw.2 h
    exact ⟨by omega, g2, g3⟩
  rw [if_neg t9] at h
  by_cases t11 : tk B e (g_byt.getD 11 []) p = true
  · rw [if_pos t11] at h
    have l := lt 11 (by decide) t11
    obtain ⟨g1, g2, g3⟩ := pFld_n (hi := 9) hW bw.2 (by omega) h
    exact ⟨by omega, g2, g3⟩
  rw [if_neg t11] at h
  by_cases t12 : tk B e (g_byt.getD 12 []) p = true
  · rw [if_pos t12] at h
    have l := lt 12 (by decide) t12
    obtain ⟨g1, g2, g3⟩ := pFld_n (hi := 20) hW bw.2 (by omega) h
    exact ⟨by omega, g2, g3⟩
  rw [if_neg t12] at h
  by_cases t13 : tk B e (g_byt.getD 13 []) p = true
  · rw [if_pos t13] at h
    have l := lt 13 (by decide) t13
    obtain ⟨g1, g2, g3⟩ := pFld_n (hi := 999) hW bw.2 (by omega) h
    exact ⟨by omega, g2, g3⟩
  · rw [if_neg t13] at h; cases h
theorem pCtL_kB {c : gCt} {p : Nat} (hp : p ≤ e) : pCtL B e c (kB B e p) = pCtL B e c p := by
  unfold pCtL
  rw [tk_kB hp, tk_kB hp, tk_kB hp, tk_kB hp, tk_kB hp, kWB hp, kBB hp]
theorem w_mfld (h : PM x iv u B e) (hv : iv (x + 353 + 1) = W) {b p k : Nat} (hp : p ≤ e) (hk : k < 1000) {hi : Int32} {P : Int32 → g_H → Prop}
    (h1 : ∀ W' r, pFld B e W pn on p hi k = .inl ((W', pn, on), r) → ∀ (jv : gV) (b : Nat), MF x iv jv → jv (x + 353 + 1) = W' → P 1 (mT x jv b r, u))
    (h2 : ∀ g, pFld B e W pn on p hi k = .inr g → ∀ jv : gV, MF x iv jv → jv (x + 353) 12 = iN g → P 0 (jv, u)) : gW (f_X8_readNumber (x + 353) (iN k) 0 hi) (mT x iv b p, u) P := by
  have H := h.M
  unfold f_X8_readNumber f_X8_readNumber_29 f_X8_readNumber_40
  unfold pFld at h1 h2
  rw [gW_B, rMc H, gW_B]
  refine w_mnum h hp (fun w r hn => ?_) (fun g hn r hr => ?_)
  · rw [hn] at h1
    obtain ⟨m1, m2, m3, m4, t, m5, rfl⟩ := pNum_n hp hn
    rw [gW_B, rMr0 H, gW_ift m3, gW_B, rMs0 H (by omega), gW_iff (iN_0 (by omega)), gW_gd1 (Or.inr rfl), mT_w (by omega)]
    exact h1 _ r rfl _ _ MF.rf.up (by rw [g_u2_self, hv])
  · rw [hn] at h2
    rw [gW_B, rMr0 H, gW_iff (by decide), gW_B, rMr0 H, gW_B, rMa0 H (by omega), gW_B, rMs0 H (by omega), gW_ift (by decide), gW_gd1 (Or.inl rfl), mT_w (by omega)]
    exact h2 g rfl _ (MF.rf.up.tr MF.mt) mT_12
theorem w_mcline (h : PM x iv u B e) {c : gCt} (hv : iv (x + 353 + 1) = c.1) (hW : WI c.1 c.2.1 c.2.2) {p : Nat} (hp : p ≤ e) {P : Int32 → g_H → Prop}
    (h1 : ∀ c' r, pCtL B e c p = .inl (c', r) → ∀ (jv : gV) (b : Nat), MF x iv jv → jv (x + 353 + 1) = c'.1 → P 1 (mT x jv b r, u))
    (h2 : ∀ g, pCtL B e c p = .inr g → ∀ jv : gV, MF x iv jv → jv (x + 353) 12 = iN g → P 0 (jv, u)) : gW (f_X8_readCourtLine (x + 353)) (mT x iv (kB B e p) (kW B e p), u) P := by
  have H := h.M
  have bw := kW_b (B := B) hp
  have f2 : ∀ (g q : Nat), MF x iv (mT x iv g q) ∧ mT x iv g q (x + 353) 12 = iN g := fun g q => ⟨MF.mt, mT_12⟩
  unfold f_X8_readCourtLine
  unfold pCtL at h1 h2
  rw [gW_B, gW_Tx, gW_B, rMc H, gW_B, w_isWordP h (i := 21) (by decide) hp, show g_byt.getD 21 [] = g_byt.getD 0 [] from rfl]
  by_cases t0 : tk B e (g_byt.getD 0 []) p = true
  · rw [if_pos t0] at h1 h2
    rw [bI_t t0, gW_iff (by decide), gW_B, rMc H, gW_B]
    refine w_mprop h hv hW bw.2 (fun W' r hr jv b k1 k2 => ?_) (fun g hg q => ?_)
    · rw [gW_gd1 (Or.inr rfl)]
      exact h1 _ r hr jv b k1 k2
    · rw [gW_gd1 (Or.inl rfl)]
      exact h2 g hg _ (f2 g q).1 (f2 g q).2
  rw [if_neg t0] at h1 h2
  rw [bI_f t0, gW_ift rfl, gW_B, gW_Tx, gW_B, rMc H, gW_B, w_isWordP h (i := 25) (by decide) hp, show g_byt.getD 25 [] = g_byt.getD 9 [] from rfl]
  by_cases t9 : tk B e (g_byt.getD 9 []) p = true
  · rw [if_pos t9] at h1 h2
    rw [bI_t t9, gW_iff (by decide), gW_B, rMc H, gW_B]
    refine w_macc h hv hW bw.2 (fun W' r hr jv b k1 k2 => ?_) (fun g hg q => ?_)
    · rw [gW_gd1 (Or.inr rfl)]
      exact h1 _ r hr jv b k1 k2
    · rw [gW_gd1 (Or.inl rfl)]
      exact h2 g hg _ (f2 g q).1 (f2 g q).2
  rw [if_neg t9] at h1 h2
  rw [bI_f t9, gW_ift rfl, gW_B, gW_Tx, gW_B, rMc H, gW_B, w_isWordP h (i := 29) (by decide) hp, show g_byt.getD 29 [] = g_byt.getD 11 [] from rfl]
  by_cases t11 : tk B e (g_byt.getD 11 []) p = true
  · rw [if_pos t11] at h1 h2
    rw [bI_t t11, gW_iff (by decide), gW_B, rMc H, gW_B]
    show gW (f_X8_readNumber (x + 353) (iN 5) 0 9) _ _
    refine w_mfld (pn := c.2.1) (on := c.2.2) h hv bw.2 (by decide) (fun W' r hr jv b k1 k2 => ?_) (fun g hg jv k1 k2 => ?_)
    · rw [gW_gd1 (Or.inr rfl)]
      exact h1 _ r hr jv b k1 k2
    · rw [gW_gd1 (Or.inl rfl)]
      exact h2 g hg jv k1 k2
  rw [if_neg t11] at h1 h2
  rw [bI_f t11, gW_ift rfl, gW_B, gW_Tx, gW_B, rMc H, gW_B, w_isWordP h (i := 30) (by decide) hp, show g_byt.getD 30 [] = g_byt.getD 12 [] from rfl]
  by_cases t12 : tk B e (g_byt.getD 12 []) p = true
  · rw [if_pos t12] at h1 h2
    rw [bI_t t12, gW_iff (by decide), gW_B, rMc H, gW_B]
    show gW (f_X8_readNumber (x + 353) (iN 6) 0 20) _ _
    refine w_mfld (pn := c.2.1) (on := c.2.2) h hv bw.2 (by decide) (fun W' r hr jv b k1 k2 => ?_) (fun g hg jv k1 k2 => ?_)
    · rw [gW_gd1 (Or.inr rfl)]
      exact h1 _ r hr jv b k1 k2
    · rw [gW_gd1 (Or.inl rfl)]
      exact h2 g hg jv k1 k2
  rw [if_neg t12] at h1 h2
  rw [bI_f t12, gW_ift rfl, gW_B, gW_Tx, gW_B, rMc H, gW_B, w_isWordP h (i := 31) (by decide) hp, show g_byt.getD 31 [] = g_byt.getD 13 [] from rfl]
  unfold f_X8_readCourtLine_90 f_X8_readCourtLine_91
  by_cases t13 : tk B e (g_byt.getD 13 []) p = true
  · rw [if_pos t13] at h1 h2
    rw [bI_t t13, gW_iff (by decide), gW_B, rMc H, gW_B]
    show gW (f_X8_readNumber (x + 353) (iN 4) 0 999) _ _
    refine w_mfld (pn := c.2.1) (on := c.2.2) h hv bw.2 (by decide) (fun W' r hr jv b k1 k2 => ?_) (fun g hg jv k1 k2 => ?_)
    · rw [gW_iff (by decide), gW_gd1 (Or.inr rfl)]
      exact h1 _ r hr jv b k1 k2
    · rw [gW_ift rfl, gW_gd1 (Or.inl rfl)]
      exact h2 g hg jv k1 k2
  · rw [if_neg t13] at h2
    rw [bI_f t13, gW_ift rfl, gW_gd1 (Or.inl rfl)]
    exact h2 _ rfl _ (f2 _ _).1 (f2 _ _).2
noncomputable def pCa2 (B : Nat → Int32) (e m n : Nat) (c : gCt) (p : Nat) : gPR gCt := if n = 14 then .inr (kB B e p) else match pCtL B e c p with
  | .inr f => .inr f
  | .inl (c', r) => pCrt B e m (n + 1) c' r
theorem w_mcrt_28 {P : Int32 → g_H → Prop} : ∀ (m : Nat) (iv : gV) (c : gCt) (n b p N : Nat), PM x iv u B e → p ≤ e → n ≤ 14 → iv (x + 353 + 1) = c.1 → WI c.1 c.2.1 c.2.2 → e < p + m → e < p + N →
    (∀ (c' : gCt) (q : Nat), pCa2 B e m n c p = .inl (c', q) → ∀ (jv : gV) (k : Nat), k ≤ 14 → MF x iv jv → jv (x + 353 + 1) = c'.1 → P (iN k) (jv, u)) →
    (∀ f, pCa2 B e m n c p = .inr f → ∀ jv : gV, MF x iv jv → jv (x + 353) 12 = iN f → P (-1) (jv, u)) → gW (f_X8_readAll_28 N (x + 353) 1 (iN n)) (mT x iv b p, u) P := by
  intro m
  induction m with
  | zero => intro iv c n b p N h q1 _ _ _ q2; omega
  | succ m ih =>
    intro iv c n b p N h q1 q3 hv hW q4 q5 h1 h2
    obtain ⟨N, rfl⟩ : ∃ N', N = N' + 1 := ⟨N - 1, by omega⟩
    have H := h.M
    have h4 := h.e4
    have b1 := kB_b (B := B) q1
    have bw := kW_b (B := B) q1
    unfold pCa2 at h1 h2
    rw [f_X8_readAll_28, gW_B, rMc H, gW_B]
    unfold f_X8_readLine f_X8_readLine_16 f_X8_readLine_41 f_X8_readLine_45 f_X8_readLine_46
    rw [gW_B, rMc H, gW_B, w_mlet h q1, gW_iff (by decide)]
    by_cases c14 : n = 14
    · rw [if_pos c14] at h2
      rw [gW_ift (by rw [c14]; decide), gW_gd1 (Or.inl rfl), gW_ift rfl]
      unfold f_X8_readAll_37
      rw [gW_ret]
      exact h2 _ rfl _ MF.mt mT_12
    · rw [if_neg c14] at h1 h2
      rw [gW_iff (by rw [show (14 : Int32) = iN 14 from rfl, iN_le (by omega) (by omega)]; omega), gW_iff (by decide), gW_B, rMc H, gW_B]
      refine w_mcline h hv hW q1 (fun c' r hr jv b' s1 s2 => ?_) (fun f hr jv s1 s2 => ?_)
      · rw [hr] at h1 h2
        dsimp only at h1 h2
        have hr' := pCtL_n hW q1 hr
        have hj := h.mf s1
        have br := kB_b (B := B) hr'.2.1
        rw [pCrt] at h1 h2
        unfold pMor at h1 h2
        rw [gW_iff (by decide), gW_gd1 (Or.inr rfl), gW_iff (by decide), gW_B, rMc H, gW_B, w_blanks hj hr'.2.1, gW_B, rMi H, mT_10, gW_B, rMi H, mT_11, hj.eE]
        by_cases ce : kB B e r = e
        · rw [if_pos ce] at h1
          unfold f_X8_readAll_54
          rw [gW_ift (by rw [ce]), gW_ret, iNp1]
          exact h1 _ _ rfl _ (n + 1) (by omega) (s1.tr MF.mt) (by rw [mT_1]; exact s2)
        · rw [if_neg ce, if_neg (show ¬ n + 1 = 0 by omega)] at h1 h2
          rw [gW_iff (by rw [iN_eq (by omega) (by omega)]; exact ce), gW_B, rMc H, gW_B, w_isAt hj br.2]
          by_cases c59 : B (kB B e r) = 59
          · rw [if_pos c59] at h1 h2
            rw [bI_t ⟨by omega, by rw [c59]; exact Int32.le_refl _, by rw [c59]; exact Int32.le_refl _⟩, gW_iff (by decide), gW_B, rMi H, mT_10, gW_B, rMp H, iNp1, iNp1, mT_p]
            have bs := kB_b (B := B) (show kB B e r + 1 ≤ e by omega)
            refine ih jv c' (n + 1) _ (kB B e r + 1) N hj (by omega) (by omega) s2 hr'.2.2 (by omega) (by omega) (fun L' q hq kv k t1 t2 t3 => h1 L' q ?_ kv k t1 (s1.tr t2) t3) (fun f hf kv t1 t2 => h2 f ?_ kv (s1.tr t1) t2)
            · rw [← hq]
              unfold pCa2
              by_cases c : n + 1 = 14
              · rw [if_pos c, if_pos c]
              · rw [if_neg c, if_neg c]
                dsimp only
                rw [pCtL_kB (by omega)]
                cases pCtL B e c' (kB B e r + 1) with
                | inr f => rfl
                | inl y => rfl
            · rw [← hf]
              unfold pCa2
              by_cases c : n + 1 = 14
              · rw [if_pos c, if_pos c]
              · rw [if_neg c, if_neg c]
                dsimp only
                rw [pCtL_kB (by omega)]
                cases pCtL B e c' (kB B e r + 1) with
                | inr f => rfl
                | inl y => rfl
          · rw [if_neg c59] at h2
            unfold f_X8_readAll_69
            rw [bI_f (fun q => c59 (Int32.le_antisymm q.2.2 q.2.1)), gW_ift rfl, gW_ret]
            exact h2 _ rfl _ (s1.tr MF.mt) mT_12
      · rw [hr] at h2
        unfold f_X8_readAll_37
        rw [gW_ift rfl, gW_gd1 (Or.inl rfl), gW_ift rfl, gW_ret]
        exact h2 f rfl jv s1 s2
end MCU
