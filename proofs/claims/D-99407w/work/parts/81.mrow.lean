/-! THE MODEL'S ATOMS AND ROWS -/
section MA
variable {iv jv kv lv : gV} {u v w y : gU} {x : Nat} {h : g_H} {B : Nat → Int32} {e : Nat}
theorem w_mand_9 {A : Nat → gPR sCs} (hA : okA B e A) {dp : Nat} {R1 R2 R3 : Nat → gM Int32} (hg : okM x B e dp A (R3 (x + 353))) {b0 : Nat} {P : Int32 → g_H → Prop} : ∀ (m : Nat) (iv : gV) (C : sCs) (b p st n : Nat), PM x iv u B e → p ≤ e → st + 4 ≤ p → b0 < st → iv (x + 353) 16 = iN st → iv (x + 353) 13 = iN dp → mD (Dw x iv) b0 st (fun F => bI (C F = true)) → e < p + m → e < p + n →
    (∀ (C' : sCs) (q : Nat), pRoL B e true A m C p = .inl (C', q) → ∀ (jv : gV) (c st' : Nat), QM x iv jv st st' → st ≤ st' → st' ≤ st + (q - p) → mD (Dw x jv) b0 st' (fun F => bI (C' F = true)) → P 1 (mT x jv c q, u)) →
    (∀ f, pRoL B e true A m C p = .inr f → ∀ jv : gV, QN x iv jv st f → P 0 (jv, u)) → gW (f_X8_readAllOf_9 R1 R2 R3 n (x + 353)) (mT x iv b p, u) P := by
  intro m
  induction m with
  | zero => intro iv C b p st n h _ _ _ _ _ _ q1; omega
  | succ m ih =>
    intro iv C b p st n h hp hst hb h16 h13 hD q1 q2 h1 h2
    obtain ⟨n, rfl⟩ : ∃ n', n = n' + 1 := ⟨n - 1, by omega⟩
    have H := h.M
    have h4 := h.e4
    have b1 := kB_b (B := B) hp
    have b2 := kW_b (B := B) hp
    rw [pRoL, show (if true = true then 19 else 20) = 19 from rfl] at h1 h2
    rw [f_X8_readAllOf_9, gW_B, gW_Tx, gW_B, rMc H, gW_B, w_passes h (i := 40) (by decide) hp, show g_byt.getD 40 [] = g_byt.getD 19 [] from rfl]
    by_cases hs : tk B e (g_byt.getD 19 []) p = true
    · have hs' := tk_b hp (by decide) hs
      have hl : (g_byt.getD 19 []).length = 3 := by decide
      rw [if_pos hs] at h1 h2
      rw [bI_t hs, kT_t hs, gW_iff (by decide), gW_B, rMc H, gW_B]
      refine hg iv u _ (kW B e p) st h b2.2 (by omega) h16 h13 _ (fun C1 r hn jv c st1 j1 j2 j3 => ?_) (fun f hn jv j1 => ?_)
      · rw [hn] at h1 h2
        have hr := hA _ _ _ b2.2 hn
        have hj := h.qm j1
        have l1 := j3.1
        rw [gW_iff (by decide), gW_B, rMc H, gW_B, w_emM hj (st := st1) (by omega) j1.2.1]
        have k1 : QM x iv (em x jv st1 13 0) st (st1 + 1) := j1.tr em_q (by omega)
        have hD2 : mD (Dw x (em x jv st1 13 0)) b0 (st1 + 1) (fun F => bI ((if true = true then C F && C1 F else C F || C1 F) = true)) := mD_bin ((hD.qm j1 (Nat.le_refl _)).qm em_q (by omega)) (j3.qm em_q (by omega)) (by decide) (by decide) em_D.1 (fun F _ => by
          cases C F <;> cases C1 F <;> decide)
        exact ih _ (fun F => if true = true then C F && C1 F else C F || C1 F) c r (st1 + 1) n (h.qm k1) hr.2 (by omega) (by omega) k1.2.1 ((k1.1 13 (by decide) (by decide) (by decide)).trans h13) hD2 (by omega) (by omega) (fun G' q hq kv c' st' l1 l2 l3 l4 => h1 G' q hq kv c' st' (k1.tr l1 (by omega)) (by omega) (by have := pRoL_n hA _ _ _ _ _ hr.2 hq; omega) l4) (fun f hf kv l1 => h2 f hf kv (k1.trF l1 (by omega)))
      · rw [hn] at h2
        unfold f_X8_readAllOf_25
        rw [gW_ift rfl, gW_ret]
        exact h2 f rfl jv j1
    · rw [if_neg hs] at h1
      unfold f_X8_readAllOf_37
      rw [bI_f hs, kT_f hs, gW_ift rfl, gW_ret]
      exact h1 _ _ rfl _ _ st (QM.rf h16) (Nat.le_refl _) (by omega) hD
theorem w_mand {A : Nat → gPR sCs} (hA : okA B e A) {dp : Nat} {R1 R2 R3 : Nat → gM Int32} (hg : okM x B e dp A (R3 (x + 353))) : okM x B e dp (pRow B e true A) (f_X8_readAllOf R1 R2 R3 (x + 353)) := by
  intro iv u b p st h hp hst h16 h13 P h1 h2
  have H := h.M
  have h4 := h.e4
  unfold f_X8_readAllOf
  unfold pRow at h1 h2
  rw [gW_B, rMc H, gW_B]
  refine hg iv u b p st h hp hst h16 h13 _ (fun C q hn jv c st1 j1 j2 j3 => ?_) (fun f hn jv j1 => ?_)
  · rw [hn] at h1 h2
    have hq := hA _ _ _ hp hn
    have l1 := j3.1
    rw [gW_iff (by decide)]
    exact w_mand_9 hA hg 401 jv C c q st1 gN (h.qm j1) hq.2 (by omega) (by omega) j1.2.1 ((j1.1 13 (by decide) (by decide) (by decide)).trans h13) j3 (by omega) (by rw [gN_eq]; omega) (fun G' r hr kv c' st' l1 l2 l3 l4 => h1 G' r hr kv c' st' (j1.tr l1 (by omega)) (by have := pRoL_n hA _ _ _ _ _ hq.2 hr; omega) l4) (fun f hf kv l1 => h2 f hf kv (j1.trF l1 (by omega)))
  · rw [hn] at h2
    rw [gW_ift rfl, gW_ret]
    exact h2 f rfl jv j1
theorem w_mor_9 {A : Nat → gPR sCs} (hA : okA B e A) {dp : Nat} {R1 R2 R3 : Nat → gM Int32} (hg : okM x B e dp A (R2 (x + 353))) {b0 : Nat} {P : Int32 → g_H → Prop} : ∀ (m : Nat) (iv : gV) (C : sCs) (b p st n : Nat), PM x iv u B e → p ≤ e → st + 4 ≤ p → b0 < st → iv (x + 353) 16 = iN st → iv (x + 353) 13 = iN dp → mD (Dw x iv) b0 st (fun F => bI (C F = true)) → e < p + m → e < p + n →
    (∀ (C' : sCs) (q : Nat), pRoL B e false A m C p = .inl (C', q) → ∀ (jv : gV) (c st' : Nat), QM x iv jv st st' → st ≤ st' → st' ≤ st + (q - p) → mD (Dw x jv) b0 st' (fun F => bI (C' F = true)) → P 1 (mT x jv c q, u)) →
    (∀ f, pRoL B e false A m C p = .inr f → ∀ jv : gV, QN x iv jv st f → P 0 (jv, u)) → gW (f_X8_readCond_9 R1 R2 R3 n (x + 353)) (mT x iv b p, u) P := by
  intro m
  induction m with
  | zero => intro iv C b p st n h _ _ _ _ _ _ q1; omega
  | succ m ih =>
    intro iv C b p st n h hp hst hb h16 h13 hD q1 q2 h1 h2
    obtain ⟨n, rfl⟩ : ∃ n', n = n' + 1 := ⟨n - 1, by omega⟩
    have H := h.M
    have h4 := h.e4
    have b1 := kB_b (B := B) hp
    have b2 := kW_b (B := B) hp
    rw [pRoL, show (if false = true then 19 else 20) = 20 from rfl] at h1 h2
    rw [f_X8_readCond_9, gW_B, gW_Tx, gW_B, rMc H, gW_B, w_passes h (i := 41) (by decide) hp, show g_byt.getD 41 [] = g_byt.getD 20 [] from rfl]
    by_cases hs : tk B e (g_byt.getD 20 []) p = true
    · have hs' := tk_b hp (by decide) hs
      have hl : (g_byt.getD 20 []).length = 2 := by decide
      rw [if_pos hs] at h1 h2
      rw [bI_t hs, kT_t hs, gW_iff (by decide), gW_B, rMc H, gW_B]
      refine hg iv u _ (kW B e p) st h b2.2 (by omega) h16 h13 _ (fun C1 r hn jv c st1 j1 j2 j3 => ?_) (fun f hn jv j1 => ?_)
      · rw [hn] at h1 h2
        have hr := hA _ _ _ b2.2 hn
        have hj := h.qm j1
        have l1 := j3.1
        rw [gW_iff (by decide), gW_B, rMc H, gW_B, w_emM hj (st := st1) (by omega) j1.2.1]
        have k1 : QM x iv (em x jv st1 14 0) st (st1 + 1) := j1.tr em_q (by omega)
        have hD2 : mD (Dw x (em x jv st1 14 0)) b0 (st1 + 1) (fun F => bI ((if false = true then C F && C1 F else C F || C1 F) = true)) := mD_bin ((hD.qm j1 (Nat.le_refl _)).qm em_q (by omega)) (j3.qm em_q (by omega)) (by decide) (by decide) em_D.1 (fun F _ => by
          cases C F <;> cases C1 F <;> decide)
        exact ih _ (fun F => if false = true then C F && C1 F else C F || C1 F) c r (st1 + 1) n (h.qm k1) hr.2 (by omega) (by omega) k1.2.1 ((k1.1 13 (by decide) (by decide) (by decide)).trans h13) hD2 (by omega) (by omega) (fun G' q hq kv c' st' l1 l2 l3 l4 => h1 G' q hq kv c' st' (k1.tr l1 (by omega)) (by omega) (by have := pRoL_n hA _ _ _ _ _ hr.2 hq; omega) l4) (fun f hf kv l1 => h2 f hf kv (k1.trF l1 (by omega)))
      · rw [hn] at h2
        unfold f_X8_readCond_25
        rw [gW_ift rfl, gW_ret]
        exact h2 f rfl jv j1
    · rw [if_neg hs] at h1
      unfold f_X8_readCond_37
      rw [bI_f hs, kT_f hs, gW_ift rfl, gW_ret]
      exact h1 _ _ rfl _ _ st (QM.rf h16) (Nat.le_refl _) (by omega) hD
theorem w_mor {A : Nat → gPR sCs} (hA : okA B e A) {dp : Nat} {R1 R2 R3 : Nat → gM Int32} (hg : okM x B e dp A (R2 (x + 353))) : okM x B e dp (pRow B e false A) (f_X8_readCond R1 R2 R3 (x + 353)) := by
  intro iv u b p st h hp hst h16 h13 P h1 h2
  have H := h.M
  have h4 := h.e4
  unfold f_X8_readCond
  unfold pRow at h1 h2
  rw [gW_B, rMc H, gW_B]
  refine hg iv u b p st h hp hst h16 h13 _ (fun C q hn jv c st1 j1 j2 j3 => ?_) (fun f hn jv j1 => ?_)
  · rw [hn] at h1 h2
    have hq := hA _ _ _ hp hn
    have l1 := j3.1
    rw [gW_iff (by decide)]
    exact w_mor_9 hA hg 401 jv C c q st1 gN (h.qm j1) hq.2 (by omega) (by omega) j1.2.1 ((j1.1 13 (by decide) (by decide) (by decide)).trans h13) j3 (by omega) (by rw [gN_eq]; omega) (fun G' r hr kv c' st' l1 l2 l3 l4 => h1 G' r hr kv c' st' (j1.tr l1 (by omega)) (by have := pRoL_n hA _ _ _ _ _ hq.2 hr; omega) l4) (fun f hf kv l1 => h2 f hf kv (j1.trF l1 (by omega)))
  · rw [hn] at h2
    rw [gW_ift rfl, gW_ret]
    exact h2 f rfl jv j1
theorem isS_kB {p k : Nat} (hp : p ≤ e) : isS B e (kB B e p) k = isS B e p k := by
  unfold isS
  rw [kBB hp]
/-- a tag or a comparison -/
theorem w_mtag (h : PM x iv u B e) {R1 R2 R3 : Nat → gM Int32} {b p st : Nat} (hp : p ≤ e) (hst : st + 4 ≤ p) (h16 : iv (x + 353) 16 = iN st) {P : Int32 → g_H → Prop}
    (h1 : ∀ (C : sCs) (q : Nat), pTag B e p = .inl (C, q) → ∀ (jv : gV) (c st' : Nat), QM x iv jv st st' → st' ≤ st + (q - p) → mD (Dw x jv) st st' (fun F => bI (C F = true)) → P 1 (mT x jv c q, u))
    (h2 : ∀ ff, pTag B e p = .inr ff → ∀ jv : gV, QN x iv jv st ff → P 0 (jv, u)) :
    gW (gB (gCk (x + 353) 7) fun _ => gB (f_X8_readTag (x + 353)) fun r4 => gIf (r4 = 0) (gB (gCk (x + 353) 7) fun _ => gB (f_X8_readSum (x + 353)) fun r5 => gIf (r5 = 0) (gRet (0 : Int32)) (gB (gCk (x + 353) 7) fun _ => gB (f_X8_sign (x + 353) (60 : Int32)) fun r6 => gIf (r6 = 0) (gB (gCk (x + 353) 7) fun _ => gB (f_X8_sign (x + 353) (62 : Int32)) fun r7 => gIf (r7 = 0) (f_X8_readAtom_159 R1 R2 R3) (f_X8_readAtom_152 R1 R2 R3 (x + 353) r6)) (f_X8_readAtom_152 R1 R2 R3 (x + 353) r6))) (gRet (1 : Int32))) (mT x iv b p, u) P := by
  have H := h.M
  have h4 := h.e4
  have b1 := kB_b (B := B) hp
  have b2 := kW_b (B := B) hp
  have hst' : st ≤ 399 := by omega
  unfold pTag at h1 h2
  have t55 : ∀ {z : Int32} {hh : g_H} {Q : Int32 → g_H → Prop}, gW (f_X8_readTag_55 z) hh Q ↔ Q (bI (0 ≤ z)) hh := by
    intro z hh Q
    unfold f_X8_readTag_55 f_X8_readTag_64
    by_cases c : z < 0
    · rw [gW_ift c, gW_gd1 (Or.inl rfl), bI_f (fun q => Int32.not_lt.mpr q c)]
    · rw [gW_iff c, gW_gd1 (Or.inr rfl), bI_t (Int32.not_lt.mp c)]
  rw [gW_B, rMc H, gW_B]
  unfold f_X8_readTag f_X8_readTag_33
  rw [gW_B, rMc H, gW_B, w_mlet h hp, gW_B, gW_Tx, gW_B, rMc H, gW_B, w_isWordP h (i := 28) (by decide) hp, show g_byt.getD 28 [] = g_byt.getD 6 [] from rfl]
  have hok : ∀ (F : Nat → Int32) (k : Nat), (F k = 0 ∨ F k = 1) → F k = bI (decide (F k ≠ 0) = true) := by
    intro F k hk
    rcases hk with hk | hk
    · rw [hk]; rfl
    · rw [hk]; rfl
  by_cases t6 : tk B e (g_byt.getD 6 []) p = true
  · have l := tk_b hp (by decide) t6
    have hl : (g_byt.getD 6 []).length = 5 := by decide
    rw [if_pos t6] at h1
    rw [bI_t t6, gW_iff (by decide), gW_iff (by decide), gW_B, rMc H, gW_B, w_emM h hst' h16, t55, bI_t (by decide), gW_iff (by decide), gW_ret]
    exact h1 _ _ rfl _ _ (st + 1) em_q (by omega) (mD_push (by decide) em_D.1 em_D.2 (fun F hF => (sFact_k 6 (by decide) F 0).trans (hok F 6 hF.1)))
  · rw [if_neg t6] at h1 h2
    rw [bI_f t6, gW_ift rfl, gW_B, gW_Tx, gW_B, rMc H, gW_B, w_isWordP h (i := 37) (by decide) hp, show g_byt.getD 37 [] = g_byt.getD 7 [] from rfl]
    by_cases t7 : tk B e (g_byt.getD 7 []) p = true
    · have l := tk_b hp (by decide) t7
      have hl : (g_byt.getD 7 []).length = 6 := by decide
      rw [if_pos t7] at h1
      rw [bI_t t7, gW_iff (by decide), gW_iff (by decide), gW_B, rMc H, gW_B, w_emM h hst' h16, t55, bI_t (by decide), gW_iff (by decide), gW_ret]
      exact h1 _ _ rfl _ _ (st + 1) em_q (by omega) (mD_push (by decide) em_D.1 em_D.2 (fun F hF => (sFact_k 7 (by decide) F 0).trans (hok F 7 hF.2)))
    · rw [if_neg t7] at h1 h2
      rw [bI_f t7, gW_ift rfl, gW_ift (by decide), gW_B, rMi H, mT_12, gW_B, rMp H, mT_p, t55, bI_f (by decide), gW_ift rfl, gW_B, rMc H, gW_B]
      refine w_msum h b1.2 (by omega) h16 (fun G q hn jv c st1 j1 j2 j3 => ?_) (fun f hn jv j1 => ?_)
      · rw [pSum_kB hp] at hn
        rw [hn] at h1 h2
        dsimp only at h1 h2
        have hq := pSum_n hp hn
        have bq := kB_b (B := B) hq.2
        have hj := h.qm j1
        have l1 := j3.1
        have fin : ∀ (bb : Nat) (op : Int32) (z : Int32) (X : sGs → sCs), (z = 0 ∧ op = 11 ∨ z = 1 ∧ op = 10) → (∀ G' F, sBin op (G F) (G' F) = bI (X G' F = true)) → kB B e q < e → (match pSum B e (kB B e q + 1) with
            | .inr f => (∀ jv : gV, QN x iv jv st f → P 0 (jv, u))
            | .inl (G', r) => (∀ (jv : gV) (c st' : Nat), QM x iv jv st st' → st' ≤ st + (r - p) → mD (Dw x jv) st st' (fun F => bI (X G' F = true)) → P 1 (mT x jv c r, u))) → gW (f_X8_readAtom_152 R1 R2 R3 (x + 353) z) (mT x jv bb (kB B e q + 1), u) P := by
          intro bb op z X hz hX hqe hh
          unfold f_X8_readAtom_152 f_X8_readAtom_159 f_X8_readAtom_173
          rw [gW_B, rMc H, gW_B]
          refine w_msum hj (by omega) (by omega) j1.2.1 (fun G' r hr kv c' st2 k1 k2 k3 => ?_) (fun f hr kv k1 => ?_)
          · rw [hr] at hh
            dsimp only at hh
            have hr' := pSum_n (by omega) hr
            have hk := hj.qm k1
            have l2 := k3.1
            have k0 : QM x iv kv st st2 := j1.tr k1 (by omega)
            have k4 : QM x iv (em x kv st2 op 0) st (st2 + 1) := k0.tr em_q (by omega)
            have hD : mD (Dw x (em x kv st2 op 0)) st (st2 + 1) (fun F => bI (X G' F = true)) := mD_bin ((j3.qm k1 (Nat.le_refl _)).qm em_q (by omega)) (k3.qm em_q (by omega)) (by rcases hz with ⟨-, q⟩ | ⟨-, q⟩ <;> rw [q] <;> decide) (by rcases hz with ⟨-, q⟩ | ⟨-, q⟩ <;> rw [q] <;> decide) em_D.1 (fun F _ => hX G' F)
            rw [gW_iff (by decide)]
            rcases hz with ⟨rfl, rfl⟩ | ⟨rfl, rfl⟩
            · rw [gW_ift rfl, gW_B, rMc H, gW_B, w_emM hk (by omega) k1.2.1, gW_ret]
              exact hh _ _ (st2 + 1) k4 (by omega) hD
            · rw [gW_iff (by decide), gW_B, rMc H, gW_B, w_emM hk (by omega) k1.2.1, gW_ret]
              exact hh _ _ (st2 + 1) k4 (by omega) hD
          · rw [hr] at hh
            rw [gW_ift rfl, gW_ret]
            exact hh kv (j1.trF k1 (by omega))
        rw [gW_iff (by decide), gW_B, rMc H, gW_B]
        show gW (f_X8_sign (x + 353) (iN 60)) _ _
        rw [w_msign hj hq.2]
        by_cases z6 : isS B e q 60 = true
        · have hz := isS_b hq.2 z6
          rw [if_pos z6] at h1 h2
          rw [bI_t z6, if_pos z6, gW_iff (by decide)]
          refine fin _ 10 1 (fun G' F => decide (G F < G' F)) (Or.inr ⟨rfl, rfl⟩) (fun G' F => ?_) hz.1 ?_
          · show bI (G F < G' F) = _
            exact bI_c (by rw [decide_eq_true_eq])
          · cases hs : pSum B e (kB B e q + 1) with
            | inr f => rw [hs] at h2; exact h2 f rfl
            | inl rr =>
              rw [hs] at h1
              exact h1 _ _ rfl
        · rw [if_neg z6] at h1 h2
          rw [bI_f z6, if_neg z6, gW_ift rfl, gW_B, rMc H, gW_B]
          show gW (f_X8_sign (x + 353) (iN 62)) _ _
          rw [w_msign hj bq.2, isS_kB hq.2, kBB hq.2]
          by_cases z7 : isS B e q 62 = true
          · have hz := isS_b hq.2 z7
            rw [if_pos z7] at h1 h2
            rw [bI_t z7, if_pos z7, gW_iff (by decide)]
            refine fin _ 11 0 (fun G' F => decide (G' F < G F)) (Or.inl ⟨rfl, rfl⟩) (fun G' F => ?_) hz.1 ?_
            · show bI (G' F < G F) = _
              exact bI_c (by rw [decide_eq_true_eq])
            · cases hs : pSum B e (kB B e q + 1) with
              | inr f => rw [hs] at h2; exact h2 f rfl
              | inl rr =>
                rw [hs] at h1
                exact h1 _ _ rfl
          · rw [if_neg z7] at h2
            unfold f_X8_readAtom_159
            rw [bI_f z7, if_neg z7, gW_ift rfl, gW_ret]
            exact h2 _ rfl _ j1.mN
      · rw [pSum_kB hp] at hn
        rw [hn] at h2
        rw [gW_ift rfl, gW_ret]
        exact h2 f rfl jv j1
end MA
