/-! THE MODEL'S COURT, WHOLE -/
section MCV
variable {iv jv kv lv : gV} {u v y : gU} {x : Nat} {B : Nat → Int32} {e : Nat} {W : Nat → Int32} {pn on : Nat}
/-! what a court's text leaves as it is -/
theorem pPr2_w (hp8 : pn < 8) {d j s : Int32} {q : Nat} {c : gCt} {r : Nat} (h : pPr2 B e W pn on d j s q = .inl (c, r)) {k : Nat} (hk : k = 2 ∨ k = 3 ∨ 65 ≤ k) : c.1 k = W k := by
  unfold pPr2 at h
  split at h
  · split at h
    · cases h
    · injection h with h
      injection h with h1 _
      subst h1
      exact addP_k (by omega) (by omega)
  · injection h with h
    injection h with h1 _
    subst h1
    exact addP_k (by omega) (by omega)
theorem pPrp_w (hp : pn ≤ 8) {f p : Nat} {c : gCt} {r : Nat} (h : pPrp B e W pn on f p = .inl (c, r)) {k : Nat} (hk : k = 2 ∨ k = 3 ∨ 65 ≤ k) : c.1 k = W k := by
  unfold pPrp at h
  split at h
  · cases h
  · split at h
    · cases h
    · split at h
      · cases h
      · split at h
        · split at h
          · cases h
          · split at h
            · exact pPr2_w (by omega) h hk
            · cases h
        · exact pPr2_w (by omega) h hk
theorem pAc2_w (ho : on < 6) {d nv : Int32} {q : Nat} {c : gCt} {r : Nat} (h : pAc2 B e W pn on nv d q = .inl (c, r)) {k : Nat} (hk : k = 2 ∨ k = 3 ∨ 65 ≤ k) : c.1 k = W k := by
  unfold pAc2 at h
  split at h
  · split at h
    · cases h
    · injection h with h
      injection h with h1 _
      subst h1
      exact addO_k (by omega) (by omega)
  · injection h with h
    injection h with h1 _
    subst h1
    exact addO_k (by omega) (by omega)
theorem pAcc_w (ho : on ≤ 6) {f p : Nat} {c : gCt} {r : Nat} (h : pAcc B e W pn on f p = .inl (c, r)) {k : Nat} (hk : k = 2 ∨ k = 3 ∨ 65 ≤ k) : c.1 k = W k := by
  unfold pAcc at h
  split at h
  · cases h
  · split at h
    · cases h
    · split at h
      · split at h
        · cases h
        · exact pAc2_w (by omega) h hk
      · exact pAc2_w (by omega) h hk
theorem pFld_w {p i : Nat} (hi : i = 4 ∨ i = 5 ∨ i = 6) {y : Int32} {c : gCt} {r : Nat} (h : pFld B e W pn on p y i = .inl (c, r)) {k : Nat} (hk : k = 2 ∨ k = 3 ∨ 65 ≤ k) : c.1 k = W k := by
  unfold pFld at h
  split at h
  · cases h
  · injection h with h
    injection h with h1 _
    subst h1
    exact va_up_ne _ _ (by omega)
theorem pCtL_w {c c' : gCt} (hW : WI c.1 c.2.1 c.2.2) {p r : Nat} (h : pCtL B e c p = .inl (c', r)) {k : Nat} (hk : k = 2 ∨ k = 3 ∨ 65 ≤ k) : c'.1 k = c.1 k := by
  unfold pCtL at h
  split at h
  · exact pPrp_w hW.1.2.1 h hk
  · split at h
    · exact pAcc_w hW.1.2.2.2 h hk
    · split at h
      · exact pFld_w (by omega) h hk
      · split at h
        · exact pFld_w (by omega) h hk
        · split at h
          · exact pFld_w (by omega) h hk
          · cases h
theorem pCrt_w : ∀ (m n : Nat) (c : gCt) (p : Nat) (c' : gCt) (q : Nat), p ≤ e → WI c.1 c.2.1 c.2.2 → pCrt B e m n c p = .inl (c', q) → ∀ k : Nat, (k = 2 ∨ k = 3 ∨ 65 ≤ k) → c'.1 k = c.1 k := by
  intro m
  induction m with
  | zero => intro n c p c' q _ _ h; cases h
  | succ m ih =>
    intro n c p c' q hp hW h k hk
    rw [pCrt] at h
    cases hm : pMor B e p n 14 with
    | inr f => rw [hm] at h; cases h
    | inl z =>
      obtain ⟨b, q1⟩ := z
      rw [hm] at h
      have hq := pMor_n hp hm
      cases b with
      | false =>
        injection h with h
        injection h with h1 _
        rw [← h1]
      | true =>
        dsimp only at h
        cases hl : pCtL B e c q1 with
        | inr f => rw [hl] at h; cases h
        | inl z =>
          obtain ⟨c2, r⟩ := z
          rw [hl] at h
          obtain ⟨l1, l2, l3⟩ := pCtL_n hW hq.2.1 hl
          exact (ih _ _ _ _ _ l2 l3 h k hk).trans (pCtL_w hW hl hk)
/-- the model reads all of a court's text -/
theorem w_mcread (h0 : MS u (x + 353)) (hB : okB B e) (h9 : iv (x + 353) 9 = iN e) (ht : ∀ k : Nat, k < e → iv (x + 353 + 6) k = B k) (hX : TX x iv u) (hv : iv (x + 353 + 1) = W) (hW : WI W pn on) {P : Int32 → g_H → Prop}
    (h1 : ∀ (c' : gCt) (q : Nat), pCrt B e 402 0 (W, pn, on) 0 = .inl (c', q) → ∀ (jv : gV) (k : Nat), k ≤ 14 → jv (x + 353) 0 = 0 → jv (x + 353) 9 = 0 → (∀ k : Nat, (k = 6 ∨ k = 7 ∨ k = 14 ∨ k = 23 ∨ k = 24) → jv (x + 353) k = iv (x + 353) k) → (∀ a : Nat, a ≠ x + 353 → a ≠ x + 353 + 1 → jv a = iv a) → jv (x + 353 + 1) = c'.1 → P (iN k) (jv, u))
    (h2 : ∀ f, pCrt B e 402 0 (W, pn, on) 0 = .inr f → ∀ jv : gV, jv (x + 353) 0 = 0 → jv (x + 353) 9 = 0 → jv (x + 353) 12 = iN f → (∀ k : Nat, (k = 6 ∨ k = 7 ∨ k = 14 ∨ k = 23 ∨ k = 24) → jv (x + 353) k = iv (x + 353) k) → (∀ a : Nat, a ≠ x + 353 → a ≠ x + 353 + 1 → jv a = iv a) → P (-1) (jv, u)) : gW (f_X8_readAll (x + 353) 1) (iv, u) P := by
  have H := h0
  have he := hB.1
  unfold f_X8_readAll
  rw [gW_B, rMc H, gW_B]
  refine w_uses H (fun j1 u0 u9 u10 u11 uk ua => ?_)
  rw [gW_B, rMp H, gW_B, rMc H, gW_B]
  have kk : ∀ k : Nat, k ≠ 16 → g_u2 j1 (x + 353) 16 0 (x + 353) k = j1 (x + 353) k := fun k hk => by rw [g_u2_self, va_up_ne _ _ hk]
  have ka : ∀ a : Nat, a ≠ x + 353 → g_u2 j1 (x + 353) 16 0 a = iv a := fun a ha => by rw [g_u2_ne _ _ _ ha]; exact ua a ha
  generalize g_u2 j1 (x + 353) 16 0 = j2 at kk ka ⊢
  have hPM : PM x j2 u B e := ⟨H, by rw [kk 11 (by decide), u11]; exact h9, hB, fun k hk => by rw [ka _ (by omega)]; exact ht k hk, hX.fr Ux.rf (Nat.le_refl _) (fun a ha => ka a (by omega))⟩
  unfold f_X8_blanks
  rw [w_blanksG H he e 0 gN j2 (by omega) (by rw [gN_eq]; omega) (by rw [kk 10 (by decide)]; exact u10) hPM.eE (fun k hk => hPM.t hk)]
  have b0 := kB_b (B := B) (Nat.zero_le e)
  have keep : ∀ jv : gV, MF x (mT x j2 (kB B e 0) (kB B e 0)) jv → jv (x + 353) 0 = 0 ∧ jv (x + 353) 9 = 0 ∧ (∀ k : Nat, (k = 6 ∨ k = 7 ∨ k = 14 ∨ k = 23 ∨ k = 24) → jv (x + 353) k = iv (x + 353) k) ∧ (∀ a : Nat, a ≠ x + 353 → a ≠ x + 353 + 1 → jv a = iv a) := by
    intro jv hq
    refine ⟨?_, ?_, fun k hk => ?_, fun a a1 a2 => ?_⟩
    · rw [hq.1 0 (by decide) (by decide), mT_k (by decide) (by decide), kk 0 (by decide)]; exact u0
    · rw [hq.1 9 (by decide) (by decide), mT_k (by decide) (by decide), kk 9 (by decide)]; exact u9
    · rw [hq.1 k (by omega) (by omega), mT_k (by omega) (by omega), kk k (by omega)]; exact uk k (by omega) (by omega) (by omega) (by omega)
    · rw [hq.2 a a1 a2, mT_a a1]; exact ka a a1
  have hv2 : mT x j2 (kB B e 0) (kB B e 0) (x + 353 + 1) = W := by rw [mT_1, ka _ (by omega)]; exact hv
  rw [gW_B, rMi H, mT_10, gW_B, rMi H, mT_11, hPM.eE]
  rw [pCrt] at h1 h2
  unfold pMor at h1 h2
  by_cases ce : kB B e 0 = e
  · rw [if_pos ce] at h1
    rw [gW_ift (by rw [ce]), gW_ret]
    obtain ⟨g1, g2, g3, g4⟩ := keep _ MF.rf
    exact h1 (W, pn, on) e rfl _ 0 (by decide) g1 g2 g3 g4 hv2
  · rw [if_neg ce, if_pos rfl] at h1 h2
    rw [gW_iff (by rw [iN_eq (by omega) (by omega)]; exact ce)]
    have := w_mcrt_28 (P := P) 401 (mT x j2 (kB B e 0) (kB B e 0)) (W, pn, on) 0 (kB B e 0) (kB B e 0) gN hPM.att b0.2 (by decide) hv2 hW (by omega) (by rw [gN_eq]; omega) (fun c' q hq jv k s1 s2 s3 => ?_) (fun f hf jv s1 s2 => ?_)
    · rw [show mT x (mT x j2 (kB B e 0) (kB B e 0)) (kB B e 0) (kB B e 0) = mT x j2 (kB B e 0) (kB B e 0) from by
        unfold mT
        rw [g_u2_sw _ _ _ _ (show (10 : Nat) ≠ 12 by decide), g_u2_u2, g_u2_u2]] at this
      exact this
    · obtain ⟨g1, g2, g3, g4⟩ := keep _ s2
      refine h1 c' q ?_ jv k s1 g1 g2 g3 g4 s3
      rw [← hq]
      unfold pCa2
      rw [if_neg (show ¬ 0 = 14 by decide)]
      rfl
    · obtain ⟨g1, g2, g3, g4⟩ := keep _ s1
      refine h2 f ?_ jv g1 g2 s2 g3 g4
      rw [← hf]
      unfold pCa2
      rw [if_neg (show ¬ 0 = 14 by decide)]
      rfl
/-- what was is copied -/
theorem w_court_2 (H : MS u (x + 353)) {P : Int32 → g_H → Prop} : ∀ (k i n : Nat) (jv : gV), i + k = 1154 → k < n → (∀ j : Nat, j < i → jv (x + 353 + 3) j = jv (x + 353 + 1) j) → (∀ kv : gV, (∀ a : Nat, a ≠ x + 353 + 3 → kv a = jv a) → (∀ j : Nat, j < 1154 → kv (x + 353 + 3) j = jv (x + 353 + 1) j) → gW (f_X8_court_27 (x + 353)) (kv, u) P) → gW (f_X8_court_2 n (x + 353) (iN i)) (jv, u) P := by
  intro k
  induction k with
  | zero =>
    intro i n jv h1 h2 hj hP
    obtain ⟨n, rfl⟩ : ∃ n', n = n' + 1 := ⟨n - 1, by omega⟩
    have : i = 1154 := by omega
    subst this
    rw [f_X8_court_2, gW_ift (by decide)]
    exact hP jv (fun _ _ => rfl) hj
  | succ k ih =>
    intro i n jv h1 h2 hj hP
    obtain ⟨n, rfl⟩ : ∃ n', n = n' + 1 := ⟨n - 1, by omega⟩
    rw [f_X8_court_2, gW_iff (by rw [show (1154 : Int32) = iN 1154 from rfl, iN_le (by omega) (by omega)]; omega), gW_B, rMr2 H, gW_B, rMr0 H, gW_B, rMa0 H (by omega), gW_B, rMs2 H (by omega), iNp1]
    refine ih (i + 1) n _ (by omega) (by omega) (fun j hj2 => ?_) (fun kv g1 g2 => hP kv (fun a ha => by rw [g1 a ha, g_u2_ne _ _ _ ha]) (fun j hj2 => by rw [g2 j hj2, g_u2_ne _ _ _ (by omega)]))
    rw [g_u2_self, g_u2_ne _ _ _ (show x + 353 + 1 ≠ x + 353 + 3 by omega)]
    by_cases ej : j = i
    · rw [ej, va_up_self]
    · rw [va_up_ne _ _ ej]; exact hj j (by omega)
/-- what was is laid back -/
theorem w_court_92 (H : MS u (x + 353)) {P : Int32 → g_H → Prop} : ∀ (k i n : Nat) (jv : gV), i + k = 1154 → k < n → (∀ j : Nat, j < i → jv (x + 353 + 1) j = jv (x + 353 + 3) j) → (∀ kv : gV, (∀ a : Nat, a ≠ x + 353 + 1 → kv a = jv a) → (∀ j : Nat, j < 1154 → kv (x + 353 + 1) j = jv (x + 353 + 3) j) → P 0 (kv, u)) → gW (f_X8_court_92 n (x + 353) (iN i)) (jv, u) P := by
  intro k
  induction k with
  | zero =>
    intro i n jv h1 h2 hj hP
    obtain ⟨n, rfl⟩ : ∃ n', n = n' + 1 := ⟨n - 1, by omega⟩
    have : i = 1154 := by omega
    subst this
    unfold f_X8_court_92 f_X8_court_117
    rw [gW_ift (by decide), gW_ret]
    exact hP jv (fun _ _ => rfl) hj
  | succ k ih =>
    intro i n jv h1 h2 hj hP
    obtain ⟨n, rfl⟩ : ∃ n', n = n' + 1 := ⟨n - 1, by omega⟩
    rw [f_X8_court_92, gW_iff (by rw [show (1154 : Int32) = iN 1154 from rfl, iN_le (by omega) (by omega)]; omega), gW_B, rMr0 H, gW_B, rMr2 H, gW_B, rMa2 H (by omega), gW_B, rMs0 H (by omega), iNp1]
    refine ih (i + 1) n _ (by omega) (by omega) (fun j hj2 => ?_) (fun kv g1 g2 => hP kv (fun a ha => by rw [g1 a ha, g_u2_ne _ _ _ ha]) (fun j hj2 => by rw [g2 j hj2, g_u2_ne _ _ _ (by omega)]))
    rw [g_u2_self, g_u2_ne _ _ _ (show x + 353 + 3 ≠ x + 353 + 1 by omega)]
    by_cases ej : j = i
    · rw [ej, va_up_self]
    · rw [va_up_ne _ _ ej]; exact hj j (by omega)
/-- only the model's own cells, its court and what was are others -/
def MK (x : Nat) (iv jv : gV) : Prop := (∀ k : Nat, (k = 6 ∨ k = 23 ∨ k = 24) → jv (x + 353) k = iv (x + 353) k) ∧ ∀ a : Nat, a ≠ x + 353 → a ≠ x + 354 → a ≠ x + 356 → jv a = iv a
theorem w_mcourt (h0 : MS u (x + 353)) (hB : okB B e) (h9 : iv (x + 353) 9 = iN e) (ht : ∀ k : Nat, k < e → iv (x + 353 + 6) k = B k) (hX : TX x iv u) (hv : iv (x + 353 + 1) = W) (hW : WI W pn on) {tm : Nat} (htm : W 2 = iN tm) (htm2 : tm ≤ 12) {P : Int32 → g_H → Prop}
    (hg : ∀ (c' : gCt) (q : Nat), pCrt B e 402 0 (W, pn, on) 0 = .inl (c', q) → tm ≠ 12 → ∀ jv : gV, jv (x + 353) 0 = 0 → jv (x + 353) 9 = 0 → jv (x + 353) 14 = -1 → jv (x + 353) 7 = 0 → MK x iv jv → jv (x + 354) = va_up c'.1 2 (iN (tm + 1)) → P (iN (tm + 1)) (jv, u))
    (hb2 : ∀ (c' : gCt) (q : Nat), pCrt B e 402 0 (W, pn, on) 0 = .inl (c', q) → tm = 12 → ∀ jv : gV, jv (x + 353) 0 = 2 → jv (x + 353) 9 = 0 → jv (x + 353) 14 = -1 → jv (x + 353) 7 = iv (x + 353) 7 → MK x iv jv → (∀ k : Nat, k < 1154 → jv (x + 354) k = iv (x + 354) k) → P 0 (jv, u))
    (hb1 : ∀ f : Nat, pCrt B e 402 0 (W, pn, on) 0 = .inr f → ∀ jv : gV, jv (x + 353) 0 = 1 → jv (x + 353) 9 = 0 → jv (x + 353) 14 = iN f → jv (x + 353) 7 = iv (x + 353) 7 → MK x iv jv → (∀ k : Nat, k < 1154 → jv (x + 354) k = iv (x + 354) k) → P 0 (jv, u)) : gW (f_X8_court (x + 353)) (iv, u) P := by
  have H := h0
  unfold f_X8_court
  show gW (f_X8_court_2 gN (x + 353) (iN 0)) _ _
  refine w_court_2 H 1154 0 gN iv (by omega) (by rw [gN_eq]; omega) (fun j hj => absurd hj (Nat.not_lt_zero j)) (fun j1 a1 b1 => ?_)
  unfold f_X8_court_27
  rw [gW_B, rMc H, gW_B]
  -- what is laid back is what was
  have back : ∀ (y : Int32) (j2 : gV), (∀ a : Nat, a ≠ x + 353 → a ≠ x + 353 + 1 → j2 a = j1 a) → (∀ jv : gV, (∀ a : Nat, a ≠ x + 354 → jv a = j2 a) → (∀ k : Nat, k < 1154 → jv (x + 354) k = iv (x + 354) k) → P 0 (jv, u)) → gW (f_X8_court_90 (x + 353)) (j2, u) P := by
    intro y j2 k1 hP
    unfold f_X8_court_90
    show gW (f_X8_court_92 gN (x + 353) (iN 0)) _ _
    refine w_court_92 H 1154 0 gN j2 (by omega) (by rw [gN_eq]; omega) (fun j hj => absurd hj (Nat.not_lt_zero j)) (fun j3 a3 b3 => hP j3 a3 (fun k hk => ?_))
    rw [show j3 (x + 354) k = j3 (x + 353 + 1) k from rfl, b3 k hk, k1 _ (by omega) (by omega), b1 k hk]
  refine w_mcread H hB (by rw [a1 _ (by omega)]; exact h9) (fun k hk => by rw [a1 _ (by omega)]; exact ht k hk) (hX.fr Ux.rf (Nat.le_refl _) (fun a ha => a1 a (by omega))) (by rw [a1 _ (by omega)]; exact hv) hW (fun c' q hc j2 k hk d0 d9 dk da dW => ?_) (fun f hf j2 d0 d9 d12 dk da => ?_)
  · have hw := pCrt_w _ _ _ _ _ _ (Nat.zero_le e) hW hc
    have mk : ∀ j3 : gV, (∀ k : Nat, (k = 6 ∨ k = 23 ∨ k = 24) → j3 (x + 353) k = j2 (x + 353) k) → (∀ a : Nat, a ≠ x + 353 → a ≠ x + 354 → j3 a = j2 a) → MK x iv j3 := fun j3 g1 g2 => ⟨fun k hk => by rw [g1 k hk, dk k (by omega), a1 _ (by omega)], fun a b1 b2 b3 => by rw [g2 a b1 b2, da a b1 (by omega), a1 a b3]⟩
    unfold f_X8_court_46 f_X8_court_59
    rw [gW_ift (iN_ge (by omega)), gW_B, rMp H, gW_ift (iN_ge (by omega)), gW_B, rMc H, gW_B, m_thr0, gW_ift rfl, gW_B, rMr0 H, gW_B]
    have e2 : g_u2 j2 (x + 353) 14 (-1) (x + 353 + 1) = c'.1 := by rw [g_u2_ne _ _ _ (by omega)]; exact dW
    show gW (gAI (x + 353 + 1) 0 (iN 2)) _ _
    rw [rMa0 H (by omega), e2, hw 2 (Or.inl rfl), show (W, pn, on).1 2 = W 2 from rfl, htm]
    unfold f_X8_court_83
    by_cases c12 : tm = 12
    · rw [gW_ift (by rw [c12]; rfl), gW_B, rMc H, gW_B, m_thr1 H, gW_iff (by decide)]
      refine back 0 _ (fun a g1 g2 => by rw [g_u2_ne _ _ _ g1, g_u2_ne _ _ _ g1]; exact da a g1 g2) (fun jv g1 g2 => hb2 c' q hc c12 jv ?_ ?_ ?_ ?_ (mk jv (fun k hk => ?_) (fun a b1 b2 => ?_)) g2)
      · rw [g1 _ (by omega), g_u2_self, va_up_self]
      · rw [g1 _ (by omega), g_u2_self, va_up_ne _ _ (by decide), g_u2_self, va_up_ne _ _ (by decide)]; exact d9
      · rw [g1 _ (by omega), g_u2_self, va_up_ne _ _ (by decide), g_u2_self, va_up_self]
      · rw [g1 _ (by omega), g_u2_self, va_up_ne _ _ (by decide), g_u2_self, va_up_ne _ _ (by decide), dk 7 (by omega), a1 _ (by omega)]
      · rw [g1 _ (by omega), g_u2_self, va_up_ne _ _ (by omega), g_u2_self, va_up_ne _ _ (by omega)]
      · rw [g1 a b2, g_u2_ne _ _ _ b1, g_u2_ne _ _ _ b1]
    · rw [gW_iff (by rw [show (12 : Int32) = iN 12 from rfl, iN_eq (by omega) (by omega)]; exact c12), gW_B, rMc H, gW_B, m_thr0, gW_ift rfl, gW_B, rMr0 H, gW_B]
      show gW (gAI (x + 353 + 1) 0 (iN 2)) _ _
      rw [rMa0 H (by omega), e2, hw 2 (Or.inl rfl), show (W, pn, on).1 2 = W 2 from rfl, htm, gW_B]
      show gW (gSI (x + 353 + 1) 0 (iN 2) (iN tm + 1)) _ _
      rw [rMs0 H (by omega), gW_B, rMp H, gW_B, rMr0 H, gW_B]
      show gW (gAI (x + 353 + 1) 0 (iN 2)) _ _
      have e3 : g_u2 (g_u2 (g_u2 j2 (x + 353) 14 (-1)) (x + 353 + 1) 2 (iN tm + 1)) (x + 353) 7 0 (x + 353 + 1) = va_up c'.1 2 (iN (tm + 1)) := by rw [g_u2_ne _ _ _ (by omega), g_u2_self, e2, iNp1]
      have e4 : g_u2 (g_u2 (g_u2 j2 (x + 353) 14 (-1)) (x + 353 + 1) 2 (iN tm + 1)) (x + 353) 7 0 (x + 353) = va_up (va_up (j2 (x + 353)) 14 (-1)) 7 0 := by rw [g_u2_self, g_u2_ne _ _ _ (by omega), g_u2_self]
      rw [rMa0 H (by omega), e3, va_up_self, gW_ret]
      refine hg c' q hc c12 _ ?_ ?_ ?_ ?_ (mk _ (fun k hk => ?_) (fun a b1 b2 => ?_)) e3
      · rw [e4, va_up_ne _ _ (by decide), va_up_ne _ _ (by decide)]; exact d0
      · rw [e4, va_up_ne _ _ (by decide), va_up_ne _ _ (by decide)]; exact d9
      · rw [e4, va_up_ne _ _ (by decide), va_up_self]
      · rw [e4, va_up_self]
      · rw [e4, va_up_ne _ _ (by omega), va_up_ne _ _ (by omega)]
      · rw [g_u2_ne _ _ _ b1, g_u2_ne _ _ _ b2, g_u2_ne _ _ _ b1]
  · unfold f_X8_court_46 f_X8_court_59
    rw [gW_iff (by decide), gW_B, rMi H, d12, gW_B, rMp H, gW_iff (by decide), gW_B, rMc H, gW_B, m_thr1 H, gW_iff (by decide)]
    refine back 0 _ (fun a g1 g2 => by rw [g_u2_ne _ _ _ g1, g_u2_ne _ _ _ g1]; exact da a g1 g2) (fun jv g1 g2 => hb1 f hf jv ?_ ?_ ?_ ?_ ⟨fun k hk => ?_, fun a b1 b2 b3 => ?_⟩ g2)
    · rw [g1 _ (by omega), g_u2_self, va_up_self]
    · rw [g1 _ (by omega), g_u2_self, va_up_ne _ _ (by decide), g_u2_self, va_up_ne _ _ (by decide)]; exact d9
    · rw [g1 _ (by omega), g_u2_self, va_up_ne _ _ (by decide), g_u2_self, va_up_self]
    · rw [g1 _ (by omega), g_u2_self, va_up_ne _ _ (by decide), g_u2_self, va_up_ne _ _ (by decide), dk 7 (by omega), a1 _ (by omega)]
    · rw [g1 _ (by omega), g_u2_self, va_up_ne _ _ (by omega), g_u2_self, va_up_ne _ _ (by omega), dk k (by omega), a1 _ (by omega)]
    · rw [g1 a b2, g_u2_ne _ _ _ b1, g_u2_ne _ _ _ b1, da a b1 (by omega), a1 a b3]
end MCV
