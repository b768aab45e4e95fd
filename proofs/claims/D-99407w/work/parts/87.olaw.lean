/-! OP: A LAW IS READ -/
section OL
variable {iv jv kv lv : gV} {u v w y : gU} {x z b n t : Nat} {h : g_H} {B : Nat → Int32} {e : Nat}
theorem w_isAtG (H : MS u (x + 353)) {p : Nat} (hp : p ≤ e) (he : e ≤ 400) (h10 : iv (x + 353) 10 = iN p) (h11 : iv (x + 353) 11 = iN e) (hB : ∀ k : Nat, k < e → iv (x + 353 + 6) k = B k) {P : Int32 → g_H → Prop} : gW (f_X8_isAt (x + 353) 32 32) (iv, u) P ↔ P (bI (p < e ∧ 32 ≤ B p ∧ B p ≤ 32)) (iv, u) := by
  unfold f_X8_isAt f_X8_isAt_41
  have g0 : ∀ {y : Int32}, (y = 0 ∨ y = 1) → (gW (f_X8_isAt_42 y) (iv, u) P ↔ P y (iv, u)) := by
    intro y hy
    unfold f_X8_isAt_42
    exact gW_gd1 hy
  rw [gW_B, rMi H, h10, gW_B, rMi H, h11]
  by_cases h1 : e ≤ p
  · rw [gW_ift (by rw [iN_le (by omega) (by omega)]; exact h1), g0 (Or.inl rfl), bI_f (fun q => by omega)]
  · have ht := hB p (by omega)
    rw [gW_iff (by rw [iN_le (by omega) (by omega)]; exact h1)]
    simp (disch := omega) only [gW_B, rMr5 H, rMi H, h10, rMa5 H, ht]
    by_cases h2 : B p < 32
    · rw [gW_ift h2, g0 (Or.inl rfl), bI_f (fun q => Int32.not_lt.mpr q.2.1 h2)]
    · rw [gW_iff h2]
      simp (disch := omega) only [gW_B, rMr5 H, rMi H, h10, rMa5 H, ht]
      by_cases h3 : 32 < B p
      · rw [gW_ift h3, g0 (Or.inl rfl), bI_f (fun q => Int32.not_lt.mpr q.2.2 h3)]
      · rw [gW_iff h3, g0 (Or.inr rfl), bI_t ⟨by omega, Int32.not_lt.mp h2, Int32.not_lt.mp h3⟩]
theorem w_blanksG (H : MS u (x + 353)) (he : e ≤ 400) {P : Unit → g_H → Prop} : ∀ (k p n : Nat) (iv : gV), p + k = e → k < n → iv (x + 353) 10 = iN p → iv (x + 353) 11 = iN e → (∀ k : Nat, k < e → iv (x + 353 + 6) k = B k) → (gW (f_X8_blanks_0 n (x + 353)) (iv, u) P ↔ P () (mT x iv (kB B e p) (kB B e p), u)) := by
  have off : ∀ (p n : Nat) (iv : gV), p ≤ e → iv (x + 353) 10 = iN p → iv (x + 353) 11 = iN e → (∀ k : Nat, k < e → iv (x + 353 + 6) k = B k) → ¬ (p < e ∧ 32 ≤ B p ∧ B p ≤ 32) → (gW (f_X8_blanks_0 (n + 1) (x + 353)) (iv, u) P ↔ P () (mT x iv (kB B e p) (kB B e p), u)) := by
    intro p n iv hp h10 h11 hB hc
    have e1 : kB B e p = p := sk_off (fun q => by
      unfold isBl at q
      rw [decide_eq_true_eq] at q
      exact hc ⟨q.1, by rw [q.2]; exact Int32.le_refl _, by rw [q.2]; exact Int32.le_refl _⟩)
    rw [f_X8_blanks_0, e1]
    unfold f_X8_blanks_24
    rw [gW_B, rMc H, gW_B, w_isAtG H hp he h10 h11 hB, bI_f hc, gW_ift rfl, gW_B, rMi H, h10, gW_B, rMp H, gW_ret]
    have : mT x iv p p = g_u2 iv (x + 353) 12 (iN p) := by
      unfold mT
      exact g_u2_id _ _ _ (by rw [g_u2_self, va_up_ne _ _ (by decide)]; exact h10)
    rw [this]
  intro k
  induction k with
  | zero =>
    intro p n iv h1 h2 h10 h11 hB
    obtain ⟨n, rfl⟩ : ∃ n', n = n' + 1 := ⟨n - 1, by omega⟩
    exact off p n iv (by omega) h10 h11 hB (fun q => by omega)
  | succ k ih =>
    intro p n iv h1 h2 h10 h11 hB
    obtain ⟨n, rfl⟩ : ∃ n', n = n' + 1 := ⟨n - 1, by omega⟩
    by_cases hc : p < e ∧ 32 ≤ B p ∧ B p ≤ 32
    · have e1 : kB B e p = kB B e (p + 1) := sk_on hc.1 (by unfold isBl; rw [decide_eq_true_eq]; exact Int32.le_antisymm hc.2.2 hc.2.1)
      rw [f_X8_blanks_0, e1, gW_B, rMc H, gW_B, w_isAtG H (by omega) he h10 h11 hB, bI_t hc, gW_iff (by decide), gW_B, rMi H, h10, gW_B, rMp H, iNp1]
      rw [ih (p + 1) n (g_u2 iv (x + 353) 10 (iN (p + 1))) (by omega) (by omega) (by rw [g_u2_self, va_up_self]) (by rw [g_u2_self, va_up_ne _ _ (by decide)]; exact h11) (fun k hk => by rw [g_u2_ne _ _ _ (by omega)]; exact hB k hk)]
      have : ∀ q : Nat, mT x (g_u2 iv (x + 353) 10 (iN (p + 1))) q q = mT x iv q q := by
        intro q
        unfold mT
        rw [g_u2_sw _ _ _ _ (show (10 : Nat) ≠ 12 by decide), g_u2_u2]
      rw [this]
    · exact off p n iv (by omega) h10 h11 hB hc
/-- no law yet -/
def L00 : gLw := (0, fun _ => 0, fun _ => 0, fun _ _ => true)
theorem L00_k : lK L00 := ⟨by decide, fun k hk => absurd hk (Nat.not_lt_zero k), fun _ _ _ _ => rfl⟩
/-- a text begins to be used, in the model -/
theorem w_uses (H : MS u (x + 353)) {P : Unit → g_H → Prop} (hP : ∀ jv : gV, jv (x + 353) 0 = 0 → jv (x + 353) 9 = 0 → jv (x + 353) 10 = iN 0 → jv (x + 353) 11 = iv (x + 353) 9 → (∀ k : Nat, k ≠ 0 → k ≠ 9 → k ≠ 10 → k ≠ 11 → jv (x + 353) k = iv (x + 353) k) → (∀ a : Nat, a ≠ x + 353 → jv a = iv a) → P () (jv, u)) : gW (f_X8_uses (x + 353)) (iv, u) P := by
  unfold f_X8_uses
  rw [gW_B, rMp H, gW_B, rMi H, gW_B, rMp H, gW_B, rMp H, gW_B, rMp H, gW_ret]
  refine hP _ ?_ ?_ ?_ ?_ (fun k h1 h2 h3 h4 => ?_) (fun a ha => ?_)
  · simp [g_u2, va_up]
  · simp [g_u2, va_up]
  · rw [g_u2_self, va_up_self]; rfl
  · simp [g_u2, va_up]
  · simp [g_u2, va_up, h1, h2, h3, h4]
  · rw [g_u2_ne _ _ _ ha, g_u2_ne _ _ _ ha, g_u2_ne _ _ _ ha, g_u2_ne _ _ _ ha]
/-- the model reads all of a law's text -/
theorem w_mread (h0 : MS u (x + 353)) (hB : okB B e) (h9 : iv (x + 353) 9 = iN e) (ht : ∀ k : Nat, k < e → iv (x + 353 + 6) k = B k) (hX : TX x iv u) {P : Int32 → g_H → Prop}
    (h1 : ∀ (L' : gLw) (q : Nat), pLaw B e 402 L00 0 = .inl (L', q) → ∀ (jv : gV) (st' : Nat), jv (x + 353) 0 = 0 → jv (x + 353) 9 = 0 → (∀ k : Nat, (k = 6 ∨ k = 7 ∨ k = 14 ∨ k = 23 ∨ k = 24) → jv (x + 353) k = iv (x + 353) k) → (∀ a : Nat, a ≠ x + 353 → a ≠ x + 353 + 1 → jv a = iv a) → (∀ k : Nat, k < 1154 → jv (x + 353 + 1) k = iv (x + 353 + 1) k) → st' ≤ 400 → L'.1 ≤ 12 → RMD (Dw x jv) L' st' → P (iN L'.1) (jv, u))
    (h2 : ∀ f, pLaw B e 402 L00 0 = .inr f → ∀ jv : gV, jv (x + 353) 0 = 0 → jv (x + 353) 9 = 0 → jv (x + 353) 12 = iN f → (∀ k : Nat, (k = 6 ∨ k = 7 ∨ k = 14 ∨ k = 23 ∨ k = 24) → jv (x + 353) k = iv (x + 353) k) → (∀ a : Nat, a ≠ x + 353 → a ≠ x + 353 + 1 → jv a = iv a) → (∀ k : Nat, k < 1154 → jv (x + 353 + 1) k = iv (x + 353 + 1) k) → P (-1) (jv, u)) : gW (f_X8_readAll (x + 353) 0) (iv, u) P := by
  have H := h0
  have he := hB.1
  unfold f_X8_readAll
  rw [gW_B, rMc H, gW_B]
  refine w_uses H (fun j1 u0 u9 u10 u11 uk ua => ?_)
  rw [gW_B, rMp H, gW_B, rMc H, gW_B]
  have k16 : g_u2 j1 (x + 353) 16 0 (x + 353) 16 = iN 0 := by rw [g_u2_self, va_up_self]; rfl
  have kk : ∀ k : Nat, k ≠ 16 → g_u2 j1 (x + 353) 16 0 (x + 353) k = j1 (x + 353) k := fun k hk => by rw [g_u2_self, va_up_ne _ _ hk]
  have ka : ∀ a : Nat, a ≠ x + 353 → g_u2 j1 (x + 353) 16 0 a = iv a := fun a ha => by rw [g_u2_ne _ _ _ ha]; exact ua a ha
  generalize g_u2 j1 (x + 353) 16 0 = j2 at k16 kk ka ⊢
  have hPM : PM x j2 u B e := ⟨H, by rw [kk 11 (by decide), u11]; exact h9, hB, fun k hk => by rw [ka _ (by omega)]; exact ht k hk, hX.fr Ux.rf (Nat.le_refl _) (fun a ha => ka a (by omega))⟩
  unfold f_X8_blanks
  rw [w_blanksG H he e 0 gN j2 (by omega) (by rw [gN_eq]; omega) (by rw [kk 10 (by decide)]; exact u10) hPM.eE (fun k hk => hPM.t hk)]
  have b0 := kB_b (B := B) (Nat.zero_le e)
  have keep : ∀ jv : gV, QL x (mT x j2 (kB B e 0) (kB B e 0)) jv → jv (x + 353) 0 = 0 ∧ jv (x + 353) 9 = 0 ∧ (∀ k : Nat, (k = 6 ∨ k = 7 ∨ k = 14 ∨ k = 23 ∨ k = 24) → jv (x + 353) k = iv (x + 353) k) ∧ (∀ a : Nat, a ≠ x + 353 → a ≠ x + 353 + 1 → jv a = iv a) ∧ (∀ k : Nat, k < 1154 → jv (x + 353 + 1) k = iv (x + 353 + 1) k) := by
    intro jv hq
    refine ⟨?_, ?_, fun k hk => ?_, fun a a1 a2 => ?_, fun k hk => ?_⟩
    · rw [hq.1 0 (by decide) (by decide) (by decide) (by decide), mT_k (by decide) (by decide), kk 0 (by decide)]; exact u0
    · rw [hq.1 9 (by decide) (by decide) (by decide) (by decide), mT_k (by decide) (by decide), kk 9 (by decide)]; exact u9
    · rw [hq.1 k (by omega) (by omega) (by omega) (by omega), mT_k (by omega) (by omega), kk k (by omega)]; exact uk k (by omega) (by omega) (by omega) (by omega)
    · rw [hq.2.1 a a1 a2, mT_a a1]; exact ka a a1
    · rw [hq.2.2 k hk, mT_1, ka _ (by omega)]
  have hRM : RMD (Dw x (mT x j2 (kB B e 0) (kB B e 0))) L00 0 := fun k hk => absurd hk (Nat.not_lt_zero k)
  rw [gW_B, rMi H, mT_10, gW_B, rMi H, mT_11, hPM.eE]
  rw [pLaw] at h1 h2
  unfold pMor at h1 h2
  rw [show L00.1 = 0 from rfl] at h1 h2
  by_cases ce : kB B e 0 = e
  · rw [if_pos ce] at h1
    rw [gW_ift (by rw [ce]), gW_ret]
    obtain ⟨g1, g2, g3, g4, g5⟩ := keep _ QL.rf
    exact h1 L00 e rfl _ 0 g1 g2 g3 g4 g5 (by decide) (by decide) hRM
  · rw [if_neg ce, if_pos rfl] at h1 h2
    rw [gW_iff (by rw [iN_eq (by omega) (by omega)]; exact ce)]
    have := w_mall_28 (P := P) 401 (mT x j2 (kB B e 0) (kB B e 0)) L00 (kB B e 0) (kB B e 0) 0 gN hPM.att b0.2 (by omega) (by decide) (by rw [mT_16]; exact k16) hRM (by omega) (by rw [gN_eq]; omega) (fun L' q hq jv st' s1 s2 s3 s4 => ?_) (fun f hf jv s1 s2 => ?_)
    · rw [show mT x (mT x j2 (kB B e 0) (kB B e 0)) (kB B e 0) (kB B e 0) = mT x j2 (kB B e 0) (kB B e 0) from by
        unfold mT
        rw [g_u2_sw _ _ _ _ (show (10 : Nat) ≠ 12 by decide), g_u2_u2, g_u2_u2]] at this
      exact this
    · obtain ⟨g1, g2, g3, g4, g5⟩ := keep _ s1
      refine h1 L' q ?_ jv st' g1 g2 g3 g4 g5 s2 s3 s4
      rw [← hq]
      unfold pLa2
      rw [if_neg (show ¬ L00.1 = 12 by decide)]
      rfl
    · obtain ⟨g1, g2, g3, g4, g5⟩ := keep _ s1
      refine h2 f ?_ jv g1 g2 s2 g3 g4 g5
      rw [← hf]
      unfold pLa2
      rw [if_neg (show ¬ L00.1 = 12 by decide)]
      rfl
/-- the text is copied -/
theorem w_law_52 (H : MS u (x + 353)) {W0 : Nat → Int32} {r : Int32} {P : Int32 → g_H → Prop} : ∀ (k i n : Nat) (jv : gV), i + k = 849 → k < n → (∀ j : Nat, jv (x + 353 + 1) j = if 305 ≤ j ∧ j < 305 + i then W0 (j + 849) else W0 j) → (∀ kv : gV, (∀ a : Nat, a ≠ x + 353 + 1 → kv a = jv a) → (∀ j : Nat, kv (x + 353 + 1) j = if 305 ≤ j ∧ j < 1154 then W0 (j + 849) else W0 j) → gW (f_X8_law_85 (x + 353) r) (kv, u) P) → gW (f_X8_law_52 n (x + 353) r (iN i)) (jv, u) P := by
  intro k
  induction k with
  | zero =>
    intro i n jv h1 h2 hj hP
    obtain ⟨n, rfl⟩ : ∃ n', n = n' + 1 := ⟨n - 1, by omega⟩
    have : i = 849 := by omega
    subst this
    rw [f_X8_law_52, gW_ift (by decide)]
    exact hP jv (fun _ _ => rfl) hj
  | succ k ih =>
    intro i n jv h1 h2 hj hP
    obtain ⟨n, rfl⟩ : ∃ n', n = n' + 1 := ⟨n - 1, by omega⟩
    have e1 : jv (x + 353 + 1) (1154 + i) = W0 (1154 + i) := by rw [hj, if_neg (by omega)]
    rw [f_X8_law_52, gW_iff (by rw [show (849 : Int32) = iN 849 from rfl, iN_le (by omega) (by omega)]; omega), gW_B, rMr0 H, gW_B, rMr0 H, gW_B, iNl1154, rMa0 H (by omega), e1, gW_B, iNl305, rMs0 H (by omega), iNp1]
    refine ih (i + 1) n _ (by omega) (by omega) (fun j => ?_) (fun kv g1 g2 => hP kv (fun a ha => by rw [g1 a ha, g_u2_ne _ _ _ ha]) g2)
    rw [g_u2_self]
    by_cases ej : j = 305 + i
    · rw [ej, va_up_self, if_pos (by omega), show 305 + i + 849 = 1154 + i by omega]
    · rw [va_up_ne _ _ ej, hj]
      by_cases c : 305 ≤ j ∧ j < 305 + i
      · rw [if_pos c, if_pos (by omega)]
      · rw [if_neg c, if_neg (by omega)]
end OL
