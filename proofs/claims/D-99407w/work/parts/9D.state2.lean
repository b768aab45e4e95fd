/-! OPS: end, image, back, undo -/
section O7
variable {iv jv kv lv : gV} {u v : gU} {x z b n t : Nat} {pn on rm : Nat} {L : gLw}
theorem RA.fr2 (h : RA x t iv u L) (hK : Kx x iv u jv v) (e12 : jv x 12 = iv x 12) (e13 : jv x 13 = iv x 13) (e7 : jv (x + 353) 7 = iv (x + 353) 7) (e358 : jv (x + 358) = iv (x + 358)) (e354 : jv (x + 354) 3 = iv (x + 354) 3) (sl : ∀ a : Nat, x + 101 ≤ a → a < x + 353 → jv a = iv a) (sr : ∀ a : Nat, x + 101 ≤ a → a < x + 353 → v.2.1 a = u.2.1 a) : RA x (t + 1) jv v L := by
  obtain ⟨q, r, g1, g2, g3, g4, g5, g6⟩ := h
  refine ⟨q, r, g1, g2, by rw [e12]; exact g3, by rw [e7]; exact g4, by rw [e13]; exact g5, fun j hj => ?_⟩
  obtain ⟨p1, o1, r1, q1, q2⟩ := g6 j hj
  have : (r + 11 - j) % 12 < 12 := Nat.mod_lt _ (by decide)
  rw [e358, e354]
  exact ⟨p1, o1, r1, q1.fr2 hK (by omega) (sl _ (by omega) (by omega)) (fun a c1 c2 _ => sl a (by omega) (by omega)) (sr _ (by omega) (by omega)), q2⟩
/-- the tape is another -/
theorem tape_end (hR : RR x z b n t iv u) {m : Nat} (hm : m ≤ 400) (t6 : jv (x + 1) 6 = iN m) (t9 : jv (x + 353) 9 = iN m) (tt : ∀ k : Nat, k < m → jv (x + 2) k = jv (x + 359) k ∧ ∃ c : Nat, c < 256 ∧ jv (x + 359) k = Int32.ofInt ((c : Int) - 128))
    (k0 : ∀ a : Nat, a ≠ x + 1 → a ≠ x + 2 → a ≠ x + 353 → (a < x + 359 ∨ x + 369 < a) → jv a = iv a) (k1 : ∀ k : Nat, (k = 6 ∨ k = 7 ∨ k = 14 ∨ k = 23 ∨ k = 24) → jv (x + 353) k = iv (x + 353) k) : RR x z b n (t + 1) jv u := by
  obtain ⟨hB, hT, hI, pn, on, rm, L, h1, h2, hA⟩ := hR
  have hx := hB.2.2.2.2.2.1
  have hK : Kx x iv u jv u := ⟨fun a c1 c2 => ⟨k0 a (by omega) (by omega) (by omega) (by omega), rfl, rfl⟩, Nat.le_refl _⟩
  obtain ⟨-, t2, t3, t4, t5, t6'⟩ := hT
  refine ⟨hB.fr2 hB.1 hB.2.1 rfl (fun a ha => ⟨rfl, rfl, k0 a (by omega) (by omega) (by omega) (by omega)⟩) rfl (Nat.le_refl _) (by omega) (by omega) (by omega), ⟨⟨m, hm, t6, t9, tt⟩, ?_, ?_, ?_, ?_, ?_⟩, ?_, pn, on, rm, L, ?_, ?_, ?_⟩
  · rw [k0 x (by omega) (by omega) (by omega) (by omega), k1 14 (by omega)]; exact t2
  · rw [k0 x (by omega) (by omega) (by omega) (by omega)]; exact t3
  · rw [k1 23 (by omega)]; exact t4
  · rw [k1 24 (by omega)]; exact t5
  · rw [k0 (x + 96) (by omega) (by omega) (by omega) (by omega)]; exact t6'
  · exact hI.fr2 hK (by omega) (by rw [k0 x (by omega) (by omega) (by omega) (by omega)]) (k1 6 (by omega)) (k0 _ (by omega) (by omega) (by omega) (by omega)) (fun a c1 c2 => k0 a (by omega) (by omega) (by omega) (by omega)) rfl
  · rw [k0 (x + 354) (by omega) (by omega) (by omega) (by omega)]
    exact h1.fr2 hK (by omega) (k0 _ (by omega) (by omega) (by omega) (by omega)) (fun a c1 c2 _ => k0 a (by omega) (by omega) (by omega) (by omega)) rfl
  · rw [k0 (x + 354) (by omega) (by omega) (by omega) (by omega)]; exact h2
  · exact hA.fr2 hK (by rw [k0 x (by omega) (by omega) (by omega) (by omega)]) (by rw [k0 x (by omega) (by omega) (by omega) (by omega)]) (k1 7 (by omega)) (k0 _ (by omega) (by omega) (by omega) (by omega)) (by rw [k0 (x + 354) (by omega) (by omega) (by omega) (by omega)]) (fun a c1 c2 => k0 a (by omega) (by omega) (by omega) (by omega)) (fun _ _ _ => rfl)
theorem o_end {a : Int32} : gOp1 x z b n t (f_X1_end x a) (f_X8_end (x + 353) a) := by
  intro iv u hR
  obtain ⟨pn, on, rm, L, q, r, hq, hr, g3, g4, g5, h1, h2, g6, hC, hM⟩ := hR.all
  have HX := hC.X
  obtain ⟨⟨m, m1, m2, m3, m4⟩, -⟩ := hR.2.1
  unfold f_X1_end
  rw [gW_B, rXr0 HX, gW_B, rQi HX, m2, gW_B, w_isIn]
  by_cases ha : 0 ≤ a ∧ a ≤ iN m
  · obtain ⟨k, hk, rfl⟩ := i_get2 (by omega) ha
    rw [bI_t ha, gW_iff (by decide), gW_B, rXr0 HX, gW_B, rQp HX, gW_ret]
    unfold f_X8_end
    have e1 : ∀ c : Nat, c ≠ x + 1 → g_u2 iv (x + 1) 6 (iN k) c = iv c := fun c hc => g_u2_ne _ _ _ hc
    have e2 : g_u2 iv (x + 1) 6 (iN k) (x + 1) 6 = iN k := by rw [g_u2_self, va_up_self]
    generalize g_u2 iv (x + 1) 6 (iN k) = j2 at e1 e2 ⊢
    have hM2 : MI x j2 u (iv (x + 354)) pn on L := ⟨hM.M, e1 _ (by omega), h1.2.1, h2⟩
    refine m_z hM2 (fun j3 z1 z2 z3 hM3 => ?_)
    have H := hM3.M
    rw [gW_iff (fun q => absurd q (Int32.not_lt.mpr ha.1)), gW_B, rMi H, z1.2.2.2.1 9 (by omega), e1 _ (by omega), m3, gW_ift ha.2, gW_B, rMp H, gW_ret]
    refine ⟨rfl, tape_end (jv := g_u2 j3 (x + 353) 9 (iN k)) hR (m := k) (by omega) ?_ (by rw [g_u2_self, va_up_self]) (fun i hi => ?_) (fun c c1 c2 c3 c4 => ?_) (fun i hi => ?_)⟩
    · rw [g_u2_ne _ _ _ (by omega), z3 _ (by omega)]; exact e2
    · rw [g_u2_ne _ _ _ (by omega), g_u2_ne _ _ _ (by omega), z3 _ (by omega), z3 _ (by omega), e1 _ (by omega), e1 _ (by omega)]
      exact m4 i (by omega)
    · rw [g_u2_ne _ _ _ c3, z3 _ c3, e1 _ c1]
    · rw [g_u2_self, va_up_ne _ _ (by omega), z1.2.2.2.1 i (by omega), e1 _ (by omega)]
  · rw [bI_f ha, gW_ift rfl, gW_ret]
    unfold f_X8_end f_X8_end_17
    refine m_z hM (fun j3 z1 z2 z3 hM3 => ?_)
    have H := hM3.M
    by_cases c : a < 0
    · rw [gW_ift c, gW_ret]
      exact ⟨rfl, hR.fr (by omega) z1⟩
    · rw [gW_iff c, gW_B, rMi H, z1.2.2.2.1 9 (by omega), m3, gW_iff (fun q => ha ⟨Int32.not_lt.mp c, q⟩), gW_ret]
      exact ⟨rfl, hR.fr (by omega) z1⟩
/-! the model copies -/
theorem w_image_7 (H : MS u (x + 353)) {P : Unit → g_H → Prop} : ∀ (k i n : Nat) (jv : gV), i + k = 1154 → k < n → (∀ j : Nat, j < i → jv (x + 353 + 2) j = jv (x + 353 + 1) j) → (∀ kv : gV, (∀ a : Nat, a ≠ x + 353 + 2 → kv a = jv a) → (∀ j : Nat, j < 1154 → kv (x + 353 + 2) j = jv (x + 353 + 1) j) → gW (f_X8_image_32 (x + 353)) (kv, u) P) → gW (f_X8_image_7 n (x + 353) (iN i)) (jv, u) P := by
  intro k
  induction k with
  | zero =>
    intro i n jv h1 h2 hj hP
    obtain ⟨n, rfl⟩ : ∃ n', n = n' + 1 := ⟨n - 1, by omega⟩
    have : i = 1154 := by omega
    subst this
    rw [f_X8_image_7, gW_ift (by decide)]
    exact hP jv (fun _ _ => rfl) hj
  | succ k ih =>
    intro i n jv h1 h2 hj hP
    obtain ⟨n, rfl⟩ : ∃ n', n = n' + 1 := ⟨n - 1, by omega⟩
    rw [f_X8_image_7, gW_iff (by rw [show (1154 : Int32) = iN 1154 from rfl, iN_le (by omega) (by omega)]; omega), gW_B, rMr1 H, gW_B, rMr0 H, gW_B, rMa0 H (by omega), gW_B, rMs1 H (by omega), iNp1]
    refine ih (i + 1) n _ (by omega) (by omega) (fun j hj2 => ?_) (fun kv g1 g2 => hP kv (fun a ha => by rw [g1 a ha, g_u2_ne _ _ _ ha]) (fun j hj2 => by rw [g2 j hj2, g_u2_ne _ _ _ (by omega)]))
    rw [g_u2_self, g_u2_ne _ _ _ (show x + 353 + 1 ≠ x + 353 + 2 by omega)]
    by_cases ej : j = i
    · rw [ej, va_up_self]
    · rw [va_up_ne _ _ ej]; exact hj j (by omega)
theorem w_back_16 (H : MS u (x + 353)) {P : Int32 → g_H → Prop} : ∀ (k i n : Nat) (jv : gV), i + k = 1154 → k < n → (∀ j : Nat, j < i → jv (x + 353 + 1) j = jv (x + 353 + 2) j) → (∀ kv : gV, (∀ a : Nat, a ≠ x + 353 + 1 → kv a = jv a) → (∀ j : Nat, j < 1154 → kv (x + 353 + 1) j = jv (x + 353 + 2) j) → gW (f_X8_back_41 (x + 353)) (kv, u) P) → gW (f_X8_back_16 n (x + 353) (iN i)) (jv, u) P := by
  intro k
  induction k with
  | zero =>
    intro i n jv h1 h2 hj hP
    obtain ⟨n, rfl⟩ : ∃ n', n = n' + 1 := ⟨n - 1, by omega⟩
    have : i = 1154 := by omega
    subst this
    rw [f_X8_back_16, gW_ift (by decide)]
    exact hP jv (fun _ _ => rfl) hj
  | succ k ih =>
    intro i n jv h1 h2 hj hP
    obtain ⟨n, rfl⟩ : ∃ n', n = n' + 1 := ⟨n - 1, by omega⟩
    rw [f_X8_back_16, gW_iff (by rw [show (1154 : Int32) = iN 1154 from rfl, iN_le (by omega) (by omega)]; omega), gW_B, rMr0 H, gW_B, rMr1 H, gW_B, rMa1 H (by omega), gW_B, rMs0 H (by omega), iNp1]
    refine ih (i + 1) n _ (by omega) (by omega) (fun j hj2 => ?_) (fun kv g1 g2 => hP kv (fun a ha => by rw [g1 a ha, g_u2_ne _ _ _ ha]) (fun j hj2 => by rw [g2 j hj2, g_u2_ne _ _ _ (by omega)]))
    rw [g_u2_self, g_u2_ne _ _ _ (show x + 353 + 2 ≠ x + 353 + 1 by omega)]
    by_cases ej : j = i
    · rw [ej, va_up_self]
    · rw [va_up_ne _ _ ej]; exact hj j (by omega)
theorem w_undo_26 (H : MS u (x + 353)) {m : Nat} (hm : m < 12) {P : Int32 → g_H → Prop} : ∀ (k i n : Nat) (jv : gV), i + k = 305 → k < n → jv (x + 353) 7 = iN m → (∀ kv : gV, (∀ a : Nat, a ≠ x + 353 + 1 → kv a = jv a) → (∀ j : Nat, i ≤ j → j < 305 → kv (x + 353 + 1) j = jv (x + 353 + 5) (305 * m + j)) → (∀ j : Nat, (j < i ∨ 305 ≤ j) → kv (x + 353 + 1) j = jv (x + 353 + 1) j) → P 1 (kv, u)) → gW (f_X8_undo_26 n (x + 353) (iN i)) (jv, u) P := by
  intro k
  induction k with
  | zero =>
    intro i n jv h1 h2 h7 hP
    obtain ⟨n, rfl⟩ : ∃ n', n = n' + 1 := ⟨n - 1, by omega⟩
    have : i = 305 := by omega
    subst this
    unfold f_X8_undo_26 f_X8_undo_60
    rw [gW_ift (by decide), gW_ret]
    exact hP jv (fun _ _ => rfl) (fun j j1 j2 => by omega) (fun _ _ => rfl)
  | succ k ih =>
    intro i n jv h1 h2 h7 hP
    obtain ⟨n, rfl⟩ : ∃ n', n = n' + 1 := ⟨n - 1, by omega⟩
    rw [f_X8_undo_26, gW_iff (by rw [show (305 : Int32) = iN 305 from rfl, iN_le (by omega) (by omega)]; omega), gW_B, rMr0 H, gW_B, rMr4 H, gW_B, rMi H, h7, gW_B, iNm305, iN_add, rMa4 H (by omega), gW_B, rMs0 H (by omega), iNp1]
    refine ih (i + 1) n _ (by omega) (by omega) (by rw [g_u2_ne _ _ _ (by omega)]; exact h7) (fun kv g1 g2 g3 => hP kv (fun a ha => by rw [g1 a ha, g_u2_ne _ _ _ ha]) (fun j j1 j2 => ?_) (fun j hj => ?_))
    · by_cases ej : j = i
      · subst ej
        rw [g3 _ (by omega), g_u2_self, va_up_self]
      · rw [g2 j (by omega) j2, g_u2_ne _ _ _ (by omega)]
    · rw [g3 j (by omega), g_u2_self, va_up_ne _ _ (by omega)]
end O7
