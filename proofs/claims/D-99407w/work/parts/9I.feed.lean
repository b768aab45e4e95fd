/-! OP: feed -/
section OFD
variable {iv jv kv lv : gV} {u v : gU} {x z b n t : Nat} {pn on rm : Nat} {L : gLw}
def bF (a s : Int32) : Int32 := vp_nar .byte (((a >>> (s &&& 31))).toInt8.toInt32)
theorem bF_c (a s : Int32) : ∃ c : Nat, c < 256 ∧ bF a s = Int32.ofInt ((c : Int) - 128) := by
  unfold bF
  rw [vp_nar_byte]
  generalize a >>> (s &&& 31) = y
  have h : ∀ n : Nat, n < 256 → (Int8.ofBitVec (BitVec.ofNat 8 n)).toInt32.toInt8.toInt32 = Int32.ofInt ((((n + 128) % 256 : Nat) : Int) - 128) := by decide +kernel
  have e : y.toInt8 = Int8.ofBitVec (BitVec.ofNat 8 y.toInt8.toBitVec.toNat) := by simp
  refine ⟨(y.toInt8.toBitVec.toNat + 128) % 256, Nat.mod_lt _ (by decide), ?_⟩
  rw [← h _ y.toInt8.toBitVec.isLt, ← e]
theorem w_four (HX : XS u x) {m : Nat} (hm : m + 4 ≤ 400) (h6 : iv (x + 1) 6 = iN m) {a : Int32} {P : Unit → g_H → Prop} (hP : ∀ kv : gV, kv (x + 1) 6 = iN (m + 4) → (∀ j : Nat, j < 4 → kv (x + 2) (m + j) = bF a (iN (24 - 8 * j))) → (∀ k : Nat, (k < m ∨ m + 4 ≤ k) → kv (x + 2) k = iv (x + 2) k) → (∀ c : Nat, c ≠ x + 1 → c ≠ x + 2 → kv c = iv c) → P () (kv, u)) : gW (f_X1_four x a) (iv, u) P := by
  have step : ∀ (N : Nat) (y : Int32) (i : Nat) (jv : gV) (Q : Unit → g_H → Prop), ¬ y < 0 → i < 400 → jv (x + 1) 6 = iN i → gW (f_X1_four_3 N x a (y + -8)) (g_u2 (g_u2 jv (x + 2) i (bF a y)) (x + 1) 6 (iN (i + 1)), u) Q → gW (f_X1_four_3 (N + 1) x a y) (jv, u) Q := by
    intro N y i jv Q hy hi h6 h
    rw [f_X1_four_3, gW_iff hy, gW_B, rXr0 HX, gW_B, rQt HX, gW_B, rXr0 HX, gW_B, rQi HX, h6, gW_B, rQs HX hi, gW_B, rXr0 HX, gW_B, rQi HX, g_u2_ne _ _ _ (show x + 1 ≠ x + 2 by omega), h6, gW_B, rQp HX, iNp1]
    exact h
  obtain ⟨N, hN⟩ : ∃ N, gN = N + 5 := ⟨gN - 5, by rw [gN_eq]⟩
  unfold f_X1_four
  rw [hN]
  refine step _ 24 m iv P (by decide) (by omega) h6 ?_
  refine step _ (24 + -8) (m + 1) _ P (by decide) (by omega) (by rw [g_u2_self, va_up_self]) ?_
  refine step _ (24 + -8 + -8) (m + 2) _ P (by decide) (by omega) (by rw [g_u2_self, va_up_self]) ?_
  refine step _ (24 + -8 + -8 + -8) (m + 3) _ P (by decide) (by omega) (by rw [g_u2_self, va_up_self]) ?_
  rw [f_X1_four_3, gW_ift (by decide), gW_ret]
  refine hP _ (by rw [g_u2_self, va_up_self]) (fun j hj => ?_) (fun k hk => ?_) (fun c c1 c2 => ?_)
  · have e2 : ∀ (f : gV) (k : Nat) (y : Int32), g_u2 f (x + 1) 6 y (x + 2) k = f (x + 2) k := fun f k y => by rw [g_u2_ne _ _ _ (by omega)]
    have : j = 0 ∨ j = 1 ∨ j = 2 ∨ j = 3 := by omega
    rcases this with rfl | rfl | rfl | rfl
    · rw [e2, g_u2_self, va_up_ne _ _ (by omega), e2, g_u2_self, va_up_ne _ _ (by omega), e2, g_u2_self, va_up_ne _ _ (by omega), e2, g_u2_self]
      exact va_up_self _ _ _
    · rw [e2, g_u2_self, va_up_ne _ _ (by omega), e2, g_u2_self, va_up_ne _ _ (by omega), e2, g_u2_self, va_up_self]
      rfl
    · rw [e2, g_u2_self, va_up_ne _ _ (by omega), e2, g_u2_self, va_up_self]
      rfl
    · rw [e2, g_u2_self, va_up_self]
      rfl
  · have e2 : ∀ (f : gV) (k : Nat) (y : Int32), g_u2 f (x + 1) 6 y (x + 2) k = f (x + 2) k := fun f k y => by rw [g_u2_ne _ _ _ (by omega)]
    rw [e2, g_u2_self, va_up_ne _ _ (by omega), e2, g_u2_self, va_up_ne _ _ (by omega), e2, g_u2_self, va_up_ne _ _ (by omega), e2, g_u2_self, va_up_ne _ _ (by omega)]
  · rw [g_u2_ne _ _ _ c1, g_u2_ne _ _ _ c2, g_u2_ne _ _ _ c1, g_u2_ne _ _ _ c2, g_u2_ne _ _ _ c1, g_u2_ne _ _ _ c2, g_u2_ne _ _ _ c1, g_u2_ne _ _ _ c2]
theorem fd_i : ∀ i : Nat, i < 20 → (24 : Int32) - 8 * (iN i - iN i / 4 * 4) = iN (24 - 8 * (i % 4)) ∧ iN i / 4 = iN (i / 4) := by decide +kernel
theorem w_feed_60 (H : MS u (x + 353)) {m : Nat} (hm : m + 20 ≤ 400) {P : Int32 → g_H → Prop} : ∀ (k i n : Nat) (jv : gV), i + k = 20 → k < n → jv (x + 353) 9 = iN m → (∀ kv : gV, (∀ c : Nat, c ≠ x + 353 + 6 → kv c = jv c) → (∀ j : Nat, i ≤ j → j < 20 → kv (x + 353 + 6) (m + j) = bF (jv (x + 353 + 7) (j / 4)) (iN (24 - 8 * (j % 4)))) → (∀ k : Nat, (k < m + i ∨ m + 20 ≤ k) → kv (x + 353 + 6) k = jv (x + 353 + 6) k) → gW (f_X8_feed_106 (x + 353)) (kv, u) P) → gW (f_X8_feed_60 n (x + 353) (iN i)) (jv, u) P := by
  intro k
  induction k with
  | zero =>
    intro i n jv h1 h2 h9 hP
    obtain ⟨n, rfl⟩ : ∃ n', n = n' + 1 := ⟨n - 1, by omega⟩
    have : i = 20 := by omega
    subst this
    rw [f_X8_feed_60, gW_ift (by decide)]
    exact hP jv (fun _ _ => rfl) (fun j j1 j2 => by omega) (fun _ _ => rfl)
  | succ k ih =>
    intro i n jv h1 h2 h9 hP
    obtain ⟨n, rfl⟩ : ∃ n', n = n' + 1 := ⟨n - 1, by omega⟩
    obtain ⟨f1, f2⟩ := fd_i i (by omega)
    have hd : i / 4 < 10 := by omega
    rw [f2] at f1
    rw [f_X8_feed_60, gW_iff (by rw [show (20 : Int32) = iN 20 from rfl, iN_le (by omega) (by omega)]; omega), gW_B, rMr5 H, gW_B, rMi H, h9, gW_B, rMr6 H, gW_B, f2, rMa6 H (by omega), gW_B, f1, iN_add, rMs5 H (by omega), iNp1]
    refine ih (i + 1) n _ (by omega) (by omega) (by rw [g_u2_ne _ _ _ (by omega)]; exact h9) (fun kv g1 g2 g3 => hP kv (fun c hc => by rw [g1 c hc, g_u2_ne _ _ _ hc]) (fun j j1 j2 => ?_) (fun k hk => ?_))
    · by_cases e : j = i
      · subst e
        rw [g3 _ (by omega), g_u2_self, va_up_self]
        rfl
      · rw [g2 j (by omega) j2, g_u2_ne _ _ _ (by omega)]
    · rw [g3 k (by omega), g_u2_self, va_up_ne _ _ (by omega)]
theorem o_feed {a0 a1 a2 a3 a4 : Int32} : gOp1 x z b n t (f_X1_feed x a0 a1 a2 a3 a4) (f_X8_feed (x + 353) a0 a1 a2 a3 a4) := by
  intro iv u hR
  obtain ⟨pn, on, rm, L, q, r, hq, hr, g3, g4, g5, h1, h2, g6, hC, hM⟩ := hR.all
  have HX := hC.X
  obtain ⟨⟨m, m1, m2, m3, m4⟩, -⟩ := hR.2.1
  unfold f_X1_feed
  rw [gW_B, rXr0 HX, gW_B, rQi HX, m2, iNp20]
  by_cases c : m + 20 ≤ 400
  · rw [gW_ift (by rw [show (400 : Int32) = iN 400 from rfl, iN_le (by omega) (by omega)]; exact c), gW_B, rXc HX, gW_B]
    refine w_four HX (m := m) (by omega) m2 (fun k0 p0 q0 r0 s0 => ?_)
    rw [gW_B, rXc HX, gW_B]
    refine w_four HX (m := m + 4) (by omega) p0 (fun k1 p1 q1 r1 s1 => ?_)
    rw [gW_B, rXc HX, gW_B]
    refine w_four HX (m := m + 4 + 4) (by omega) p1 (fun k2 p2 q2 r2 s2 => ?_)
    rw [gW_B, rXc HX, gW_B]
    refine w_four HX (m := m + 4 + 4 + 4) (by omega) p2 (fun k3 p3 q3 r3 s3 => ?_)
    rw [gW_B, rXc HX, gW_B]
    refine w_four HX (m := m + 4 + 4 + 4 + 4) (by omega) p3 (fun k4 p4 q4 r4 s4 => ?_)
    rw [gW_B, rXr0 HX, gW_B, rQi HX, p4, gW_ret]
    have ce : ∀ c : Nat, c ≠ x + 1 → c ≠ x + 2 → k4 c = iv c := fun c c1 c2 => by rw [s4 c c1 c2, s3 c c1 c2, s2 c c1 c2, s1 c c1 c2, s0 c c1 c2]
    have cl : ∀ k : Nat, k < m → k4 (x + 2) k = iv (x + 2) k := fun k hk => by rw [r4 k (by omega), r3 k (by omega), r2 k (by omega), r1 k (by omega), r0 k (by omega)]
    unfold f_X8_feed
    have hM2 : MI x k4 u (iv (x + 354)) pn on L := ⟨hM.M, ce _ (by omega) (by omega), h1.2.1, h2⟩
    refine m_z hM2 (fun j3 z1 z2 z3 hM3 => ?_)
    have H := hM3.M
    rw [gW_B, rMi H, z1.2.2.2.1 9 (by omega), ce _ (by omega) (by omega), m3, iNp20, gW_ift (by rw [show (400 : Int32) = iN 400 from rfl, iN_le (by omega) (by omega)]; exact c), gW_B, rMr6 H, gW_B, rMS6_0 H, gW_B, rMr6 H, gW_B, rMS6_1 H, gW_B, rMr6 H, gW_B, rMS6_2 H, gW_B, rMr6 H, gW_B, rMS6_3 H, gW_B, rMr6 H, gW_B, rMS6_4 H]
    have w7 : ∀ i : Nat, i < 5 → g_u2 (g_u2 (g_u2 (g_u2 (g_u2 j3 (x + 353 + 7) 0 a0) (x + 353 + 7) 1 a1) (x + 353 + 7) 2 a2) (x + 353 + 7) 3 a3) (x + 353 + 7) 4 a4 (x + 353 + 7) i = [a0, a1, a2, a3, a4].getD i 0 := by
      intro i hi
      rw [g_u2_self, g_u2_self, g_u2_self, g_u2_self, g_u2_self]
      have : i = 0 ∨ i = 1 ∨ i = 2 ∨ i = 3 ∨ i = 4 := by omega
      rcases this with rfl | rfl | rfl | rfl | rfl <;> simp [va_up]
    have wa : ∀ c : Nat, c ≠ x + 353 + 7 → g_u2 (g_u2 (g_u2 (g_u2 (g_u2 j3 (x + 353 + 7) 0 a0) (x + 353 + 7) 1 a1) (x + 353 + 7) 2 a2) (x + 353 + 7) 3 a3) (x + 353 + 7) 4 a4 c = j3 c := fun c hc => by rw [g_u2_ne _ _ _ hc, g_u2_ne _ _ _ hc, g_u2_ne _ _ _ hc, g_u2_ne _ _ _ hc, g_u2_ne _ _ _ hc]
    generalize g_u2 (g_u2 (g_u2 (g_u2 (g_u2 j3 (x + 353 + 7) 0 a0) (x + 353 + 7) 1 a1) (x + 353 + 7) 2 a2) (x + 353 + 7) 3 a3) (x + 353 + 7) 4 a4 = j5 at w7 wa ⊢
    have w9 : j5 (x + 353) 9 = iN m := by rw [wa _ (by omega), z1.2.2.2.1 9 (by omega), ce _ (by omega) (by omega)]; exact m3
    show gW (f_X8_feed_60 gN (x + 353) (iN 0)) _ _
    refine w_feed_60 H c 20 0 gN j5 (by omega) (by rw [gN_eq]; omega) w9 (fun k6 t1 t2 t3 => ?_)
    unfold f_X8_feed_106
    have w9' : k6 (x + 353) 9 = iN m := by rw [t1 _ (by omega)]; exact w9
    rw [gW_B, rMi H, w9', gW_B, rMp H, iNp20, gW_B, rMi H, g_u2_self, va_up_self, gW_ret]
    have same : ∀ i : Nat, i < 20 → k4 (x + 2) (m + i) = bF ([a0, a1, a2, a3, a4].getD (i / 4) 0) (iN (24 - 8 * (i % 4))) := by
      intro i hi
      have hm4 : i % 4 < 4 := Nat.mod_lt _ (by decide)
      have : i / 4 = 0 ∨ i / 4 = 1 ∨ i / 4 = 2 ∨ i / 4 = 3 ∨ i / 4 = 4 := by omega
      rcases this with e | e | e | e | e
      · rw [e, r4 _ (by omega), r3 _ (by omega), r2 _ (by omega), r1 _ (by omega), show m + i = m + i % 4 by omega, q0 _ hm4]; rfl
      · rw [e, r4 _ (by omega), r3 _ (by omega), r2 _ (by omega), show m + i = m + 4 + i % 4 by omega, q1 _ hm4]; rfl
      · rw [e, r4 _ (by omega), r3 _ (by omega), show m + i = m + 4 + 4 + i % 4 by omega, q2 _ hm4]; rfl
      · rw [e, r4 _ (by omega), show m + i = m + 4 + 4 + 4 + i % 4 by omega, q3 _ hm4]; rfl
      · rw [e, show m + i = m + 4 + 4 + 4 + 4 + i % 4 by omega, q4 _ hm4]; rfl
    have fin : ∀ c : Nat, c ≠ x + 353 → c ≠ x + 353 + 6 → c ≠ x + 353 + 7 → g_u2 k6 (x + 353) 9 (iN (m + 20)) c = k4 c := fun c c1 c2 c3 => by rw [g_u2_ne _ _ _ c1, t1 c c2, wa c c3, z3 c c1]
    refine ⟨rfl, tape_end (jv := g_u2 k6 (x + 353) 9 (iN (m + 20))) hR (m := m + 20) c ?_ (by rw [g_u2_self, va_up_self]) (fun k hk => ?_) (fun c c1 c2 c3 c4 => ?_) (fun i hi => ?_)⟩
    · rw [fin _ (by omega) (by omega) (by omega)]; exact p4
    · rw [fin (x + 2) (by omega) (by omega) (by omega), g_u2_ne _ _ _ (by omega), show x + 359 = x + 353 + 6 from rfl]
      by_cases k0 : k < m
      · rw [cl k k0, t3 k (by omega), wa _ (by omega), z3 _ (by omega), ce _ (by omega) (by omega)]
        exact m4 k k0
      · obtain ⟨i, rfl⟩ : ∃ i, k = m + i := ⟨k - m, by omega⟩
        rw [same i (by omega), t2 i (Nat.zero_le _) (by omega), w7 _ (by omega)]
        exact ⟨rfl, bF_c _ _⟩
    · rw [fin c c3 (by omega) (by omega), ce c c1 c2]
    · rw [g_u2_self, va_up_ne _ _ (by omega), t1 _ (by omega), wa _ (by omega), z1.2.2.2.1 i (by omega), ce _ (by omega) (by omega)]
  · rw [gW_iff (by rw [show (400 : Int32) = iN 400 from rfl, iN_le (by omega) (by omega)]; exact c), gW_ret]
    unfold f_X8_feed
    refine m_z hM (fun j3 z1 z2 z3 hM3 => ?_)
    have H := hM3.M
    rw [gW_B, rMi H, z1.2.2.2.1 9 (by omega), m3, iNp20, gW_iff (by rw [show (400 : Int32) = iN 400 from rfl, iN_le (by omega) (by omega)]; exact c), gW_ret]
    exact ⟨rfl, hR.fr (by omega) z1⟩
end OFD
