/-! OPS: send, joined -/
section SN2
variable {iv jv kv lv j0 : gV} {u v w : gU} {x z b n t : Nat} {V : Nat → Int32} {pn on rm : Nat} {L : gLw}
theorem CI.rem {r0 q : Nat} (hC : CI x iv u V pn on L) (hA : AB x r0 q iv u pn on rm jv v) (hr : r0 < 12) (hk : ∀ k : Nat, k ≠ 12 → k ≠ 13 → jv x k = iv x k) (ha : ∀ a : Nat, a ≠ x → (a < x + 101 + 21 * r0 ∨ x + 101 + 21 * r0 + 21 ≤ a) → jv a = iv a) : CI x jv v V pn on L := by
  obtain ⟨-, HX, -, u1, u2, -, u4⟩ := hA
  obtain ⟨c1, c2, c3, c4, c5⟩ := hC
  have hK : Kx x iv u jv v := ⟨fun a q1 q2 => ⟨ha a (by omega) (by omega), by rw [u1], u2 a (by omega)⟩, by rw [u4]; exact Nat.le_refl _⟩
  exact ⟨HX, c2.fr c3.1.2.1 c3.1.2.2.2 (fun k _ => by rw [ha _ (by omega) (by omega)]) (fun a _ _ _ _ => ha a (by omega) (by omega)), c3, c4.fr2 hK (by rw [ha _ (by omega) (by omega)]) (u2 _ (by omega)), by rw [u4]; exact c5⟩
/-- the model's log with its new row -/
theorem se6_v {o : Nat} {r : gRz} {W : Nat → Int32} {sl : Int32} (h8 : pn ≤ 8) (h6 : on ≤ 6) (ho : o < on) (W9 : ∀ i : Nat, W i = if 69 ≤ i ∧ i ≤ 304 then se3 V pn o r (i - 4) else se3 V pn o r i) (hsl : sl = (if r.2.1 = -1 then 10 else r.2.1)) : va_up (va_up (va_up (va_up (va_up W 65 (V 4)) 66 (iN o)) 67 sl) 68 r.1.1) 7 (iN (min 60 (rm + 1))) = se6 V pn o rm r := by
  funext i
  unfold se6
  by_cases i7 : i = 7
  · rw [i7, va_up_self, if_pos rfl]
  · rw [va_up_ne _ _ i7, if_neg i7]
    by_cases i68 : i = 68
    · rw [i68, va_up_self, if_neg (by decide), if_neg (by decide), if_neg (by decide), if_pos rfl]
    · rw [va_up_ne _ _ i68]
      by_cases i67 : i = 67
      · rw [i67, va_up_self, if_neg (by decide), if_neg (by decide), if_pos rfl, hsl]
      · rw [va_up_ne _ _ i67]
        by_cases i66 : i = 66
        · rw [i66, va_up_self, if_neg (by decide), if_pos rfl]
        · rw [va_up_ne _ _ i66]
          by_cases i65 : i = 65
          · rw [i65, va_up_self, if_pos rfl]
          · rw [va_up_ne _ _ i65, W9, if_neg i65, if_neg i66, if_neg i67, if_neg i68]
            by_cases c : 69 ≤ i ∧ i ≤ 304
            · rw [if_pos c, if_pos c]
              exact se3_o (by omega) (by omega) (by omega) (by omega)
            · rw [if_neg c, if_neg c]
theorem m_slog (H : MS v (x + 353)) {o : Nat} {r : gRz} (h8 : pn ≤ 8) (h6 : on ≤ 6) (ho : o < on) (hrm : rm < 100) (h7 : V 7 = iN (min 60 rm)) (vE : jv (x + 353 + 1) = laV (va_up V 8 r.1.2.2.1) pn r.1.2.1 r.1.2.2.2 o) (e30 : jv (x + 353) 30 = r.1.1) {st sl : Int32} (hst : st = (if r.2.1 = -1 then 2 else 1)) (hsl : sl = (if r.2.1 = -1 then 10 else r.2.1)) {P : Int32 → g_H → Prop} (hP : ∀ kv : gV, (∀ c : Nat, c ≠ x + 353 + 1 → kv c = jv c) → kv (x + 353 + 1) = se6 V pn o rm r → P r.2.1 (kv, v)) : gW (f_X8_send_81 (x + 353) (iN o) r.2.1 (x + 353 + 1) (iN (41 + 4 * o + 3)) st) (jv, v) P := by
  unfold f_X8_send_81
  rw [gW_B, rMs0 H (by omega)]
  have W0 : ∀ i : Nat, g_u2 jv (x + 353 + 1) (41 + 4 * o + 3) st (x + 353 + 1) i = se3 V pn o r i := fun i => by
    rw [g_u2_self, vE, hst]; rfl
  have o8 : ∀ c : Nat, c ≠ x + 353 + 1 → g_u2 jv (x + 353 + 1) (41 + 4 * o + 3) st c = jv c := fun c hc => g_u2_ne _ _ _ hc
  generalize g_u2 jv (x + 353 + 1) (41 + 4 * o + 3) st = k8 at W0 o8 ⊢
  show gW (f_X8_send_86 gN (x + 353) (iN o) r.2.1 (iN 239)) _ _
  refine m_send_86 H (W0 := se3 V pn o r) 239 gN k8 (by decide) (by decide) (by rw [gN_eq]; omega) (fun i => by rw [W0 i, if_neg (by omega)]) (fun k9 o9 W9 => ?_)
  have w94 : k9 (x + 353 + 1) 4 = V 4 := by rw [W9, if_neg (by omega)]; exact se3_o (by omega) (by omega) (by omega) (by omega)
  have w97 : k9 (x + 353 + 1) 7 = iN (min 60 rm) := by rw [W9, if_neg (by omega), se3_o (by omega) (by omega) (by omega) (by omega)]; exact h7
  have i30 : k9 (x + 353) 30 = r.1.1 := by rw [o9 _ (by omega), o8 _ (by omega)]; exact e30
  have o89 : ∀ c : Nat, c ≠ x + 353 + 1 → k9 c = jv c := fun c hc => by rw [o9 c hc, o8 c hc]
  clear o9 o8 W0
  unfold f_X8_send_117
  rw [gW_B, rMr0 H, gW_B, rMr0 H, gW_B]
  show gW (gAI (x + 353 + 1) 0 (iN 4)) _ _
  rw [rMa0 H (by omega), w94, gW_B, rMS0_65 H, gW_B, rMr0 H, gW_B, rMS0_66 H, gW_B, rMr0 H]
  have fin : gW (f_X8_send_155 (x + 353) r.2.1 (x + 353 + 1) (67 : Int32) sl) (g_u2 (g_u2 k9 (x + 353 + 1) 65 (V 4)) (x + 353 + 1) 66 (iN o), v) P := by
    unfold f_X8_send_155
    have mm : mN 60 (iN (min 60 rm) + 1) = iN (min 60 (rm + 1)) := by
      rw [iNp1, mN60 (by omega)]
      congr 1
      omega
    have w7b : ∀ (y1 y2 y3 y4 : Int32), g_u2 (g_u2 (g_u2 (g_u2 k9 (x + 353 + 1) 65 y1) (x + 353 + 1) 66 y2) (x + 353 + 1) 67 y3) (x + 353 + 1) 68 y4 (x + 353 + 1) 7 = iN (min 60 rm) := fun y1 y2 y3 y4 => by
      rw [g_u2_self, va_up_ne _ _ (by decide), g_u2_self, va_up_ne _ _ (by decide), g_u2_self, va_up_ne _ _ (by decide), g_u2_self, va_up_ne _ _ (by decide)]; exact w97
    have i30b : ∀ (y1 y2 y3 : Int32), g_u2 (g_u2 (g_u2 k9 (x + 353 + 1) 65 y1) (x + 353 + 1) 66 y2) (x + 353 + 1) 67 y3 (x + 353) 30 = r.1.1 := fun y1 y2 y3 => by
      rw [g_u2_ne _ _ _ (by omega), g_u2_ne _ _ _ (by omega), g_u2_ne _ _ _ (by omega)]; exact i30
    rw [gW_B, rMS0_67 H, gW_B, rMr0 H, gW_B, rMi H, i30b, gW_B, rMS0_68 H, gW_B, rMr0 H, gW_B, rMr0 H, gW_B, rMA0_7 H, w7b, gW_B, w_min, mm, gW_B]
    show gW (gSI (x + 353 + 1) 0 (iN 7) _) _ _
    rw [rMs0 H (by omega), gW_ret]
    refine hP _ (fun c hc => by rw [g_u2_ne _ _ _ hc, g_u2_ne _ _ _ hc, g_u2_ne _ _ _ hc, g_u2_ne _ _ _ hc, g_u2_ne _ _ _ hc, o89 c hc]) ?_
    rw [g_u2_self, g_u2_self, g_u2_self, g_u2_self, g_u2_self]
    exact se6_v h8 h6 ho W9 hsl
  by_cases cs : r.2.1 = -1
  · rw [gW_ift cs]
    rw [hsl, if_pos cs] at fin
    exact fin
  · rw [gW_iff cs]
    rw [hsl, if_neg cs] at fin
    exact fin
/-- the model sends -/
theorem m_sendt (hM7 : MI x jv v V pn on L) {o q : Nat} {r : gRz} (ho : o < on) (c2 : V (41 + 4 * o + 3) = 0) (hq : q ≤ 12) (e7 : jv (x + 353) 7 = iN q) (hV : iv (x + 354) = V) (e5 : jv (x + 358) = iv (x + 358)) (e23 : jv (x + 353) 23 = 0) (e24 : jv (x + 353) 24 = 0) (hr : rO V pn L o true false 0 0 = r) (hI : rdI r) (hrm : rm < 100) (h7 : V 7 = iN (min 60 rm)) {P : Int32 → g_H → Prop} (hP : ∀ kv : gV, MB x q iv kv → kv (x + 353) 0 = 0 → (∀ k : Nat, (k = 6 ∨ k = 9 ∨ k = 14 ∨ k = 23 ∨ k = 24) → kv (x + 353) k = jv (x + 353) k) → (∀ c : Nat, c ≠ x + 353 → c ≠ x + 354 → c ≠ x + 358 → (c < x + 361 ∨ x + 364 < c) → kv c = jv c) → kv (x + 354) = se6 V pn o rm r → P r.2.1 (kv, v)) : gW (f_X8_send (x + 353) (iN o)) (jv, v) P := by
  have h8 := hM7.p8
  have h6 := hM7.o6
  obtain ⟨cc, cc1, cc2⟩ := hI.1
  unfold f_X8_send f_X8_send_32
  refine m_z hM7 (fun k3 z1 z2 z3 hM3 => ?_)
  have H := hM3.M
  rw [gW_B, rMc H, gW_B, m_noOne_t hM3 ho, gW_B, rMc H, gW_B, m_thr0, gW_ift rfl, gW_B, rMc H, gW_B, w_waits H (by omega), hM3.vE, bI_t c2, gW_iff (by decide), gW_B, rMc H, gW_B, m_thr0, gW_ift rfl, gW_B, rMc H, gW_B]
  have f7 : ∀ k : Nat, (k = 6 ∨ k = 7 ∨ k = 9 ∨ k = 14 ∨ k = 23 ∨ k = 24) → k3 (x + 353) k = jv (x + 353) k := fun k hk => z1.2.2.2.1 k hk
  refine m_rem (iv := iv) H hq ((f7 7 (by omega)).trans e7) (by rw [hV]; exact hM3.vE) (by rw [z3 _ (by omega)]; exact e5) (fun k4 m1 m2 m3 => ?_)
  have hM4 : MI x k4 v V pn on L := ⟨H, by rw [m3 _ (by omega) (by omega)]; exact hM3.vE, hM3.2.2⟩
  rw [gW_B, rMc H, gW_B]
  refine m_looksAt hM4 ho (fun k5 S5 hM5 l1 l2 e18 e19 e20 => ?_)
  have f5 : ∀ k : Nat, (k = 6 ∨ k = 9 ∨ k = 14 ∨ k = 23 ∨ k = 24) → k5 (x + 353) k = jv (x + 353) k := fun k hk => by rw [l1 k (by omega) (by omega) (by omega), m2 k (by omega), f7 k (by omega)]
  rw [gW_B, rMc H, gW_B]
  refine m_drawn hM5 ((f5 23 (by omega)).trans e23) ((f5 24 (by omega)).trans e24) e18 e19 e20 hr (fun k6 hB6 hM6 => ?_)
  clear hr
  obtain ⟨r1, r2, r3, r4, r5, r6, r7⟩ := hB6
  rw [gW_B, rMc H, gW_B]
  refine m_laysOn hM6 ho cc1 (w := r.1.2.2.2) (by rw [← cc2]; exact hI.2.1) (by rw [← cc2]; exact r4) (by rw [← cc2]; exact r5) (fun k7 y1 hM8 => ?_)
  rw [← cc2] at hM8
  rw [gW_B, rMr0 H, gW_B, woA.2.2.2]
  have i30 : k7 (x + 353) 30 = r.1.1 := by rw [y1 _ (by omega)]; exact r3
  have log : ∀ st : Int32, st = (if r.2.1 = -1 then 2 else 1) → gW (f_X8_send_81 (x + 353) (iN o) r.2.1 (x + 353 + 1) (iN (41 + 4 * o + 3)) st) (k7, v) P := by
    intro st hst
    refine m_slog H h8 h6 ho hrm h7 hM8.vE i30 hst rfl (fun mv p1 p2 => ?_)
    have q2 : ∀ k : Nat, k ≠ 18 → k ≠ 19 → k ≠ 20 → k ≠ 21 → k ≠ 22 → k ≠ 28 → k ≠ 29 → k ≠ 30 → mv (x + 353) k = k4 (x + 353) k := fun k h1 h2 h3 h4 h5 h6 h7 h8 => by
      rw [p1 _ (by omega), y1 _ (by omega), r6 k h4 h5 h6 h7 h8, l1 k h1 h2 h3]
    refine hP mv (m1.kp (q2 7 (by decide) (by decide) (by decide) (by decide) (by decide) (by decide) (by decide) (by decide)) ?_) ?_ (fun k hk => ?_) (fun c h1 h2 h3 h4 => ?_) p2
    · rw [p1 _ (by omega), y1 _ (by omega), r7 _ (by omega) (by omega) (by omega) (by omega) (by omega) (by omega), l2 _ (by omega)]
    · rw [q2 0 (by decide) (by decide) (by decide) (by decide) (by decide) (by decide) (by decide) (by decide), m2 0 (by decide)]; exact z2
    · rw [q2 k (by omega) (by omega) (by omega) (by omega) (by omega) (by omega) (by omega) (by omega), m2 k (by omega), f7 k (by omega)]
    · rw [p1 c h2, y1 c h2, r7 c h1 h2 (by omega) (by omega) (by omega) (by omega), l2 c h1, m3 c h1 h3, z3 c h1]
  by_cases cs : r.2.1 = -1
  · rw [gW_ift cs]
    exact log 2 (by rw [if_pos cs])
  · rw [gW_iff cs]
    exact log 1 (by rw [if_neg cs])
end SN2
