/-! OPS: send -/
section SND
variable {iv jv kv lv j0 : gV} {u v w : gU} {x z b n t : Nat} {V M : Nat → Int32} {pn on rm : Nat} {L : gLw}
theorem WI.lg {W W' : Nat → Int32} (h : WI W pn on) (e : ∀ k : Nat, k < 65 → k ≠ 7 → k ≠ 8 → W' k = W k) : WI W' pn on := by
  have h8 := h.1.2.1
  have h6 := h.1.2.2.2
  obtain ⟨⟨a1, a2, a3, a4⟩, b, c, d, f1, f2, f3, f4, f5⟩ := h
  refine ⟨⟨by rw [e 0 (by decide) (by decide) (by decide)]; exact a1, a2, by rw [e 1 (by decide) (by decide) (by decide)]; exact a3, a4⟩, fun p hp => ?_, fun p q hp hq => ?_, fun o ho => ?_, ?_, ?_, ?_, ?_, ?_⟩
  · rw [e _ (by omega) (by omega) (by omega), e _ (by omega) (by omega) (by omega), e _ (by omega) (by omega) (by omega), e _ (by omega) (by omega) (by omega)]; exact b p hp
  · rw [e _ (by omega) (by omega) (by omega), e _ (by omega) (by omega) (by omega)]; exact c p q hp hq
  · rw [e _ (by omega) (by omega) (by omega), e _ (by omega) (by omega) (by omega), e _ (by omega) (by omega) (by omega), e _ (by omega) (by omega) (by omega)]; exact d o ho
  · rw [e 2 (by decide) (by decide) (by decide)]; exact f1
  · rw [e 4 (by decide) (by decide) (by decide)]; exact f2
  · rw [e 5 (by decide) (by decide) (by decide)]; exact f3
  · rw [e 6 (by decide) (by decide) (by decide)]; exact f4
  · rw [e 3 (by decide) (by decide) (by decide)]; exact f5
theorem CI.on1 (hC : CI x iv u V pn on L) {o f : Nat} {y : Int32} (ho : o < on) (hf : f = 2 ∨ f = 3) (hy : yOk f y) : CI x (g_u2 iv (x + 28 + 15 + o) f y) u (va_up V (41 + 4 * o + f) y) pn on L := by
  obtain ⟨c1, ⟨s1, s2, s3, s4, s5, sp, so, sl⟩, c3, c4, c5⟩ := hC
  have h8 := c3.1.2.1
  have h6 := c3.1.2.2.2
  refine ⟨c1, ⟨?_, ?_, ?_, ?_, ?_, fun p' hp' i hi => ?_, fun o' ho' i hi => ?_, fun s hs => ?_⟩, c3.one ho hf hy, c4.fr Ux.rf (fun a _ _ => g_u2_ne _ _ _ (by omega)) (by rw [g_u2_ne _ _ _ (by omega)]) (by omega), c5⟩
  · rw [g_u2_ne _ _ _ (by omega)]; exact s1
  · rw [g_u2_ne _ _ _ (by omega)]; exact s2
  · rw [g_u2_ne _ _ _ (by omega), va_up_ne _ _ (by omega)]; exact s3
  · rw [g_u2_ne _ _ _ (by omega), va_up_ne _ _ (by omega)]; exact s4
  · rw [g_u2_ne _ _ _ (by omega), va_up_ne _ _ (by omega)]; exact s5
  · rw [g_u2_ne _ _ _ (by omega), va_up_ne _ _ (by omega)]; exact sp p' hp' i hi
  · by_cases eo : o' = o
    · rw [eo, g_u2_self]
      by_cases ef : i = f
      · rw [ef, va_up_self, va_up_self]
      · rw [va_up_ne _ _ ef, va_up_ne _ _ (by omega)]; exact so o ho i hi
    · rw [g_u2_ne _ _ _ (by omega), va_up_ne _ _ (by omega)]; exact so o' ho' i hi
  · rw [g_u2_ne _ _ _ (by omega), sIn_c (fun p hp => va_up_ne _ _ (by omega))]; exact sl s hs
theorem c_drawn (hC : CI x jv v V pn on L) (h17 : jv x 17 = -1) {o : Nat} (ho : o < on) {r : gRz} (hr : rO V pn L o true false 0 0 = r) {P : Unit → g_H → Prop} (hP : ∀ kv : gV, cB x jv kv r → CI x kv v (va_up V 8 r.1.2.2.1) pn on L → P () (kv, v)) : gW (f_X1_rides x (x + 28 + 15 + o) (1 : Int32)) (jv, v) P := by
  have key := c_rides (dr := true) (P := P) hC (Or.inl h17) (hC.sO ho) (fun kv hB => ?_)
  · rw [bI_t rfl] at key
    exact key
  · rw [hC.o ho (by decide), hC.o ho (by decide), hC.o ho (by decide), h17, eSet_m1] at hB
    have hB : cB x jv kv r := by rw [← hr]; exact hB
    exact hP kv hB ((hC.sdd r.1.2.2.1).fr hB.1)
theorem m_drawn (hM : MI x jv v V pn on L) {o : Nat} (h23 : jv (x + 353) 23 = 0) (h24 : jv (x + 353) 24 = 0) (e18 : jv (x + 353) 18 = V (41 + 4 * o + 0)) (e19 : jv (x + 353) 19 = V (41 + 4 * o + 1)) (e20 : jv (x + 353) 20 = V (41 + 4 * o + 2)) {r : gRz} (hr : rO V pn L o true false 0 0 = r) {P : Int32 → g_H → Prop} (hP : ∀ kv : gV, mB x jv kv r → MI x kv v (va_up V 8 r.1.2.2.1) pn on L → P r.2.1 (kv, v)) : gW (f_X8_rides (x + 353) (1 : Int32) (0 : Int32)) (jv, v) P := by
  have key := m_rides (dr := true) (te := false) (r := r) (P := P) hM e18 e19 e20 h23 h24 hr (fun kv hB _ => hP kv hB ((hM.sdd r.1.2.2.1).fr hB.1.S))
  rw [bI_t rfl, bI_f (by decide)] at key
  exact key
/-- the court behind a ride by draws -/
def se3 (V : Nat → Int32) (pn o : Nat) (r : gRz) : Nat → Int32 := va_up (laV (va_up V 8 r.1.2.2.1) pn r.1.2.1 r.1.2.2.2 o) (41 + 4 * o + 3) (if r.2.1 = -1 then 2 else 1)
/-- and its row in the log -/
def se6 (V : Nat → Int32) (pn o rm : Nat) (r : gRz) : Nat → Int32 := fun k => if k = 7 then iN (min 60 (rm + 1)) else if k = 65 then V 4 else if k = 66 then iN o else if k = 67 then (if r.2.1 = -1 then 10 else r.2.1) else if k = 68 then r.1.1 else if 69 ≤ k ∧ k ≤ 304 then V (k - 4) else se3 V pn o r k
theorem se3_o {o k : Nat} {r : gRz} (h1 : k ≠ 8) (h2 : ¬ (11 ≤ k ∧ k < 11 + 4 * pn ∧ k % 4 = 3)) (h3 : k ≠ 41 + 4 * o + 2) (h4 : k ≠ 41 + 4 * o + 3) : se3 V pn o r k = V k := by
  unfold se3 laV
  rw [va_up_ne _ _ h4, va_up_ne _ _ h3, la_o pn _ h2, va_up_ne _ _ h1]
theorem se6_lo {o k : Nat} {r : gRz} (h1 : k < 65) (h2 : k ≠ 7) : se6 V pn o rm r k = se3 V pn o r k := by
  unfold se6
  rw [if_neg h2, if_neg (by omega), if_neg (by omega), if_neg (by omega), if_neg (by omega), if_neg (by omega)]
theorem se6_hi (h8 : pn ≤ 8) (h6 : on ≤ 6) {o k : Nat} (ho : o < on) {r : gRz} (h1 : 305 ≤ k) : se6 V pn o rm r k = V k := by
  unfold se6
  rw [if_neg (by omega), if_neg (by omega), if_neg (by omega), if_neg (by omega), if_neg (by omega), if_neg (by omega)]
  exact se3_o (by omega) (by omega) (by omega) (by omega)
/-- the component writes a row -/
theorem c_writes (H : SS v (x + 28)) {a sl tn : Int32} (hrm : rm < 100) (e14 : jv (x + 28) 14 = iN rm) {P : Unit → g_H → Prop} (hP : ∀ kv : gV, (∀ c : Nat, c ≠ x + 28 → c ≠ x + 34 → kv c = jv c) → kv (x + 28) = va_up (jv (x + 28)) 14 (iN (rm + 1)) → (∀ i : Nat, (i < rm % 60 * 4 ∨ rm % 60 * 4 + 4 ≤ i) → kv (x + 34) i = jv (x + 34) i) → kv (x + 34) (rm % 60 * 4) = jv (x + 28) 10 → kv (x + 34) (rm % 60 * 4 + 1) = a → kv (x + 34) (rm % 60 * 4 + 2) = sl → kv (x + 34) (rm % 60 * 4 + 3) = tn → P () (kv, v)) : gW (f_X3_writes (x + 28) a sl tn) (jv, v) P := by
  have hm : rm % 60 < 60 := Nat.mod_lt _ (by decide)
  unfold f_X3_writes
  rw [gW_B, rSi H, e14, mod60 rm hrm, gW_B, gW_ret, show (4 : Int32) = iN 4 from rfl, iN_mul, gW_B, rSr5 H, gW_B, rSi H, gW_B, rSs5 H (by omega), gW_B, rSr5 H, gW_B, iNp1, rSs5 H (by omega), gW_B, rSr5 H, gW_B, iNp2, rSs5 H (by omega), gW_B, rSr5 H, gW_B, iNp3, rSs5 H (by omega), gW_B, rSi H]
  have b1 : ∀ c : Nat, c ≠ x + 28 + 6 → g_u2 (g_u2 (g_u2 (g_u2 jv (x + 28 + 6) (rm % 60 * 4) (jv (x + 28) 10)) (x + 28 + 6) (rm % 60 * 4 + 1) a) (x + 28 + 6) (rm % 60 * 4 + 2) sl) (x + 28 + 6) (rm % 60 * 4 + 3) tn c = jv c := fun c hc => by rw [g_u2_ne _ _ _ hc, g_u2_ne _ _ _ hc, g_u2_ne _ _ _ hc, g_u2_ne _ _ _ hc]
  have b2 : g_u2 (g_u2 (g_u2 (g_u2 jv (x + 28 + 6) (rm % 60 * 4) (jv (x + 28) 10)) (x + 28 + 6) (rm % 60 * 4 + 1) a) (x + 28 + 6) (rm % 60 * 4 + 2) sl) (x + 28 + 6) (rm % 60 * 4 + 3) tn (x + 28 + 6) = va_up (va_up (va_up (va_up (jv (x + 28 + 6)) (rm % 60 * 4) (jv (x + 28) 10)) (rm % 60 * 4 + 1) a) (rm % 60 * 4 + 2) sl) (rm % 60 * 4 + 3) tn := by rw [g_u2_self, g_u2_self, g_u2_self, g_u2_self]
  generalize g_u2 (g_u2 (g_u2 (g_u2 jv (x + 28 + 6) (rm % 60 * 4) (jv (x + 28) 10)) (x + 28 + 6) (rm % 60 * 4 + 1) a) (x + 28 + 6) (rm % 60 * 4 + 2) sl) (x + 28 + 6) (rm % 60 * 4 + 3) tn = j1 at b1 b2 ⊢
  rw [b1 _ (by omega), e14, iNp1, gW_B, rSp H, gW_ret]
  have c1 : ∀ c : Nat, c ≠ x + 28 → g_u2 j1 (x + 28) 14 (iN (rm + 1)) c = j1 c := fun c hc => g_u2_ne _ _ _ hc
  have c2 : g_u2 j1 (x + 28) 14 (iN (rm + 1)) (x + 34) = va_up (va_up (va_up (va_up (jv (x + 28 + 6)) (rm % 60 * 4) (jv (x + 28) 10)) (rm % 60 * 4 + 1) a) (rm % 60 * 4 + 2) sl) (rm % 60 * 4 + 3) tn := by rw [c1 _ (by omega)]; exact b2
  refine hP _ (fun c h1 h2 => by rw [c1 c h1, b1 c h2]) (by rw [g_u2_self, b1 _ (by omega)]) (fun i hi => ?_) ?_ ?_ ?_ ?_
  · rw [c2, va_up_ne _ _ (by omega), va_up_ne _ _ (by omega), va_up_ne _ _ (by omega), va_up_ne _ _ (by omega)]
  · rw [c2, va_up_ne _ _ (by omega), va_up_ne _ _ (by omega), va_up_ne _ _ (by omega), va_up_self]
  · rw [c2, va_up_ne _ _ (by omega), va_up_ne _ _ (by omega), va_up_self]
  · rw [c2, va_up_ne _ _ (by omega), va_up_self]
  · rw [c2, va_up_self]
/-- now holds the court behind it -/
theorem se_cSt {o : Nat} {r : gRz} (hW : WI V pn on) (ho : o < on) (h : cSt iv (x + 28) V pn on rm) (hC : CI x jv v (se3 V pn o r) pn on L) (hrm : rm < 100) (e0 : ∀ k : Nat, k ≠ 13 → jv (x + 28) k = iv (x + 28) k) (e3 : ∀ p : Nat, p < pn → jv (x + 28 + 7 + p) 3 = iv (x + 28 + 7 + p) 3) (e34 : jv (x + 34) = iv (x + 34))
    (k0 : ∀ c : Nat, x + 28 < c → c < x + 49 → c ≠ x + 34 → kv c = jv c) (k28 : kv (x + 28) = va_up (jv (x + 28)) 14 (iN (rm + 1))) (k1 : ∀ i : Nat, (i < rm % 60 * 4 ∨ rm % 60 * 4 + 4 ≤ i) → kv (x + 34) i = jv (x + 34) i) (k2 : kv (x + 34) (rm % 60 * 4) = jv (x + 28) 10) (k3 : kv (x + 34) (rm % 60 * 4 + 1) = iN o) (k4 : kv (x + 34) (rm % 60 * 4 + 2) = (if r.2.1 = -1 then 10 else r.2.1)) (k5 : kv (x + 34) (rm % 60 * 4 + 3) = r.1.1) : cSt kv (x + 28) (se6 V pn o rm r) pn on (rm + 1) := by
  have h8 := hW.1.2.1
  have h6 := hW.1.2.2.2
  obtain ⟨⟨s1, s2, s3, s4, s5, s6, s7, s8⟩, sp, so, sl, sg, sr⟩ := h
  have lo : ∀ k : Nat, k < 7 → se6 V pn o rm r k = V k := fun k hk => by
    rw [se6_lo (by omega) (by omega), se3_o (by omega) (by omega) (by omega) (by omega)]
  have n28 : ∀ k : Nat, k ≠ 13 → k ≠ 14 → kv (x + 28) k = iv (x + 28) k := fun k h1 h2 => by rw [k28, va_up_ne _ _ h2, e0 k h1]
  refine ⟨⟨?_, ?_, ?_, ?_, ?_, ?_, ?_, ?_⟩, fun p hp f hf => ?_, fun q hq f hf => ?_, fun s hs => ?_, ?_, fun a ha f hf => ?_⟩
  · rw [n28 6 (by decide) (by decide), lo 0 (by decide)]; exact s1
  · rw [n28 7 (by decide) (by decide), lo 1 (by decide)]; exact s2
  · rw [n28 9 (by decide) (by decide), lo 2 (by decide)]; exact s3
  · rw [n28 10 (by decide) (by decide), lo 4 (by decide)]; exact s4
  · rw [n28 11 (by decide) (by decide), lo 5 (by decide)]; exact s5
  · rw [n28 12 (by decide) (by decide), lo 6 (by decide)]; exact s6
  · rw [k28, va_up_ne _ _ (by decide), hC.sd, se6_lo (by decide) (by decide)]
  · rw [k28, va_up_self]
  · rw [k0 _ (by omega) (by omega) (by omega), se6_lo (by omega) (by omega)]
    by_cases f3 : f = 3
    · rw [f3, e3 p hp, se3_o (by omega) (by omega) (by omega) (by omega)]; exact sp p hp 3 (by decide)
    · exact hC.p hp (by omega)
  · rw [k0 _ (by omega) (by omega) (by omega), se6_lo (by omega) (by omega)]
    exact hC.o hq hf
  · rw [k0 _ (by omega) (by omega) (by omega), hC.s hs]
    exact (sIn_c (fun p hp => se6_lo (by omega) (by omega))).symm
  · unfold se6; rw [if_pos rfl]
  · by_cases a0 : a = 0
    · subst a0
      rw [show (rm + 1 - 1 - 0) % 60 * 4 + f = rm % 60 * 4 + f by congr 1]
      have : f = 0 ∨ f = 1 ∨ f = 2 ∨ f = 3 := by omega
      rcases this with rfl | rfl | rfl | rfl
      · show kv (x + 34) (rm % 60 * 4) = _
        rw [k2, e0 10 (by decide), s4]; rfl
      · rw [k3]; rfl
      · rw [k4]; rfl
      · rw [k5]; rfl
    · have e1 : rm + 1 - 1 - a = rm - 1 - (a - 1) := by omega
      have ne : (rm - 1 - (a - 1)) % 60 ≠ rm % 60 := by omega
      rw [e1, k1 _ (by omega), e34, sr (a - 1) (by omega) f hf]
      unfold se6
      rw [if_neg (by omega), if_neg (by omega), if_neg (by omega), if_neg (by omega), if_neg (by omega), if_pos (by omega)]
      congr 1
      omega
/-- the model's log makes room -/
theorem m_send_86 (H : MS v (x + 353)) {W0 : Nat → Int32} {a q : Int32} {P : Int32 → g_H → Prop} : ∀ (k N : Nat) (jv : gV), k < 240 → 3 ≤ k → k < N → (∀ i : Nat, jv (x + 353 + 1) i = if 65 + k < i ∧ i ≤ 304 then W0 (i - 4) else W0 i) → (∀ kv : gV, (∀ c : Nat, c ≠ x + 353 + 1 → kv c = jv c) → (∀ i : Nat, kv (x + 353 + 1) i = if 69 ≤ i ∧ i ≤ 304 then W0 (i - 4) else W0 i) → gW (f_X8_send_117 (x + 353) a q) (kv, v) P) → gW (f_X8_send_86 N (x + 353) a q (iN k)) (jv, v) P := by
  intro k
  induction k with
  | zero => intro N jv h1 h2 h3 hj hP; omega
  | succ k ih =>
    intro N jv h1 h2 h3 hj hP
    obtain ⟨N, rfl⟩ : ∃ N', N = N' + 1 := ⟨N - 1, by omega⟩
    rw [f_X8_send_86]
    by_cases c : k + 1 = 3
    · rw [gW_ift (by rw [c]; decide)]
      refine hP jv (fun _ _ => rfl) (fun i => ?_)
      rw [hj i]
      by_cases d : 65 + (k + 1) < i ∧ i ≤ 304
      · rw [if_pos d, if_pos (by omega)]
      · rw [if_neg d, if_neg (by omega)]
    · have em : iN (k + 1) + -1 = iN k := by rw [iN_m1 (by omega)]; rfl
      rw [gW_iff (by rw [show (4 : Int32) = iN 4 from rfl, iN_lt (by omega) (by omega)]; omega), gW_B, rMr0 H, gW_B, rMr0 H, gW_B, iNl65, iNs4 (by omega), rMa0 H (by omega), hj, if_neg (by omega), gW_B, rMs0 H (by omega), em]
      refine ih N _ (by omega) (by omega) (by omega) (fun i => ?_) (fun kv g1 g2 => hP kv (fun c hc => by rw [g1 c hc, g_u2_ne _ _ _ hc]) g2)
      rw [g_u2_self]
      by_cases ei : i = 65 + (k + 1)
      · rw [ei, va_up_self, if_pos (by omega)]
      · rw [va_up_ne _ _ ei, hj i]
        by_cases d : 65 + (k + 1) < i ∧ i ≤ 304
        · rw [if_pos d, if_pos (by omega)]
        · rw [if_neg d, if_neg (by omega)]
end SND
