/-! OPS: car -/
section CAR
variable {iv jv kv lv : gV} {u v : gU} {x z b n t : Nat} {V : Nat → Int32} {pn on : Nat} {L : gLw}
def caV (s0 s1 : Bool) : Int32 := if s0 = true then (if s1 = true then 3 else 1) else (if s1 = true then 2 else 0)
theorem caV_b0 (s0 s1 : Bool) : ((caV s0 s1 >>> (iN 0 &&& 31)) &&& 1 = 1) ↔ s0 = true := by cases s0 <;> cases s1 <;> decide
theorem caV_b1 (s0 s1 : Bool) : ((caV s0 s1 >>> (iN 1 &&& 31)) &&& 1 = 1) ↔ s1 = true := by cases s0 <;> cases s1 <;> decide
theorem caV_0 (s0 s1 p : Bool) : caV s0 s1 ||| (if s0 = false ∧ p = true then (1 : Int32) <<< (iN 0 &&& 31) else 0) = caV (s0 || p) s1 := by cases s0 <;> cases s1 <;> cases p <;> decide
theorem caV_1 (s0 s1 p : Bool) : caV s0 s1 ||| (if s1 = false ∧ p = true then (1 : Int32) <<< (iN 1 &&& 31) else 0) = caV s0 (s1 || p) := by cases s0 <;> cases s1 <;> cases p <;> decide
/-- a slot of a car -/
def caS (f0 f1 : Int32 → Int32) (n0 n1 e : Int32) (z : Int32 × Int32 × Bool × Bool) : Int32 × Int32 × Bool × Bool :=
  let t0 := if z.2.2.1 = true then z.1 else f0 z.1
  let t1 := if z.2.2.2 = true then z.2.1 else f1 z.2.1
  let p0 := z.2.2.1 || decide (n0 < t0)
  let p1 := z.2.2.2 || decide (n1 < t1)
  if (z.2.2.1 || z.2.2.2 || (p0 == p1)) = true then (t0, t1, p0, p1) else if p0 = true then (t0, t1 + e, true, decide (n1 < t1 + e)) else (t0 + e, t1, decide (n0 < t0 + e), true)
def caF (V : Nat → Int32) (pn : Nat) (L : gLw) (a c : Nat) : Nat → Nat → Int32 × Int32 × Bool × Bool → Int32 × Int32 × Bool × Bool
  | 0, _, z => z
  | k + 1, s, z => caF V pn L a c k (s + 1) (caS (fun y => bO V pn L a s y 1) (fun y => bO V pn L c s y 1) (V (41 + 4 * a + 1)) (V (41 + 4 * c + 1)) (V 6) z)
theorem c_car_77 (hC : CI x jv u V pn on L) {o k s : Nat} (ho : o < on) (hk : k < 2) (hs : s < 10) {w y : Int32} {bit : Bool} (hb : ((w >>> (iN k &&& 31)) &&& 1 = 1) ↔ bit = true) {k60 : Nat → Nat → Nat → Int32 → Int32 → Int32 → Int32 → gM (Int32 ⊕ gE)} {a3 a4 : Nat} {P : Int32 ⊕ gE → g_H → Prop} (hP : ∀ kv : gV, Sx x jv kv → CI x kv u V pn on L → kv (x + 97) k = (if bit = true then jv (x + 97) k else bO V pn L o s (jv (x + 97) k) 1) → (∀ i : Nat, i ≠ k → kv (x + 97) i = jv (x + 97) i) → gW (k60 x a3 a4 (y ||| (if bit = false ∧ decide (V (41 + 4 * o + 1) < (if bit = true then jv (x + 97) k else bO V pn L o s (jv (x + 97) k) 1)) = true then (1 : Int32) <<< (iN k &&& 31) else 0)) (iN s) w (iN (k + 1))) (kv, u) P) : gW (f_X1_car_77 k60 x a3 a4 y (iN s) w (iN k) (x + 28 + 15 + o)) (jv, u) P := by
  have HX := hC.X
  have h6 := hC.o6
  unfold f_X1_car_77 f_X1_car_144 f_X1_car_147
  by_cases c : bit = true
  · rw [gW_ift (hb.mpr c), iNp1]
    have := hP jv Sx.rf hC (by rw [if_pos c]) (fun _ _ => rfl)
    rw [if_neg (fun q => by rw [c] at q; exact absurd q.1 (by decide)), Int32.or_zero] at this
    exact this
  · have cf : bit = false := by
      cases bit
      · rfl
      · exact absurd rfl c
    rw [gW_iff (fun q => c (hb.mp q)), gW_B, rXr7 HX, gW_B, rXr1 HX, gW_B, rXr7 HX, gW_B, rXa97 HX hk, gW_B, rSc HX.nw, gW_B]
    refine c_behind hC (hC.sO ho) hs (fun f => ?_)
    rw [hC.o ho (by decide), hC.o ho (by decide), hC.o ho (by decide)]
    have S2 : Sx x jv (va_up jv (x + 33) f) := Sx.up (by omega)
    have S3 : Sx x jv (g_u2 (va_up jv (x + 33) f) (x + 97) k (bO V pn L o s (jv (x + 97) k) 1)) := S2.tr (Sx.u2 (by omega))
    have C3 := hC.fr S3
    have H3 := C3.X
    have key := hP _ S3 C3 (by rw [if_neg c, g_u2_self, va_up_self]) (fun i hi => by rw [g_u2_self, va_up_ne _ _ hi, va_up_ne _ _ (by omega)])
    rw [if_neg c] at key
    rw [gW_B, rXs97 HX hk, gW_B, rXr7 H3, gW_B, rXa97 H3 hk, gW_B, rSOi H3.nw (by omega), C3.o ho (by decide), g_u2_self, va_up_self]
    by_cases c2 : bO V pn L o s (jv (x + 97) k) 1 ≤ V (41 + 4 * o + 1)
    · rw [if_neg (fun q => Int32.not_lt.mpr c2 (of_decide_eq_true q.2))] at key
      rw [gW_ift c2, iNp1]
      exact key
    · rw [if_pos ⟨cf, decide_eq_true (Int32.not_le.mp c2)⟩] at key
      rw [gW_iff c2, iNp1]
      exact key
theorem c_car_181 (hC : CI x jv u V pn on L) {o k s : Nat} (ho : o < on) (hk : k < 2) {y : Int32} {k46 : Nat → Nat → Nat → Int32 → Int32 → gM (Int32 ⊕ gE)} {a3 a4 : Nat} (ha : (k = 0 ∧ a3 = x + 28 + 15 + o) ∨ (k = 1 ∧ a4 = x + 28 + 15 + o)) {P : Int32 ⊕ gE → g_H → Prop} (hP : ∀ kv : gV, Sx x jv kv → CI x kv u V pn on L → kv (x + 97) k = jv (x + 97) k + V 6 → (∀ i : Nat, i ≠ k → kv (x + 97) i = jv (x + 97) i) → gW (k46 x a3 a4 (y ||| (if V (41 + 4 * o + 1) < jv (x + 97) k + V 6 then (1 : Int32) <<< (iN k &&& 31) else 0)) (iN (s + 1))) (kv, u) P) : gW (f_X1_car_181 k46 x a3 a4 y (iN s) (iN k)) (jv, u) P := by
  have HX := hC.X
  have h6 := hC.o6
  unfold f_X1_car_181
  have S3 : Sx x jv (g_u2 jv (x + 97) k (jv (x + 97) k + V 6)) := Sx.u2 (by omega)
  have C3 := hC.fr S3
  have H3 := C3.X
  have key := hP _ S3 C3 (by rw [g_u2_self, va_up_self]) (fun i hi => by rw [g_u2_self, va_up_ne _ _ hi])
  rw [gW_B, rXr7 HX, gW_B, rXa97 HX hk, gW_B, rXr1 HX, gW_B, rSi HX.nw, hC.ec, gW_B, rXs97 HX hk, gW_B, rXr7 H3, gW_B, rXa97 H3 hk, g_u2_self, va_up_self]
  have fin : gW (f_X1_car_220 k46 x a3 a4 (iN s) (iN k) y (jv (x + 97) k + V 6) (x + 28 + 15 + o)) (g_u2 jv (x + 97) k (jv (x + 97) k + V 6), u) P := by
    unfold f_X1_car_220 f_X1_car_234 f_X1_car_237
    rw [gW_B, rSOi H3.nw (by omega), C3.o ho (by decide)]
    by_cases c2 : jv (x + 97) k + V 6 ≤ V (41 + 4 * o + 1)
    · rw [if_neg (Int32.not_lt.mpr c2)] at key
      rw [gW_ift c2, iNp1]
      exact key
    · rw [if_pos (Int32.not_le.mp c2)] at key
      rw [gW_iff c2, iNp1]
      exact key
  rcases ha with ⟨rfl, rfl⟩ | ⟨rfl, rfl⟩
  · rw [gW_ift (show iN 0 = (0 : Int32) from rfl)]
    exact fin
  · rw [gW_iff (show ¬ iN 1 = (0 : Int32) by decide)]
    exact fin
theorem caV_bc (s0 s1 : Bool) : bC (caV s0 s1) = 1 ↔ (s0 == s1) = false := by cases s0 <;> cases s1 <;> decide
theorem caV_z (s0 s1 : Bool) : caV s0 s1 = 0 ↔ (s0 || s1) = false := by cases s0 <;> cases s1 <;> decide
theorem caV_1' (s0 s1 : Bool) : caV s0 s1 = 1 ↔ (s0 = true ∧ s1 = false) := by cases s0 <;> cases s1 <;> decide
theorem caV_3 (s0 s1 : Bool) : caV s0 s1 = 3 ↔ (s0 = true ∧ s1 = true) := by cases s0 <;> cases s1 <;> decide
theorem c_car_46 {a c : Nat} (ha : a < on) (hc : c < on) {P : Int32 ⊕ gE → g_H → Prop} : ∀ (k s N : Nat) (z : Int32 × Int32 × Bool × Bool) (jv : gV), s + k = 10 → k < N → Sx x iv jv → CI x jv u V pn on L → jv (x + 97) 0 = z.1 → jv (x + 97) 1 = z.2.1 → (∀ kv : gV, Sx x iv kv → P (.inl (caV (caF V pn L a c k s z).2.2.1 (caF V pn L a c k s z).2.2.2)) (kv, u)) → gW (f_X1_car_46 N x (x + 28 + 15 + a) (x + 28 + 15 + c) (caV z.2.2.1 z.2.2.2) (iN s)) (jv, u) P := by
  intro k
  induction k with
  | zero =>
    intro s N z jv h1 h2 hS hC e0 e1 hP
    obtain ⟨N, rfl⟩ : ∃ N', N = N' + 1 := ⟨N - 1, by omega⟩
    have : s = 10 := by omega
    subst this
    unfold f_X1_car_46 f_X1_car_243
    rw [gW_ift (by decide), gW_ret]
    exact hP jv hS
  | succ k ih =>
    intro s N z jv h1 h2 hS hC e0 e1 hP
    obtain ⟨N, rfl⟩ : ∃ N', N = N' + 1 := ⟨N - 1, by omega⟩
    obtain ⟨t0, t1, s0, s1⟩ := z
    have e0 : jv (x + 97) 0 = t0 := e0
    have e1 : jv (x + 97) 1 = t1 := e1
    obtain ⟨G, hG⟩ : ∃ G, gN = G + 1 + 1 + 1 := ⟨gN - 3, by rw [gN_eq]⟩
    rw [f_X1_car_46, gW_iff (by rw [show (10 : Int32) = iN 10 from rfl, iN_le (by omega) (by omega)]; omega)]
    show gW (f_X1_car_60 (f_X1_car_46 N) gN x (x + 28 + 15 + a) (x + 28 + 15 + c) (caV s0 s1) (iN s) (caV s0 s1) (iN 0)) _ _
    rw [hG, f_X1_car_60, gW_iff (by decide), gW_ift (by decide)]
    refine c_car_77 hC ha (by decide) (by omega) (caV_b0 s0 s1) (fun j1 S1 C1 b1 b2 => ?_)
    rw [e0] at b1 ⊢
    rw [caV_0]
    generalize ht0 : (if s0 = true then t0 else bO V pn L a s t0 1) = r0 at b1 ⊢
    rw [f_X1_car_60, gW_iff (by decide), gW_iff (by decide)]
    refine c_car_77 C1 hc (by decide) (by omega) (caV_b1 s0 s1) (fun j2 S2 C2 b3 b4 => ?_)
    rw [b2 1 (by decide), e1] at b3 ⊢
    rw [caV_1]
    generalize ht1 : (if s1 = true then t1 else bO V pn L c s t1 1) = r1 at b3 ⊢
    rw [f_X1_car_60, gW_ift (by decide)]
    have b5 : j2 (x + 97) 0 = r0 := (b4 0 (by decide)).trans b1
    have S3 := (hS.tr S1).tr S2
    generalize hp0 : (s0 || decide (V (41 + 4 * a + 1) < r0)) = p0
    generalize hp1 : (s1 || decide (V (41 + 4 * c + 1) < r1)) = p1
    rw [caF] at hP
    have hst : caS (fun y => bO V pn L a s y 1) (fun y => bO V pn L c s y 1) (V (41 + 4 * a + 1)) (V (41 + 4 * c + 1)) (V 6) (t0, t1, s0, s1) = (if (s0 || s1 || (p0 == p1)) = true then (r0, r1, p0, p1) else if p0 = true then (r0, r1 + V 6, true, decide (V (41 + 4 * c + 1) < r1 + V 6)) else (r0 + V 6, r1, decide (V (41 + 4 * a + 1) < r0 + V 6), true)) := by
      unfold caS
      simp only [ht0, ht1, hp0, hp1]
    rw [hst] at hP
    unfold f_X1_car_153 f_X1_car_237
    have stop : (s0 || s1 || (p0 == p1)) = true → gW (f_X1_car_46 N x (x + 28 + 15 + a) (x + 28 + 15 + c) (caV p0 p1) (iN s + 1)) (j2, u) P := by
      intro hq
      rw [if_pos hq] at hP
      rw [iNp1]
      exact ih (s + 1) N (r0, r1, p0, p1) j2 (by omega) (by omega) S3 C2 b5 b3 hP
    by_cases c0 : caV s0 s1 = 0
    · have q0 := (caV_z s0 s1).mp c0
      rw [gW_ift c0, gW_B, w_bitCount]
      by_cases c1 : bC (caV p0 p1) = 1
      · have q1 := (caV_bc p0 p1).mp c1
        have nq : ¬ (s0 || s1 || (p0 == p1)) = true := by rw [q0, q1]; decide
        rw [if_neg nq] at hP
        rw [gW_ift c1]
        by_cases c2 : caV p0 p1 = 1
        · obtain ⟨q2, q3⟩ := (caV_1' p0 p1).mp c2
          subst q2
          subst q3
          rw [if_pos rfl] at hP
          rw [gW_ift c2]
          show gW (f_X1_car_181 (f_X1_car_46 N) x (x + 28 + 15 + a) (x + 28 + 15 + c) (caV true false) (iN s) (iN 1)) _ _
          refine c_car_181 C2 hc (by decide) (Or.inr ⟨rfl, rfl⟩) (fun j3 S4 C3 b6 b7 => ?_)
          rw [b3] at b6 ⊢
          have ev : (caV true false ||| if V (41 + 4 * c + 1) < r1 + V 6 then (1 : Int32) <<< (iN 1 &&& 31) else 0) = caV true (decide (V (41 + 4 * c + 1) < r1 + V 6)) := by
            by_cases d : V (41 + 4 * c + 1) < r1 + V 6
            · rw [if_pos d, decide_eq_true d]; decide
            · rw [if_neg d, decide_eq_false d]; decide
          rw [ev]
          exact ih (s + 1) N (r0, r1 + V 6, true, decide (V (41 + 4 * c + 1) < r1 + V 6)) j3 (by omega) (by omega) (S3.tr S4) C3 ((b7 0 (by decide)).trans b5) b6 hP
        · have q2 : p0 = false ∧ p1 = true := by
            revert c2 q1
            cases p0 <;> cases p1 <;> decide
          obtain ⟨q2, q3⟩ := q2
          subst q2
          subst q3
          rw [if_neg (by decide)] at hP
          rw [gW_iff c2]
          show gW (f_X1_car_181 (f_X1_car_46 N) x (x + 28 + 15 + a) (x + 28 + 15 + c) (caV false true) (iN s) (iN 0)) _ _
          refine c_car_181 C2 ha (by decide) (Or.inl ⟨rfl, rfl⟩) (fun j3 S4 C3 b6 b7 => ?_)
          rw [b5] at b6 ⊢
          have ev : (caV false true ||| if V (41 + 4 * a + 1) < r0 + V 6 then (1 : Int32) <<< (iN 0 &&& 31) else 0) = caV (decide (V (41 + 4 * a + 1) < r0 + V 6)) true := by
            by_cases d : V (41 + 4 * a + 1) < r0 + V 6
            · rw [if_pos d, decide_eq_true d]; decide
            · rw [if_neg d, decide_eq_false d]; decide
          rw [ev]
          exact ih (s + 1) N (r0 + V 6, r1, decide (V (41 + 4 * a + 1) < r0 + V 6), true) j3 (by omega) (by omega) (S3.tr S4) C3 b6 ((b7 1 (by decide)).trans b3) hP
      · rw [gW_iff c1]
        refine stop ?_
        have : (p0 == p1) = true := by
          cases hq : (p0 == p1)
          · exact absurd ((caV_bc p0 p1).mpr hq) c1
          · rfl
        rw [this, Bool.or_true]
    · rw [gW_iff c0]
      refine stop ?_
      have : (s0 || s1) = true := by
        cases hq : (s0 || s1)
        · exact absurd ((caV_z s0 s1).mpr hq) c0
        · rfl
      rw [this, Bool.true_or]
/-! the model -/
theorem m_screams (hM : MI x iv u V pn on L) {o : Nat} (ho : o < on) {y : Int32} {P : Int32 → g_H → Prop} : gW (f_X8_screams (x + 353) (iN o) y) (iv, u) P ↔ P (bI (V (41 + 4 * o + 1) < y)) (iv, u) := by
  have H := hM.M
  have h6 := hM.o6
  unfold f_X8_screams f_X8_screams_15
  rw [gW_B, rMc H, gW_B, w_of1 H (by omega), hM.vE]
  by_cases c : y ≤ V (41 + 4 * o + 1)
  · rw [gW_ift c, gW_gd1 (Or.inl rfl), bI_f (Int32.not_lt.mpr c)]
  · rw [gW_iff c, gW_gd1 (Or.inr rfl), bI_t (Int32.not_le.mp c)]
theorem m_carStep (hM : MI x iv u V pn on L) {o s : Nat} (ho : o < on) {y : Int32} {P : Int32 → g_H → Prop} (hP : ∀ kv : gV, Sm x iv kv → MI x kv u V pn on L → (∀ k : Nat, 30 < k → kv (x + 353) k = iv (x + 353) k) → P (bO V pn L o s y 1) (kv, u)) : gW (f_X8_carStep (x + 353) (iN o) (iN s) y) (iv, u) P := by
  have H := hM.M
  have h8 := hM.p8
  unfold f_X8_carStep f_X8_carStep_37
  rw [gW_B, rMc H, gW_B]
  refine m_looksAt hM ho (fun j1 hS hM2 hk ha e18 e19 e20 => ?_)
  rw [gW_B, rMc H, gW_B, w_propIn H hM2.pN h8, hM2.vE]
  rcases sIn_or V pn (iN s) with e | ⟨p, hp, e, -⟩
  · rw [gW_ift e, gW_B, rMc H, gW_B, w_calmer H, gW_ret, hM2.vE]
    have := hP j1 hS hM2 (fun k hk2 => hk k (by omega) (by omega) (by omega))
    unfold bO bS at this
    rw [if_pos e] at this
    exact this
  · have ne : ¬ sIn V pn (iN s) = -1 := by rw [e]; exact iN_eqm (by omega)
    rw [gW_iff ne, gW_B, rMc H, gW_B, e]
    refine w_frightsBy H (by omega) hM2.mL (fun st => ?_)
    rw [gW_ret, hM2.vE, e18, e19, e20]
    have S2 : Sm x j1 (va_up (g_u2 (g_u2 j1 (x + 353) 21 (iN p)) (x + 353) 22 y) (x + 353 + 8) st) := (Sm.um (by omega)).tr ((Sm.um (by omega)).tr (Sm.up (by omega)))
    have := hP _ (hS.tr S2) (hM2.fr S2.S) (fun k hk2 => by rw [va_up_ne _ _ (by omega), g_u2_self, va_up_ne _ _ (by omega), g_u2_self, va_up_ne _ _ (by omega)]; exact hk k (by omega) (by omega) (by omega))
    unfold bO bS at this
    rw [if_neg ne, e, iN_c (by omega)] at this
    exact this
theorem m_car_103 {a c : Nat} (ha : a < on) (hc : c < on) {k s : Nat} {r0 r1 : Int32} {s0 s1 : Bool} {k69 : Nat → Int32 → Int32 → Int32 → Int32 → gM Int32} {P : Int32 → g_H → Prop} (hM : MI x jv u V pn on L) (e0 : jv (x + 353) 31 = r0) (e1 : jv (x + 353) 32 = r1)
    (hP : ∀ kv : gV, Sm x jv kv → MI x kv u V pn on L → ∀ w : Int32 × Int32 × Bool × Bool, w = (if (s0 || s1 || ((s0 || decide (V (41 + 4 * a + 1) < r0)) == (s1 || decide (V (41 + 4 * c + 1) < r1)))) = true then (r0, r1, (s0 || decide (V (41 + 4 * a + 1) < r0)), (s1 || decide (V (41 + 4 * c + 1) < r1))) else if (s0 || decide (V (41 + 4 * a + 1) < r0)) = true then (r0, r1 + V 6, true, decide (V (41 + 4 * c + 1) < r1 + V 6)) else (r0 + V 6, r1, decide (V (41 + 4 * a + 1) < r0 + V 6), true)) → kv (x + 353) 31 = w.1 → kv (x + 353) 32 = w.2.1 → gW (k69 (x + 353) (iN a) (iN c) (caV w.2.2.1 w.2.2.2) (iN (s + 1))) (kv, u) P) : gW (f_X8_car_127 k69 (x + 353) (iN a) (iN c) (caV s0 s1) (iN s) (caV s0 s1)) (jv, u) P := by
  have H := hM.M
  -- the end
  have end3 : ∀ (u1 u2 : Int32) (p0 p1 : Bool), p0 = (s0 || decide (V (41 + 4 * a + 1) < r0)) → p1 = (s1 || decide (V (41 + 4 * c + 1) < r1)) → (caV s0 s1 ||| (u1 ||| u2)) = caV p0 p1 → gW (f_X8_car_180 k69 (x + 353) (iN a) (iN c) (iN s) (caV s0 s1) (caV s0 s1) u1 u2) (jv, u) P := by
    intro u1 u2 p0 p1 hp0 hp1 hv
    rw [← hp0, ← hp1] at hP
    unfold f_X8_car_180 f_X8_car_278
    rw [hv, iNp1]
    have stop : (s0 || s1 || (p0 == p1)) = true → gW (k69 (x + 353) (iN a) (iN c) (caV p0 p1) (iN (s + 1))) (jv, u) P := by
      intro hq
      have := hP jv Sm.rf hM (r0, r1, p0, p1) (by rw [if_pos hq]) e0 e1
      exact this
    by_cases c0 : caV s0 s1 = 0
    · have q0 := (caV_z s0 s1).mp c0
      rw [gW_ift c0]
      by_cases c1 : caV p0 p1 = 0
      · rw [gW_ift c1]
        refine stop ?_
        have := (caV_z p0 p1).mp c1
        revert this
        rw [q0]
        cases p0 <;> cases p1 <;> decide
      · rw [gW_iff c1]
        by_cases c2 : caV p0 p1 = 3
        · rw [gW_ift c2]
          refine stop ?_
          have := (caV_3 p0 p1).mp c2
          rw [this.1, this.2]
          cases s0 <;> cases s1 <;> decide
        · rw [gW_iff c2]
          unfold f_X8_car_240 f_X8_car_258 f_X8_car_275 f_X8_car_278
          by_cases c3 : caV p0 p1 = 1
          · obtain ⟨q2, q3⟩ := (caV_1' p0 p1).mp c3
            have hs0 : s0 = false := by revert q0; cases s0 <;> cases s1 <;> decide
            have l0 : V (41 + 4 * a + 1) < r0 := by
              rw [q2, hs0, Bool.false_or] at hp0
              exact of_decide_eq_true hp0.symm
            subst q2
            subst q3
            rw [gW_ift c3, gW_B, rMi H, e1, gW_B, rMr0 H, gW_B, rMA0_6 H, hM.vE, gW_B, rMp H]
            have S2 : Sm x jv (g_u2 jv (x + 353) 32 (r1 + V 6)) := Sm.um (by omega)
            have M2 := hM.fr S2.S
            have f0 : g_u2 jv (x + 353) 32 (r1 + V 6) (x + 353) 31 = r0 := by rw [g_u2_self, va_up_ne _ _ (by decide)]; exact e0
            have f1 : g_u2 jv (x + 353) 32 (r1 + V 6) (x + 353) 32 = r1 + V 6 := by rw [g_u2_self, va_up_self]
            have key := hP _ S2 M2 (r0, r1 + V 6, true, decide (V (41 + 4 * c + 1) < r1 + V 6)) (by rw [if_neg (by rw [q0]; decide), if_pos rfl]) f0 f1
            rw [gW_B, rMi H, f0, gW_B, rMc H, gW_B, m_screams M2 ha, bI_t l0, gW_iff (by decide), gW_B, rMi H, f1, gW_B, rMc H, gW_B, m_screams M2 hc]
            by_cases d : V (41 + 4 * c + 1) < r1 + V 6
            · rw [decide_eq_true d] at key
              rw [bI_t d, gW_iff (by decide), iNp1]
              exact key
            · rw [decide_eq_false d] at key
              rw [bI_f d, gW_ift rfl, iNp1]
              exact key
          · have q2 : p0 = false ∧ p1 = true := by
              revert c1 c2 c3
              cases p0 <;> cases p1 <;> decide
            obtain ⟨q2, q3⟩ := q2
            have hs1 : s1 = false := by revert q0; cases s0 <;> cases s1 <;> decide
            have l1 : V (41 + 4 * c + 1) < r1 := by
              rw [q3, hs1, Bool.false_or] at hp1
              exact of_decide_eq_true hp1.symm
            subst q2
            subst q3
            rw [gW_iff c3, gW_B, rMi H, e0, gW_B, rMr0 H, gW_B, rMA0_6 H, hM.vE, gW_B, rMp H]
            have S2 : Sm x jv (g_u2 jv (x + 353) 31 (r0 + V 6)) := Sm.um (by omega)
            have M2 := hM.fr S2.S
            have f0 : g_u2 jv (x + 353) 31 (r0 + V 6) (x + 353) 31 = r0 + V 6 := by rw [g_u2_self, va_up_self]
            have f1 : g_u2 jv (x + 353) 31 (r0 + V 6) (x + 353) 32 = r1 := by rw [g_u2_self, va_up_ne _ _ (by decide)]; exact e1
            have key := hP _ S2 M2 (r0 + V 6, r1, decide (V (41 + 4 * a + 1) < r0 + V 6), true) (by rw [if_neg (by rw [q0]; decide), if_neg (by decide)]) f0 f1
            rw [gW_B, rMi H, f0, gW_B, rMc H, gW_B, m_screams M2 ha]
            by_cases d : V (41 + 4 * a + 1) < r0 + V 6
            · rw [decide_eq_true d] at key
              rw [bI_t d, gW_iff (by decide), gW_B, rMi H, f1, gW_B, rMc H, gW_B, m_screams M2 hc, bI_t l1, gW_iff (by decide), iNp1]
              exact key
            · rw [decide_eq_false d] at key
              rw [bI_f d, gW_ift rfl, gW_B, rMi H, f1, gW_B, rMc H, gW_B, m_screams M2 hc, bI_t l1, gW_iff (by decide), iNp1]
              exact key
    · rw [gW_iff c0]
      refine stop ?_
      have : (s0 || s1) = true := by
        cases hq : (s0 || s1)
        · exact absurd ((caV_z s0 s1).mpr hq) c0
        · rfl
      rw [this, Bool.true_or]
  have end2 : ∀ (u1 : Int32) (p0 : Bool), p0 = (s0 || decide (V (41 + 4 * a + 1) < r0)) → (u1 = if s0 = false ∧ p0 = true then 1 else 0) → gW (f_X8_car_154 k69 (x + 353) (iN a) (iN c) (iN s) (caV s0 s1) (caV s0 s1) u1) (jv, u) P := by
    intro u1 p0 hp0 hu
    unfold f_X8_car_154 f_X8_car_179
    rw [gW_B]
    show gW (f_X8_has (caV s0 s1) (iN 1)) _ _
    rw [w_has, bI_c (caV_b1 s0 s1)]
    have val : ∀ p : Bool, (caV s0 s1 ||| (u1 ||| (if s1 = false ∧ p = true then 2 else 0))) = caV p0 (s1 || p) := by
      intro p
      rw [hu]
      have : p0 = (s0 || p0) := by rw [hp0]; cases s0 <;> cases decide (V (41 + 4 * a + 1) < r0) <;> decide
      revert this
      cases s0 <;> cases s1 <;> cases p0 <;> cases p <;> decide
    by_cases c1 : s1 = true
    · rw [bI_t c1, gW_iff (by decide)]
      refine end3 u1 0 p0 s1 hp0 (by rw [c1, Bool.true_or]) ?_
      have := val false
      rw [if_neg (fun q => absurd q.2 (by decide)), Bool.or_false] at this
      exact this
    · have c1f : s1 = false := by
        cases s1
        · rfl
        · exact absurd rfl c1
      rw [bI_f c1, gW_ift rfl, gW_B, rMi H, e1, gW_B, rMc H, gW_B, m_screams hM hc]
      by_cases d : V (41 + 4 * c + 1) < r1
      · rw [bI_t d, gW_iff (by decide)]
        refine end3 u1 2 p0 (s1 || true) hp0 (by rw [decide_eq_true d]) ?_
        have := val true
        rw [if_pos ⟨c1f, rfl⟩] at this
        exact this
      · rw [bI_f d, gW_ift rfl]
        refine end3 u1 0 p0 (s1 || false) hp0 (by rw [decide_eq_false d]) ?_
        have := val false
        rw [if_neg (fun q => absurd q.2 (by decide))] at this
        exact this
  unfold f_X8_car_127 f_X8_car_153
  rw [gW_B]
  show gW (f_X8_has (caV s0 s1) (iN 0)) _ _
  rw [w_has, bI_c (caV_b0 s0 s1)]
  by_cases c1 : s0 = true
  · rw [bI_t c1, gW_iff (by decide)]
    exact end2 0 s0 (by rw [c1, Bool.true_or]) (by rw [if_neg (fun q => by rw [c1] at q; exact absurd q.1 (by decide))])
  · have c1f : s0 = false := by
      cases s0
      · rfl
      · exact absurd rfl c1
    rw [bI_f c1, gW_ift rfl, gW_B, rMi H, e0, gW_B, rMc H, gW_B, m_screams hM ha]
    by_cases d : V (41 + 4 * a + 1) < r0
    · rw [bI_t d, gW_iff (by decide)]
      exact end2 1 true (by rw [decide_eq_true d, Bool.or_true]) (by rw [if_pos ⟨c1f, rfl⟩])
    · rw [bI_f d, gW_ift rfl]
      exact end2 0 false (by rw [decide_eq_false d, c1f]; rfl) (by rw [if_neg (fun q => absurd q.2 (by decide))])
theorem m_car_69 {a c : Nat} (ha : a < on) (hc : c < on) {P : Int32 → g_H → Prop} : ∀ (k s N : Nat) (z : Int32 × Int32 × Bool × Bool) (jv : gV), s + k = 10 → k < N → Sm x iv jv → MI x jv u V pn on L → jv (x + 353) 31 = z.1 → jv (x + 353) 32 = z.2.1 → (∀ kv : gV, Sm x iv kv → P (caV (caF V pn L a c k s z).2.2.1 (caF V pn L a c k s z).2.2.2) (kv, u)) → gW (f_X8_car_69 N (x + 353) (iN a) (iN c) (caV z.2.2.1 z.2.2.2) (iN s)) (jv, u) P := by
  intro k
  induction k with
  | zero =>
    intro s N z jv h1 h2 hS hM e0 e1 hP
    obtain ⟨N, rfl⟩ : ∃ N', N = N' + 1 := ⟨N - 1, by omega⟩
    have : s = 10 := by omega
    subst this
    unfold f_X8_car_69 f_X8_car_284
    rw [gW_ift (by decide), gW_ret]
    exact hP jv hS
  | succ k ih =>
    intro s N z jv h1 h2 hS hM e0 e1 hP
    obtain ⟨N, rfl⟩ : ∃ N', N = N' + 1 := ⟨N - 1, by omega⟩
    obtain ⟨t0, t1, s0, s1⟩ := z
    have e0 : jv (x + 353) 31 = t0 := e0
    have e1 : jv (x + 353) 32 = t1 := e1
    have H := hM.M
    rw [caF] at hP
    rw [f_X8_car_69, gW_iff (by rw [show (10 : Int32) = iN 10 from rfl, iN_le (by omega) (by omega)]; omega), gW_B]
    have step2 : ∀ (r0 : Int32) (j1 : gV), r0 = (if s0 = true then t0 else bO V pn L a s t0 1) → Sm x jv j1 → MI x j1 u V pn on L → j1 (x + 353) 31 = r0 → j1 (x + 353) 32 = t1 → gW (f_X8_car_103 (f_X8_car_69 N) (x + 353) (iN a) (iN c) (caV s0 s1) (iN s) (caV s0 s1)) (j1, u) P := by
      intro r0 j1 hr0 S1 M1 f0 f1
      have step3 : ∀ (r1 : Int32) (j2 : gV), r1 = (if s1 = true then t1 else bO V pn L c s t1 1) → Sm x j1 j2 → MI x j2 u V pn on L → j2 (x + 353) 31 = r0 → j2 (x + 353) 32 = r1 → gW (f_X8_car_127 (f_X8_car_69 N) (x + 353) (iN a) (iN c) (caV s0 s1) (iN s) (caV s0 s1)) (j2, u) P := by
        intro r1 j2 hr1 S2 M2 g0 g1
        refine m_car_103 ha hc M2 g0 g1 (k := k) (fun j3 S3 M3 w hw i0 i1 => ?_)
        refine ih (s + 1) N w j3 (by omega) (by omega) (((hS.tr S1).tr S2).tr S3) M3 i0 i1 ?_
        have : caS (fun y => bO V pn L a s y 1) (fun y => bO V pn L c s y 1) (V (41 + 4 * a + 1)) (V (41 + 4 * c + 1)) (V 6) (t0, t1, s0, s1) = w := by
          rw [hw]
          unfold caS
          simp only [← hr0, ← hr1]
        rw [← this]
        exact hP
      unfold f_X8_car_103
      rw [gW_B]
      show gW (f_X8_has (caV s0 s1) (iN 1)) _ _
      rw [w_has, bI_c (caV_b1 s0 s1)]
      by_cases c1 : s1 = true
      · rw [bI_t c1, gW_iff (by decide)]
        exact step3 t1 j1 (by rw [if_pos c1]) Sm.rf M1 f0 f1
      · rw [bI_f c1, gW_ift rfl, gW_B, rMi H, f1, gW_B, rMc H, gW_B]
        refine m_carStep M1 hc (fun j2 S2 M2 q2 => ?_)
        rw [gW_B, rMp H]
        have S3 : Sm x j2 (g_u2 j2 (x + 353) 32 (bO V pn L c s t1 1)) := Sm.um (by omega)
        exact step3 _ _ (by rw [if_neg c1]) (S2.tr S3) (M2.fr S3.S) (by rw [g_u2_self, va_up_ne _ _ (by decide), q2 31 (by decide)]; exact f0) (by rw [g_u2_self, va_up_self])
    show gW (f_X8_has (caV s0 s1) (iN 0)) _ _
    rw [w_has, bI_c (caV_b0 s0 s1)]
    by_cases c1 : s0 = true
    · rw [bI_t c1, gW_iff (by decide)]
      exact step2 t0 jv (by rw [if_pos c1]) Sm.rf hM e0 e1
    · rw [bI_f c1, gW_ift rfl, gW_B, rMi H, e0, gW_B, rMc H, gW_B]
      refine m_carStep hM ha (fun j2 S2 M2 q2 => ?_)
      rw [gW_B, rMp H]
      have S3 : Sm x j2 (g_u2 j2 (x + 353) 31 (bO V pn L a s t0 1)) := Sm.um (by omega)
      exact step2 _ _ (by rw [if_neg c1]) (S2.tr S3) (M2.fr S3.S) (by rw [g_u2_self, va_up_self]) (by rw [g_u2_self, va_up_ne _ _ (by decide), q2 32 (by decide)]; exact e1)
theorem o_car {a c : Int32} : gOp x z b n t (f_X0_car x a c (x + 369)) (f_X8_car (x + 353) a c) := by
  intro iv u hR
  obtain ⟨pn, on, rm, L, hC, hM, h1⟩ := hR.get
  have HX := hC.X
  have h6 := hC.o6
  unfold f_X0_car f_X1_car
  rw [gW_B, rXc HX, gW_B, gW_B, rXc HX, gW_T]
  by_cases ha : 0 ≤ a ∧ a ≤ iN on - 1
  · obtain ⟨p, hp, rfl⟩ := i_get (by omega) ha
    rw [w_oneAt_t hC hp]
    dsimp only
    rw [gW_B, rXc HX, gW_T]
    by_cases hc : 0 ≤ c ∧ c ≤ iN on - 1
    · obtain ⟨o, ho, rfl⟩ := i_get (by omega) hc
      rw [w_oneAt_t hC ho]
      dsimp only
      unfold f_X1_car_23
      by_cases e : iN p = iN o
      · rw [gW_ift e, gW_T]
        refine w_must_f rfl (fun a' jv v hT => ?_)
        show gW (gIf ((17 : Nat) = 19) (gRet 1) (gIf ((17 : Nat) = 17) (gRet 2) gFail)) (jv, v) _
        rw [gW_iff (by decide), gW_ift rfl, gW_ret]
        refine op_thr hR hT (by decide) ?_
        unfold f_X8_car f_X8_car_27 f_X8_car_45 f_X8_car_52
        refine m_z (hM.th hR.nx hT) (fun lv z1 z2 z3 hM2 => ?_)
        have H := hM2.M
        rw [gW_B, rMc H, gW_B, m_noOne_t hM2 hp, gW_ift rfl, gW_B, rMc H, gW_B, m_noOne_t hM2 ho, gW_ift rfl, gW_B, rMc H, gW_B, m_thr0, gW_ift rfl, gW_ift e, gW_B, rMc H, gW_B, m_thr1 H, gW_iff (by decide), gW_ret]
        exact m_te z1
      · rw [gW_iff e, gW_T, w_must_t rfl]
        dsimp only
        rw [gW_B, rXr7 HX, gW_B]
        show gW (gSI (x + 97) 0 (iN 0) (0 : Int32)) _ _
        rw [rXs97 HX (by decide), gW_B, rXr7 HX, gW_B]
        show gW (gSI (x + 97) 0 (iN 1) (0 : Int32)) _ _
        rw [rXs97 HX (by decide)]
        have S1 : Sx x iv (g_u2 (g_u2 iv (x + 97) 0 0) (x + 97) 1 0) := (Sx.u2 (by omega)).tr (Sx.u2 (by omega))
        show gW (f_X1_car_46 gN x (x + 28 + 15 + p) (x + 28 + 15 + o) (caV false false) (iN 0)) _ _
        refine c_car_46 hp ho 10 0 gN (0, 0, false, false) _ (by omega) (by rw [gN_eq]; omega) S1 (hC.fr S1) (by rw [g_u2_self, va_up_ne _ _ (by decide), g_u2_self, va_up_self]) (by rw [g_u2_self, va_up_self]) (fun kv hS => ?_)
        show gW (gB (gSI (x + 369) 2 (0 : Int32) _) _) _ _
        rw [gW_B]
        simp only [gW_ret]
        refine op_end hR hS (fun kv hS hk => ?_)
        unfold f_X8_car f_X8_car_27 f_X8_car_45
        refine m_z (hM.fr hS) (fun lv z1 z2 z3 hM2 => ?_)
        have H := hM2.M
        rw [gW_B, rMc H, gW_B, m_noOne_t hM2 hp, gW_ift rfl, gW_B, rMc H, gW_B, m_noOne_t hM2 ho, gW_ift rfl, gW_B, rMc H, gW_B, m_thr0, gW_ift rfl, gW_iff e, gW_B, rMc H, gW_B, m_thr0, gW_ift rfl, gW_B, rMp H, gW_B, rMp H]
        have S2 : Sm x lv (g_u2 (g_u2 lv (x + 353) 31 0) (x + 353) 32 0) := (Sm.um (by omega)).tr (Sm.um (by omega))
        show gW (f_X8_car_69 gN (x + 353) (iN p) (iN o) (caV false false) (iN 0)) _ _
        exact m_car_69 hp ho 10 0 gN (0, 0, false, false) _ (by omega) (by rw [gN_eq]; omega) S2 (hM2.fr S2.S) (by rw [g_u2_self, va_up_ne _ _ (by decide), g_u2_self, va_up_self]) (by rw [g_u2_self, va_up_self]) (fun mv m1 => m_end z1 z2 z3 m1 rfl)
    · refine w_oneAt_f hC hc (fun a' jv v hT => ?_)
      show gW (gIf ((19 : Nat) = 19) (gRet 1) (gIf ((19 : Nat) = 17) (gRet 2) gFail)) (jv, v) _
      rw [gW_ift rfl, gW_ret]
      refine op_thr hR hT (by decide) ?_
      unfold f_X8_car f_X8_car_22 f_X8_car_27 f_X8_car_52
      refine m_z (hM.th hR.nx hT) (fun lv z1 z2 z3 hM2 => ?_)
      have H := hM2.M
      rw [gW_B, rMc H, gW_B, m_noOne_t hM2 hp, gW_ift rfl, gW_B, rMc H, gW_B, m_noOne_f hM2 hc, gW_iff (by decide), gW_B, rMc H, gW_B, m_thr1 H, gW_iff (by decide), gW_ret]
      exact m_te z1
  · refine w_oneAt_f hC ha (fun a' jv v hT => ?_)
    show gW (gIf ((19 : Nat) = 19) (gRet 1) (gIf ((19 : Nat) = 17) (gRet 2) gFail)) (jv, v) _
    rw [gW_ift rfl, gW_ret]
    refine op_thr hR hT (by decide) ?_
    unfold f_X8_car f_X8_car_22 f_X8_car_27 f_X8_car_52
    refine m_z (hM.th hR.nx hT) (fun lv z1 z2 z3 hM2 => ?_)
    have H := hM2.M
    rw [gW_B, rMc H, gW_B, m_noOne_f hM2 ha, gW_iff (by decide), gW_B, rMc H, gW_B, m_thr1 H, gW_iff (by decide), gW_ret]
    exact m_te z1
end CAR
