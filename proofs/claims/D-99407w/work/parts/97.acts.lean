/-! WHAT IS REMEMBERED, of both -/
section ACT
variable {iv jv kv lv : gV} {u v w : gU} {x z b n t q r : Nat} {pn on rm : Nat} {L : gLw}
theorem mL.h3 {W W' : Nat → Int32} {lm : Nat} {K N : Nat → Int32} {C : Nat → (Nat → Int32) → Bool} (h : mL W lm K N C) (hW : ∀ k : Nat, k = 3 ∨ 305 ≤ k → W' k = W k) : mL W' lm K N C := by
  have hW : ∀ k : Nat, k = 3 ∨ 305 ≤ k → W k = W' k := fun k hk => (hW k hk).symm
  rcases h with ⟨h1, h2⟩ | ⟨h1, h2, h3, h4⟩
  · exact Or.inl ⟨by rw [← hW 3 (Or.inl rfl)]; exact h1, h2⟩
  · refine Or.inr ⟨by rw [← hW 3 (Or.inl rfl)]; exact h1, by rw [← hW 305 (Or.inr (by decide))]; exact h2, h3, fun n hn => ?_⟩
    obtain ⟨a1, a2, b, f, a3, a4, a5, a6, a7⟩ := h4 n hn
    refine ⟨by rw [← hW _ (by omega)]; exact a1, by rw [← hW _ (by omega)]; exact a2, b, f, by rw [← hW _ (by omega)]; exact a3, by rw [← hW _ (by omega)]; exact a4, a5, a6, fun F st hF => ?_⟩
    obtain ⟨c1, c2⟩ := sRun_c (D := W) (D' := W') (F := F) (f - b) b (0, st) (fun j j1 j2 => hW j (by omega))
    rw [← c1, ← c2]
    exact a7 F st hF
/-- a law's lines stand at another State -/
theorem lwC.mv {b b' : Nat} {L : gLw} (h : lwC x iv u b L) (hK : Kx x iv u jv v) (h8 : jv b' 8 = iv b 8) (h3 : ∀ k : Nat, k < 12 → v.2.1 (b' + 3) k = u.2.1 (b + 3) k) : lwC x jv v b' L := by
  obtain ⟨⟨a1, a2, a3⟩, h2⟩ := h
  refine ⟨⟨a1, by rw [h8]; exact a2, fun k hk => ?_⟩, h2⟩
  obtain ⟨a, q1, q2, q3, q4⟩ := a3 k hk
  exact ⟨a, (h3 k (by omega)).trans q1, q2, by have := hK.2; omega, (q4.kp q2 q3 hK.1).mo (Nat.le_refl _) hK.2⟩
theorem cC.cw {t b : Nat} {W W' : Nat → Int32} (h : cC x t iv u b W pn on rm L) (hW : ∀ k : Nat, k < 305 → W' k = W k) : cC x t iv u b W' pn on rm L :=
  ⟨h.1.cw h.2.1.1.2.1 h.2.1.1.2.2.2 (fun k hk _ => hW k hk), h.2.1.cw (fun k hk _ => hW k hk) (by rw [hW 3 (by decide)]; exact h.2.1.2.2.2.2.2.2.2.2), h.2.2.1, h.2.2.2.1, by rw [hW 3 (by decide)]; exact h.2.2.2.2⟩
/-- as Sx, but for what acts lay -/
def Sy (x r : Nat) (iv jv : gV) : Prop := (∀ k : Nat, k ≠ 12 → k ≠ 13 → k ≠ 14 → k ≠ 15 → k ≠ 16 → jv x k = iv x k) ∧ jv (x + 1) 6 = iv (x + 1) 6 ∧ (∀ k : Nat, 1 < k → jv (x + 96) k = iv (x + 96) k) ∧ (∀ k : Nat, (k = 6 ∨ k = 9 ∨ k = 14 ∨ k = 23 ∨ k = 24) → jv (x + 353) k = iv (x + 353) k) ∧ ∀ a : Nat, (a ≠ x ∧ a ≠ x + 1 ∧ (a < x + 5 ∨ x + 48 < a) ∧ (a < x + 70 ∨ x + 91 ≤ a) ∧ (a < x + 92 ∨ x + 100 < a) ∧ (a < x + 101 + 21 * r ∨ x + 101 + 21 * r + 21 ≤ a) ∧ a ≠ x + 353 ∧ a ≠ x + 354 ∧ (a < x + 356 ∨ x + 369 < a ∨ a = x + 359)) → jv a = iv a
theorem Sy.rf : Sy x r iv iv := ⟨fun _ _ _ _ _ _ => rfl, rfl, fun _ _ => rfl, fun _ _ => rfl, fun _ _ => rfl⟩
theorem Sy.tr (h : Sy x r iv jv) (g : Sy x r jv kv) : Sy x r iv kv := ⟨fun k a b c d e => (g.1 k a b c d e).trans (h.1 k a b c d e), g.2.1.trans h.2.1, fun k a => (g.2.2.1 k a).trans (h.2.2.1 k a), fun k a => (g.2.2.2.1 k a).trans (h.2.2.2.1 k a), fun a q => (g.2.2.2.2 a q).trans (h.2.2.2.2 a q)⟩
theorem Sx.toY (h : Sx x iv jv) : Sy x r iv jv := ⟨fun k _ _ a b c => h.1 k a b c, h.2.1, h.2.2.1, fun k hk => h.2.2.2.1 k (by omega), fun a ha => h.a (by omega)⟩
theorem Sy.a (h : Sy x r iv jv) {a : Nat} (q : a ≠ x ∧ a ≠ x + 1 ∧ (a < x + 5 ∨ x + 48 < a) ∧ (a < x + 70 ∨ x + 91 ≤ a) ∧ (a < x + 92 ∨ x + 100 < a) ∧ (a < x + 101 + 21 * r ∨ x + 101 + 21 * r + 21 ≤ a) ∧ a ≠ x + 353 ∧ a ≠ x + 354 ∧ (a < x + 356 ∨ x + 369 < a ∨ a = x + 359)) : jv a = iv a := h.2.2.2.2 a q
/-- a write into what is now -/
theorem Sy.nw {a k : Nat} {y : Int32} (h : (x + 28 ≤ a ∧ a < x + 49) ∨ a = x + 354 ∨ a = x + 369) (hr : r < 12) : Sy x r iv (g_u2 iv a k y) := ⟨fun _ _ _ _ _ _ => by rw [g_u2_ne _ _ _ (by omega)], by rw [g_u2_ne _ _ _ (by omega)], fun _ _ => by rw [g_u2_ne _ _ _ (by omega)], fun _ _ => by rw [g_u2_ne _ _ _ (by omega)], fun c hc => g_u2_ne _ _ _ (by omega)⟩
/-- the component has remembered -/
def AB (x r q : Nat) (iv : gV) (u : gU) (pn on rm : Nat) (jv : gV) (v : gU) : Prop :=
  (jv x 12 = iN (min 12 (q + 1)) ∧ jv x 13 = iN ((r + 1) % 12) ∧ cSt jv (x + 101 + 21 * r) (iv (x + 354)) pn on rm ∧ jv (x + 101 + 21 * r) 8 = iv (x + 28) 8) ∧ XS v x ∧ MS v (x + 353) ∧ v.1 = u.1 ∧ (∀ a : Nat, a ≠ x + 101 + 21 * r + 3 → v.2.1 a = u.2.1 a) ∧ (∀ k : Nat, k < 12 → v.2.1 (x + 101 + 21 * r + 3) k = u.2.1 (x + 28 + 3) k) ∧ v.2.2 = u.2.2
theorem AB.kp (h : AB x r q iv u pn on rm jv v) (hpn : pn ≤ 8) (hon : on ≤ 6) (e12 : kv x 12 = jv x 12) (e13 : kv x 13 = jv x 13) (e : ∀ a : Nat, x + 101 + 21 * r ≤ a → a < x + 101 + 21 * r + 21 → kv a = jv a) : AB x r q iv u pn on rm kv v :=
  ⟨⟨e12.trans h.1.1, e13.trans h.1.2.1, h.1.2.2.1.fr hpn hon (fun k _ => by rw [e _ (Nat.le_refl _) (by omega)]) (fun a a1 a2 _ => e a (by omega) a2), by rw [e _ (Nat.le_refl _) (by omega)]; exact h.1.2.2.2⟩, h.2⟩
/-- the model has remembered -/
def MB (x q : Nat) (iv jv : gV) : Prop := jv (x + 353) 7 = iN (min 12 (q + 1)) ∧ (∀ k : Nat, k < 305 → jv (x + 358) (305 * (min 12 (q + 1) - 1) + k) = iv (x + 354) k) ∧ ∀ j : Nat, 1 ≤ j → j < min 12 (q + 1) → ∀ k : Nat, k < 305 → jv (x + 358) (305 * (min 12 (q + 1) - 1 - j) + k) = iv (x + 358) (305 * (q - j) + k)
theorem MB.kp (h : MB x q iv jv) (e7 : kv (x + 353) 7 = jv (x + 353) 7) (e : kv (x + 358) = jv (x + 358)) : MB x q iv kv := by
  unfold MB
  rw [e7, e]
  exact h
theorem act_end (hB : RB x z b n t iv u) (hT : RT x iv) (hI : RI x t iv u) (h1 : cC x t iv u (x + 28) (iv (x + 354)) pn on rm L) (h2 : mLL (iv (x + 354)) L) (hq : q ≤ 12) (hr : r < 12)
    (g6 : ∀ j : Nat, j < q → ∃ pn on rm : Nat, cC x t iv u (x + 101 + 21 * ((r + 11 - j) % 12)) (fun k => iv (x + 358) (305 * (q - 1 - j) + k)) pn on rm L ∧ iv (x + 358) (305 * (q - 1 - j) + 3) = iv (x + 354) 3)
    (hA : AB x r q iv u pn on rm jv v) (hM : MB x q iv jv) (hS : Sy x r iv jv) {pn' on' rm' : Nat} (n1 : cSt jv (x + 28) (jv (x + 354)) pn' on' rm') (n2 : WI (jv (x + 354)) pn' on') (n3 : rm' ≤ t + 1) (n8 : jv (x + 28) 8 = iv (x + 28) 8) (nV : ∀ k : Nat, k = 3 ∨ 305 ≤ k → jv (x + 354) k = iv (x + 354) k) : RR x z b n (t + 1) jv v := by
  obtain ⟨⟨a12, a13, aS, a8⟩, aX, aM, aU, aR, aR2, aE⟩ := hA
  have hx := hB.2.2.2.2.2.1
  have eE : v.2.2.2.1 = u.2.2.2.1 := by rw [aE]
  have hK : Kx x iv u jv v := ⟨fun a c1 c2 => ⟨hS.a (by omega), by rw [aU], aR a (by omega)⟩, Nat.le_of_eq eE.symm⟩
  refine ⟨hB.fr2 aX aM (by rw [aU]) (fun a ha => ⟨by rw [aU], aR a (by omega), hS.a (by omega)⟩) (by rw [aE]) (Nat.le_of_eq eE.symm) (by omega) (by rw [aE]; omega) (by rw [aE]; omega), ?_, ?_, pn', on', rm', L, ⟨n1, n2, n3, h1.2.2.2.1.fr2 hK n8 (aR _ (by omega)), ?_⟩, mL.h3 h2 nV, min 12 (q + 1), (r + 1) % 12, Nat.min_le_left _ _, Nat.mod_lt _ (by decide), a12, hM.1, a13, fun j hj => ?_⟩
  · obtain ⟨⟨m, m1, m2, m3, m4⟩, t2, t3, t4, t5, t6⟩ := hT
    refine ⟨⟨m, m1, by rw [hS.2.1]; exact m2, by rw [hS.2.2.2.1 9 (by omega)]; exact m3, fun k hk => by rw [hS.a (a := x + 2) (by omega), hS.a (a := x + 359) (by omega)]; exact m4 k hk⟩, ?_, ?_, ?_, ?_, ?_⟩
    · rw [hS.1 11 (by decide) (by decide) (by decide) (by decide) (by decide), hS.2.2.2.1 14 (by omega)]; exact t2
    · rw [hS.1 17 (by decide) (by decide) (by decide) (by decide) (by decide)]; exact t3
    · rw [hS.2.2.2.1 23 (by omega)]; exact t4
    · rw [hS.2.2.2.1 24 (by omega)]; exact t5
    · rw [hS.2.2.1 2 (by decide)]; exact t6
  · exact hI.fr2 hK (by omega) (hS.1 18 (by decide) (by decide) (by decide) (by decide) (by decide)) (hS.2.2.2.1 6 (by omega)) (hS.a (by omega)) (fun a c1 c2 => hS.a (by omega)) (aR _ (by omega))
  · rw [n8, nV 3 (Or.inl rfl)]; exact h1.2.2.2.2
  · have hj' : j < 12 := Nat.lt_of_lt_of_le hj (Nat.min_le_left _ _)
    by_cases j0 : j = 0
    · subst j0
      have es : ((r + 1) % 12 + 11 - 0) % 12 = r := by omega
      rw [es, Nat.sub_zero]
      refine ⟨pn, on, rm, ?_, ?_⟩
      · have c0 : cC x (t + 1) jv v (x + 101 + 21 * r) (iv (x + 354)) pn on rm L := ⟨aS, h1.2.1, by have := h1.2.2.1; omega, h1.2.2.2.1.mv hK a8 aR2, by rw [a8]; exact h1.2.2.2.2⟩
        exact c0.cw (fun k hk => hM.2.1 k hk)
      · rw [hM.2.1 3 (by decide), nV 3 (Or.inl rfl)]
    · have hj1 : j - 1 < q := by omega
      obtain ⟨p1, o1, r1, c1, c2⟩ := g6 (j - 1) hj1
      have es : ((r + 1) % 12 + 11 - j) % 12 = (r + 11 - (j - 1)) % 12 := by omega
      have en : (r + 11 - (j - 1)) % 12 ≠ r := by omega
      have eb : q - 1 - (j - 1) = q - j := by omega
      have lt : (r + 11 - (j - 1)) % 12 < 12 := Nat.mod_lt _ (by decide)
      rw [eb] at c1 c2
      rw [es]
      generalize (r + 11 - (j - 1)) % 12 = s at en lt c1 ⊢
      refine ⟨p1, o1, r1, ?_, ?_⟩
      · have c3 : cC x (t + 1) jv v (x + 101 + 21 * s) (fun k => iv (x + 358) (305 * (q - j) + k)) p1 o1 r1 L := c1.fr2 hK (by omega) (hS.a (by omega)) (fun a d1 d2 d3 => hS.a (by omega)) (aR _ (by omega))
        exact c3.cw (fun k hk => hM.2.2 j (by omega) hj k hk)
      · rw [hM.2.2 j (by omega) hj 3 (by decide), nV 3 (Or.inl rfl)]
        exact c2
/-! the component remembers -/
theorem mod12 : ∀ r : Nat, r < 12 → (iN r + 1) - (iN r + 1) / 12 * 12 = iN ((r + 1) % 12) := by decide +kernel
theorem min12 : ∀ q : Nat, q ≤ 12 → mN 12 (iN q + 1) = iN (min 12 (q + 1)) := by decide +kernel
theorem c_rem (HX : XS u x) (HM : MS u (x + 353)) (h1 : cSt iv (x + 28) (iv (x + 354)) pn on rm) (hW : WI (iv (x + 354)) pn on) (hq : q ≤ 12) (hr : r < 12) (e12 : iv x 12 = iN q) (e13 : iv x 13 = iN r) {P : Unit → g_H → Prop}
    (hP : ∀ (jv : gV) (v : gU), AB x r q iv u pn on rm jv v → (∀ k : Nat, k ≠ 12 → k ≠ 13 → jv x k = iv x k) → (∀ a : Nat, a ≠ x → (a < x + 101 + 21 * r ∨ x + 101 + 21 * r + 21 ≤ a) → jv a = iv a) → P () (jv, v)) : gW (f_X1_remembers x) (iv, u) P := by
  have s91 := HX.2.2.2.1.1
  have sk := (HX.2.2.1.2.2.2.2 r hr).1
  have sS := HX.ac hr
  unfold f_X1_remembers
  rw [gW_B, rXr4 HX, gW_B, rXi HX, e13, gW_B, gW_AR s91 rfl hr (by decide) sk, gW_B, rXr1 HX, gW_B, rSc sS, gW_B]
  refine w_be sS HX.nw (Or.inr (by omega)) h1 hW.1 (fun j1 b1 b2 b3 => ?_)
  have s3 : u.1 (x + 101 + 21 * r + 3) = some (.inl (6, 12)) := (sS.2.1 2 (by decide)).2
  have H1 := HX.rv (f := va_cpy (u.2.1 (x + 28 + 3)) (u.2.1 (x + 101 + 21 * r + 3)) 0 0 12) s3
  have M1 := HM.rv (f := va_cpy (u.2.1 (x + 28 + 3)) (u.2.1 (x + 101 + 21 * r + 3)) 0 0 12) s3
  have f13 : j1 x 13 = iN r := by rw [b3 x (Or.inl (by omega))]; exact e13
  have f12 : j1 x 12 = iN q := by rw [b3 x (Or.inl (by omega))]; exact e12
  have ex : g_u2 (g_u2 j1 x 13 (iN ((r + 1) % 12))) x 12 (iN (min 12 (q + 1))) x = va_up (va_up (j1 x) 13 (iN ((r + 1) % 12))) 12 (iN (min 12 (q + 1))) := by rw [g_u2_self, g_u2_self]
  have ea : ∀ a : Nat, a ≠ x → g_u2 (g_u2 j1 x 13 (iN ((r + 1) % 12))) x 12 (iN (min 12 (q + 1))) a = j1 a := fun a ha => by rw [g_u2_ne _ _ _ ha, g_u2_ne _ _ _ ha]
  rw [gW_B, rXi H1, f13, gW_B, rXp H1, mod12 r hr, gW_B, rXi H1, g_u2_self, va_up_ne _ _ (by decide), f12, gW_B, w_min, min12 q hq, gW_B, rXp H1, gW_ret]
  refine hP _ _ ⟨⟨?_, ?_, b1.fr hW.1.2.1 hW.1.2.2.2 (fun k _ => by rw [ea _ (by omega)]) (fun a a1 a2 _ => ea a (by omega)), by rw [ea _ (by omega)]; exact b2⟩, H1, M1, rfl, fun a ha => va_up_ne _ _ ha, fun k hk => ?_, rfl⟩ (fun k k1 k2 => ?_) (fun a a1 a2 => ?_)
  · rw [ex, va_up_self]
  · rw [ex, va_up_ne _ _ (by decide), va_up_self]
  · show va_up u.2.1 _ _ _ k = _
    rw [va_up_self]
    exact va_cpy_at hk
  · rw [ex, va_up_ne _ _ k1, va_up_ne _ _ k2, b3 x (Or.inl (by omega))]
  · rw [ea a a1, b3 a a2]
/-! the model remembers -/
theorem w_rem_55 (H : MS u (x + 353)) {m : Nat} (hm : 1 ≤ m ∧ m ≤ 12) {P : Unit → g_H → Prop} : ∀ (k i n : Nat) (jv : gV), i + k = 305 → k < n → jv (x + 353) 7 = iN m → (∀ kv : gV, (∀ a : Nat, a ≠ x + 353 + 5 → kv a = jv a) → (∀ j : Nat, (j < 305 * (m - 1) + i ∨ 305 * m ≤ j) → kv (x + 353 + 5) j = jv (x + 353 + 5) j) → (∀ j : Nat, i ≤ j → j < 305 → kv (x + 353 + 5) (305 * (m - 1) + j) = jv (x + 353 + 1) j) → P () (kv, u)) → gW (f_X8_remembers_55 n (x + 353) (iN i)) (jv, u) P := by
  intro k
  induction k with
  | zero =>
    intro i n jv h1 h2 h7 hP
    obtain ⟨n, rfl⟩ : ∃ n', n = n' + 1 := ⟨n - 1, by omega⟩
    have : i = 305 := by omega
    subst this
    rw [f_X8_remembers_55, gW_ift (by decide), gW_ret]
    exact hP jv (fun _ _ => rfl) (fun _ _ => rfl) (fun j j1 j2 => by omega)
  | succ k ih =>
    intro i n jv h1 h2 h7 hP
    obtain ⟨n, rfl⟩ : ∃ n', n = n' + 1 := ⟨n - 1, by omega⟩
    rw [f_X8_remembers_55, gW_iff (by rw [show (305 : Int32) = iN 305 from rfl, iN_le (by omega) (by omega)]; omega), gW_B, rMr4 H, gW_B, rMi H, h7, gW_B, rMr0 H, gW_B, rMa0 H (by omega), gW_B, iNs1 hm.1, iNm305, iN_add, rMs4 H (by omega), iNp1]
    refine ih (i + 1) n _ (by omega) (by omega) (by rw [g_u2_ne _ _ _ (by omega)]; exact h7) (fun kv g1 g2 g3 => hP kv (fun a ha => by rw [g1 a ha, g_u2_ne _ _ _ ha]) (fun j hj => ?_) (fun j j1 j2 => ?_))
    · rw [g2 j (by omega), g_u2_self, va_up_ne _ _ (by omega)]
    · by_cases e' : j = i
      · subst e'
        rw [g2 _ (by omega), g_u2_self, va_up_self]
      · rw [g3 j (by omega) j2, g_u2_ne _ _ _ (by omega)]
theorem w_rem_11 (H : MS u (x + 353)) {P : Unit → g_H → Prop} : ∀ (k i n : Nat) (jv : gV), i + k = 3355 → k < n → (∀ kv : gV, (∀ a : Nat, a ≠ x + 353 + 5 → kv a = jv a) → (∀ j : Nat, i ≤ j → j < 3355 → kv (x + 353 + 5) j = jv (x + 353 + 5) (j + 305)) → (∀ j : Nat, j < i → kv (x + 353 + 5) j = jv (x + 353 + 5) j) → gW (f_X8_remembers_40 (x + 353)) (kv, u) P) → gW (f_X8_remembers_11 n (x + 353) (iN i)) (jv, u) P := by
  intro k
  induction k with
  | zero =>
    intro i n jv h1 h2 hP
    obtain ⟨n, rfl⟩ : ∃ n', n = n' + 1 := ⟨n - 1, by omega⟩
    have : i = 3355 := by omega
    subst this
    rw [f_X8_remembers_11, gW_ift (by decide)]
    exact hP jv (fun _ _ => rfl) (fun j j1 j2 => by omega) (fun _ _ => rfl)
  | succ k ih =>
    intro i n jv h1 h2 hP
    obtain ⟨n, rfl⟩ : ∃ n', n = n' + 1 := ⟨n - 1, by omega⟩
    rw [f_X8_remembers_11, gW_iff (by rw [show (3355 : Int32) = iN 3355 from rfl, iN_le (by omega) (by omega)]; omega), gW_B, rMr4 H, gW_B, rMr4 H, gW_B, iNp305, rMa4 H (by omega), gW_B, rMs4 H (by omega), iNp1]
    refine ih (i + 1) n _ (by omega) (by omega) (fun kv g1 g2 g3 => hP kv (fun a ha => by rw [g1 a ha, g_u2_ne _ _ _ ha]) (fun j j1 j2 => ?_) (fun j hj => ?_))
    · by_cases e' : j = i
      · subst e'
        rw [g3 _ (by omega), g_u2_self, va_up_self]
      · rw [g2 j (by omega) j2, g_u2_self, va_up_ne _ _ (by omega)]
    · rw [g3 j (by omega), g_u2_self, va_up_ne _ _ (by omega)]
theorem m_rem (H : MS v (x + 353)) (hq : q ≤ 12) (e7 : jv (x + 353) 7 = iN q) (e1 : jv (x + 354) = iv (x + 354)) (e5 : jv (x + 358) = iv (x + 358)) {P : Unit → g_H → Prop} (hP : ∀ kv : gV, MB x q iv kv → (∀ k : Nat, k ≠ 7 → kv (x + 353) k = jv (x + 353) k) → (∀ a : Nat, a ≠ x + 353 → a ≠ x + 358 → kv a = jv a) → P () (kv, v)) : gW (f_X8_remembers (x + 353)) (jv, v) P := by
  unfold f_X8_remembers f_X8_remembers_53
  rw [gW_B, rMi H, e7]
  by_cases c : q = 12
  · subst c
    rw [gW_ift (show iN 12 = (12 : Int32) from rfl)]
    show gW (f_X8_remembers_11 gN (x + 353) (iN 0)) _ _
    refine w_rem_11 H 3355 0 gN jv (by omega) (by rw [gN_eq]; omega) (fun k1 a1 a2 a3 => ?_)
    unfold f_X8_remembers_40 f_X8_remembers_53
    show gW (f_X8_remembers_55 gN (x + 353) (iN 0)) _ _
    refine w_rem_55 (m := 12) H (by omega) 305 0 gN k1 (by omega) (by rw [gN_eq]; omega) (by rw [a1 _ (by omega)]; exact e7) (fun k2 b1 b2 b3 => ?_)
    refine hP k2 ⟨?_, fun k hk => ?_, fun j j1 j2 k hk => ?_⟩ (fun k hk => ?_) (fun a c1 c2 => ?_)
    · rw [b1 _ (by omega), a1 _ (by omega)]; exact e7
    · rw [← e1]
      have := b3 k (Nat.zero_le _) hk
      rw [a1 _ (by omega)] at this
      exact this
    · have j2 : j < 12 := j2
      have := b2 (305 * (11 - j) + k) (by omega)
      rw [show (x + 358) = x + 353 + 5 from rfl, show min 12 (12 + 1) - 1 - j = 11 - j from rfl, this, a2 _ (by omega) (by omega), show (x + 353 + 5) = x + 358 from rfl, e5, show 305 * (11 - j) + k + 305 = 305 * (12 - j) + k by omega]
    · rw [b1 _ (by omega), a1 _ (by omega)]
    · rw [b1 a c2, a1 a c2]
  · rw [gW_iff (by rw [show (12 : Int32) = iN 12 from rfl, iN_eq (by omega) (by omega)]; exact c), gW_B, rMi H, e7, gW_B, rMp H, iNp1]
    have em : min 12 (q + 1) = q + 1 := by omega
    show gW (f_X8_remembers_55 gN (x + 353) (iN 0)) _ _
    refine w_rem_55 (m := q + 1) H (by omega) 305 0 gN _ (by omega) (by rw [gN_eq]; omega) (by rw [g_u2_self, va_up_self]) (fun k2 b1 b2 b3 => ?_)
    refine hP k2 ⟨?_, fun k hk => ?_, fun j j1 j2 k hk => ?_⟩ (fun k hk => ?_) (fun a c1 c2 => ?_)
    · rw [b1 _ (by omega), em, g_u2_self, va_up_self]
    · rw [em, ← e1]
      have := b3 k (Nat.zero_le _) hk
      rw [g_u2_ne _ _ _ (by omega)] at this
      exact this
    · rw [em] at j2 ⊢
      have := b2 (305 * (q + 1 - 1 - j) + k) (by omega)
      rw [show (x + 358) = x + 353 + 5 from rfl, this, g_u2_ne _ _ _ (by omega), show (x + 353 + 5) = x + 358 from rfl, e5, show q + 1 - 1 - j = q - j by omega]
    · rw [b1 _ (by omega), g_u2_self, va_up_ne _ _ hk]
    · rw [b1 a c2, g_u2_ne _ _ _ c1]
end ACT
