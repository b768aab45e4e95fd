/-! WRITES INTO WHAT IS NOW -/
section AC2
variable {iv jv kv lv : gV} {u v w : gU} {x z b n t q r : Nat} {pn on rm : Nat} {L : gLw} {W : Nat → Int32}
theorem cSt.one {o f : Nat} {y : Int32} (h : cSt iv b W pn on rm) (hW : WI W pn on) (ho : o < on) (hf : f < 4) (e1 : jv (b + 15 + o) = va_up (iv (b + 15 + o)) f y) (e : ∀ a : Nat, b ≤ a → a < b + 21 → a ≠ b + 15 + o → jv a = iv a) : cSt jv b (va_up W (41 + 4 * o + f) y) pn on rm := by
  have h8 := hW.1.2.1
  have h6 := hW.1.2.2.2
  obtain ⟨⟨s1, s2, s3, s4, s5, s6, s7, s8⟩, sp, so, sl, sg, sr⟩ := h
  refine ⟨⟨?_, ?_, ?_, ?_, ?_, ?_, ?_, ?_⟩, fun p hp i hi => ?_, fun o' ho' i hi => ?_, fun s hs => ?_, ?_, fun a ha i hi => ?_⟩
  · rw [e b (Nat.le_refl _) (by omega) (by omega), va_up_ne _ _ (by omega)]; exact s1
  · rw [e b (Nat.le_refl _) (by omega) (by omega), va_up_ne _ _ (by omega)]; exact s2
  · rw [e b (Nat.le_refl _) (by omega) (by omega), va_up_ne _ _ (by omega)]; exact s3
  · rw [e b (Nat.le_refl _) (by omega) (by omega), va_up_ne _ _ (by omega)]; exact s4
  · rw [e b (Nat.le_refl _) (by omega) (by omega), va_up_ne _ _ (by omega)]; exact s5
  · rw [e b (Nat.le_refl _) (by omega) (by omega), va_up_ne _ _ (by omega)]; exact s6
  · rw [e b (Nat.le_refl _) (by omega) (by omega), va_up_ne _ _ (by omega)]; exact s7
  · rw [e b (Nat.le_refl _) (by omega) (by omega)]; exact s8
  · rw [e _ (by omega) (by omega) (by omega), va_up_ne _ _ (by omega)]; exact sp p hp i hi
  · by_cases eo : o' = o
    · subst eo
      rw [e1]
      by_cases ei : i = f
      · rw [ei, va_up_self, va_up_self]
      · rw [va_up_ne _ _ ei, va_up_ne _ _ (by omega)]; exact so o' ho' i hi
    · rw [e _ (by omega) (by omega) (by omega), va_up_ne _ _ (by omega)]; exact so o' ho' i hi
  · rw [e _ (by omega) (by omega) (by omega), sIn_c (fun p hp => va_up_ne _ _ (by omega))]; exact sl s hs
  · rw [va_up_ne _ _ (by omega)]; exact sg
  · rw [e _ (by omega) (by omega) (by omega), va_up_ne _ _ (by omega)]; exact sr a ha i hi
def yOk (f : Nat) (y : Int32) : Prop := (f = 2 → ∃ k : Nat, k < 256 ∧ y = iN k) ∧ (f = 3 → ∃ k : Nat, k < 4 ∧ y = iN k)
theorem WI.one {o f : Nat} {y : Int32} (h : WI W pn on) (ho : o < on) (hf : f = 2 ∨ f = 3) (hy : yOk f y) : WI (va_up W (41 + 4 * o + f) y) pn on := by
  have h8 := h.1.2.1
  obtain ⟨⟨a1, a2, a3, a4⟩, b, c, d, f1, f2, f3, f4, f5⟩ := h
  refine ⟨⟨by rw [va_up_ne _ _ (by omega)]; exact a1, a2, by rw [va_up_ne _ _ (by omega)]; exact a3, a4⟩, fun p hp => ?_, fun p q hp hq => ?_, fun o' ho' => ?_, ?_, ?_, ?_, ?_, ?_⟩
  · rw [va_up_ne _ _ (by omega), va_up_ne _ _ (by omega), va_up_ne _ _ (by omega), va_up_ne _ _ (by omega)]; exact b p hp
  · rw [va_up_ne _ _ (by omega), va_up_ne _ _ (by omega)]; exact c p q hp hq
  · obtain ⟨d0, d1, d2, d3⟩ := d o' ho'
    refine ⟨by rw [va_up_ne _ _ (by omega)]; exact d0, by rw [va_up_ne _ _ (by omega)]; exact d1, ?_, ?_⟩
    · by_cases ec : o' = o ∧ f = 2
      · rw [ec.1, ec.2, va_up_self]; exact hy.1 ec.2
      · rw [va_up_ne _ _ (by omega)]; exact d2
    · by_cases ec : o' = o ∧ f = 3
      · rw [ec.1, ec.2, va_up_self]; exact hy.2 ec.2
      · rw [va_up_ne _ _ (by omega)]; exact d3
  · rw [va_up_ne _ _ (by omega)]; exact f1
  · rw [va_up_ne _ _ (by omega)]; exact f2
  · rw [va_up_ne _ _ (by omega)]; exact f3
  · rw [va_up_ne _ _ (by omega)]; exact f4
  · rw [va_up_ne _ _ (by omega)]; exact f5
theorem cSt.prp {p f : Nat} {y : Int32} (h : cSt iv b W pn on rm) (hW : WI W pn on) (ho : p < pn) (hf : f < 3) (e1 : jv (b + 7 + p) = va_up (iv (b + 7 + p)) f y) (e : ∀ a : Nat, b ≤ a → a < b + 21 → a ≠ b + 7 + p → jv a = iv a) : cSt jv b (va_up W (9 + 4 * p + f) y) pn on rm := by
  have h8 := hW.1.2.1
  have h6 := hW.1.2.2.2
  obtain ⟨⟨s1, s2, s3, s4, s5, s6, s7, s8⟩, sp, so, sl, sg, sr⟩ := h
  refine ⟨⟨?_, ?_, ?_, ?_, ?_, ?_, ?_, ?_⟩, fun p' hp' i hi => ?_, fun o ho' i hi => ?_, fun s hs => ?_, ?_, fun a ha i hi => ?_⟩
  · rw [e b (Nat.le_refl _) (by omega) (by omega), va_up_ne _ _ (by omega)]; exact s1
  · rw [e b (Nat.le_refl _) (by omega) (by omega), va_up_ne _ _ (by omega)]; exact s2
  · rw [e b (Nat.le_refl _) (by omega) (by omega), va_up_ne _ _ (by omega)]; exact s3
  · rw [e b (Nat.le_refl _) (by omega) (by omega), va_up_ne _ _ (by omega)]; exact s4
  · rw [e b (Nat.le_refl _) (by omega) (by omega), va_up_ne _ _ (by omega)]; exact s5
  · rw [e b (Nat.le_refl _) (by omega) (by omega), va_up_ne _ _ (by omega)]; exact s6
  · rw [e b (Nat.le_refl _) (by omega) (by omega), va_up_ne _ _ (by omega)]; exact s7
  · rw [e b (Nat.le_refl _) (by omega) (by omega)]; exact s8
  · by_cases eo : p' = p
    · subst eo
      rw [e1]
      by_cases ei : i = f
      · rw [ei, va_up_self, va_up_self]
      · rw [va_up_ne _ _ ei, va_up_ne _ _ (by omega)]; exact sp p' hp' i hi
    · rw [e _ (by omega) (by omega) (by omega), va_up_ne _ _ (by omega)]; exact sp p' hp' i hi
  · rw [e _ (by omega) (by omega) (by omega), va_up_ne _ _ (by omega)]; exact so o ho' i hi
  · rw [e _ (by omega) (by omega) (by omega), sIn_c (fun p hp => va_up_ne _ _ (by omega))]; exact sl s hs
  · rw [va_up_ne _ _ (by omega)]; exact sg
  · rw [e _ (by omega) (by omega) (by omega), va_up_ne _ _ (by omega)]; exact sr a ha i hi
theorem WI.prp {p wn : Nat} (h : WI W pn on) (hp : p < pn) (hw : wn ≤ 99) : WI (va_up W (9 + 4 * p + 2) (iN wn)) pn on := by
  have h8 := h.1.2.1
  obtain ⟨⟨a1, a2, a3, a4⟩, b, c, d, f1, f2, f3, f4, f5⟩ := h
  refine ⟨⟨by rw [va_up_ne _ _ (by omega)]; exact a1, a2, by rw [va_up_ne _ _ (by omega)]; exact a3, a4⟩, fun p' hp' => ?_, fun p q hp hq => ?_, fun o' ho' => ?_, ?_, ?_, ?_, ?_, ?_⟩
  · obtain ⟨d3, d0, d1, d2⟩ := b p' hp'
    refine ⟨by rw [va_up_ne _ _ (by omega)]; exact d3, by rw [va_up_ne _ _ (by omega)]; exact d0, by rw [va_up_ne _ _ (by omega)]; exact d1, ?_⟩
    by_cases ec : p' = p
    · rw [ec, va_up_self]; exact ⟨wn, hw, rfl⟩
    · rw [va_up_ne _ _ (by omega)]; exact d2
  · rw [va_up_ne _ _ (by omega), va_up_ne _ _ (by omega)]; exact c p q hp hq
  · rw [va_up_ne _ _ (by omega), va_up_ne _ _ (by omega), va_up_ne _ _ (by omega), va_up_ne _ _ (by omega)]; exact d o' ho'
  · rw [va_up_ne _ _ (by omega)]; exact f1
  · rw [va_up_ne _ _ (by omega)]; exact f2
  · rw [va_up_ne _ _ (by omega)]; exact f3
  · rw [va_up_ne _ _ (by omega)]; exact f4
  · rw [va_up_ne _ _ (by omega)]; exact f5
/-- all parts of what both keep -/
theorem RR.all (hR : RR x z b n t iv u) : ∃ (pn on rm : Nat) (L : gLw) (q r : Nat), q ≤ 12 ∧ r < 12 ∧ iv x 12 = iN q ∧ iv (x + 353) 7 = iN q ∧ iv x 13 = iN r ∧ cC x t iv u (x + 28) (iv (x + 354)) pn on rm L ∧ mLL (iv (x + 354)) L ∧ (∀ j : Nat, j < q → ∃ pn on rm : Nat, cC x t iv u (x + 101 + 21 * ((r + 11 - j) % 12)) (fun k => iv (x + 358) (305 * (q - 1 - j) + k)) pn on rm L ∧ iv (x + 358) (305 * (q - 1 - j) + 3) = iv (x + 354) 3) ∧ CI x iv u (iv (x + 354)) pn on L ∧ MI x iv u (iv (x + 354)) pn on L := by
  obtain ⟨hB, hT, hI, pn, on, rm, L, h1, h2, q, r, hq, hr, g3, g4, g5, g6⟩ := hR
  exact ⟨pn, on, rm, L, q, r, hq, hr, g3, g4, g5, h1, h2, g6, ⟨hB.1, h1.1.toW h1.2.1, h1.2.1, h1.2.2.2.1, hB.2.2.2.2.2.1⟩, ⟨hB.2.1, rfl, h1.2.1, h2⟩⟩
/-- what stands when the component has remembered and written, and the model begins -/
theorem act_fin {j1 j2 j3 j4 j5 : gV} (hR : RR x z b n t iv u) (h1 : cC x t iv u (x + 28) (iv (x + 354)) pn on rm L) (h2 : mLL (iv (x + 354)) L) (hq : q ≤ 12) (hr : r < 12)
    (g6 : ∀ j : Nat, j < q → ∃ pn on rm : Nat, cC x t iv u (x + 101 + 21 * ((r + 11 - j) % 12)) (fun k => iv (x + 358) (305 * (q - 1 - j) + k)) pn on rm L ∧ iv (x + 358) (305 * (q - 1 - j) + 3) = iv (x + 354) 3)
    (hA : AB x r q iv u pn on rm j1 v) (hk : ∀ k : Nat, k ≠ 12 → k ≠ 13 → j1 x k = iv x k) (ha : ∀ a : Nat, a ≠ x → (a < x + 101 + 21 * r ∨ x + 101 + 21 * r + 21 ≤ a) → j1 a = iv a)
    (s2 : ∀ a : Nat, (a < x + 28 ∨ x + 49 ≤ a) → a ≠ x + 369 → j2 a = j1 a) (z1 : Sx x j2 j3) (z3 : ∀ a : Nat, a ≠ x + 353 → j3 a = j2 a)
    (m1 : MB x q iv j4) (m2 : ∀ k : Nat, k ≠ 7 → j4 (x + 353) k = j3 (x + 353) k) (m3 : ∀ a : Nat, a ≠ x + 353 → a ≠ x + 358 → j4 a = j3 a) (w : ∀ a : Nat, a ≠ x + 354 → j5 a = j4 a)
    {pn' on' rm' : Nat} (n1 : cSt j2 (x + 28) (j5 (x + 354)) pn' on' rm') (n2 : WI (j5 (x + 354)) pn' on') (n3 : rm' ≤ t + 1) (n8 : j2 (x + 28) 8 = j1 (x + 28) 8) (nV : ∀ k : Nat, k = 3 ∨ 305 ≤ k → j5 (x + 354) k = iv (x + 354) k) : RR x z b n (t + 1) j5 v := by
  have c52 : ∀ a : Nat, a ≠ x + 353 → a ≠ x + 354 → a ≠ x + 358 → j5 a = j2 a := fun a b1 b2 b3 => by rw [w a b2, m3 a b1 b3, z3 a b1]
  have c51 : ∀ a : Nat, a ≠ x + 353 → a ≠ x + 354 → a ≠ x + 358 → a ≠ x + 369 → (a < x + 28 ∨ x + 49 ≤ a) → j5 a = j1 a := fun a b1 b2 b3 b4 b5 => by rw [c52 a b1 b2 b3, s2 a b5 b4]
  have c5 : ∀ a : Nat, a ≠ x → a ≠ x + 353 → a ≠ x + 354 → a ≠ x + 358 → a ≠ x + 369 → (a < x + 28 ∨ x + 49 ≤ a) → (a < x + 101 + 21 * r ∨ x + 101 + 21 * r + 21 ≤ a) → j5 a = iv a := fun a b0 b1 b2 b3 b4 b5 b6 => by rw [c51 a b1 b2 b3 b4 b5, ha a b0 b6]
  refine act_end hR.1 hR.2.1 hR.2.2.1 h1 h2 hq hr g6 (hA.kp h1.2.1.1.2.1 h1.2.1.1.2.2.2 (by rw [c51 x (by omega) (by omega) (by omega) (by omega) (by omega)]) (by rw [c51 x (by omega) (by omega) (by omega) (by omega) (by omega)]) (fun a a1 a2 => c51 a (by omega) (by omega) (by omega) (by omega) (by omega))) (m1.kp (by rw [w _ (by omega)]) (w _ (by omega))) ⟨fun k k1 k2 _ _ _ => ?_, ?_, fun k _ => ?_, fun k hk => ?_, fun a hq => ?_⟩ (n1.fr n2.1.2.1 n2.1.2.2.2 (fun k _ => by rw [c52 _ (by omega) (by omega) (by omega)]) (fun a a1 a2 _ => c52 a (by omega) (by omega) (by omega))) n2 n3 (by rw [c52 _ (by omega) (by omega) (by omega), n8, ha _ (by omega) (by omega)]) nV
  · rw [c51 x (by omega) (by omega) (by omega) (by omega) (by omega)]; exact hk k k1 k2
  · rw [c5 (x + 1) (by omega) (by omega) (by omega) (by omega) (by omega) (by omega) (by omega)]
  · rw [c5 (x + 96) (by omega) (by omega) (by omega) (by omega) (by omega) (by omega) (by omega)]
  · rw [w _ (by omega), m2 k (by omega), z1.2.2.2.1 k (by omega), s2 _ (by omega) (by omega), ha _ (by omega) (by omega)]
  · exact c5 a (by omega) (by omega) (by omega) (by omega) (by omega) (by omega) (by omega)
end AC2
