/-! THE TWO COURTS -/
/-- what holds of a court as the model keeps it -/
def WI (W : Nat → Int32) (pn on : Nat) : Prop := (W 0 = iN pn ∧ pn ≤ 8 ∧ W 1 = iN on ∧ on ≤ 6) ∧ (∀ p : Nat, p < pn → (W (9 + 4 * p + 3) = -1 ∨ ∃ s : Nat, s < 10 ∧ W (9 + 4 * p + 3) = iN s) ∧ (∃ d : Nat, d < 6 ∧ W (9 + 4 * p + 0) = iN d) ∧ (∃ j : Nat, j ≤ 20 ∧ W (9 + 4 * p + 1) = iN j) ∧ ∃ w : Nat, w ≤ 99 ∧ W (9 + 4 * p + 2) = iN w) ∧ (∀ p q : Nat, p < pn → q < pn → W (9 + 4 * p + 3) = W (9 + 4 * q + 3) → W (9 + 4 * p + 3) ≠ -1 → p = q) ∧ (∀ o : Nat, o < on → (∃ d : Nat, d < 64 ∧ W (41 + 4 * o + 0) = iN d) ∧ (∃ n : Nat, 1 ≤ n ∧ n ≤ 60 ∧ W (41 + 4 * o + 1) = iN n) ∧ (∃ k : Nat, k < 256 ∧ W (41 + 4 * o + 2) = iN k) ∧ ∃ t : Nat, t < 4 ∧ W (41 + 4 * o + 3) = iN t) ∧ (∃ t : Nat, t ≤ 12 ∧ W 2 = iN t) ∧ (∃ d : Nat, d ≤ 9999 ∧ W 4 = iN d) ∧ (∃ c : Nat, c ≤ 9 ∧ W 5 = iN c) ∧ (∃ e : Nat, e ≤ 20 ∧ W 6 = iN e) ∧ (W 3 = 0 ∨ W 3 = 1)
/-- a State at b holds the court W; rm rows were written in all -/
def cSt (iv : gV) (b : Nat) (W : Nat → Int32) (pn on rm : Nat) : Prop := (iv b 6 = W 0 ∧ iv b 7 = W 1 ∧ iv b 9 = W 2 ∧ iv b 10 = W 4 ∧ iv b 11 = W 5 ∧ iv b 12 = W 6 ∧ iv b 13 = W 8 ∧ iv b 14 = iN rm) ∧ (∀ p : Nat, p < pn → ∀ f : Nat, f < 4 → iv (b + 7 + p) f = W (9 + 4 * p + f)) ∧ (∀ o : Nat, o < on → ∀ f : Nat, f < 4 → iv (b + 15 + o) f = W (41 + 4 * o + f)) ∧ (∀ s : Nat, s < 10 → iv (b + 4) s = sIn W pn (iN s)) ∧ W 7 = iN (min 60 rm) ∧ ∀ a : Nat, a < min 60 rm → ∀ f : Nat, f < 4 → iv (b + 6) ((rm - 1 - a) % 60 * 4 + f) = W (65 + 4 * a + f)
theorem sInF_found {W : Nat → Int32} {pn : Nat} (hd : ∀ p q : Nat, p < pn → q < pn → W (9 + 4 * p + 3) = W (9 + 4 * q + 3) → W (9 + 4 * p + 3) ≠ -1 → p = q) {p : Nat} (hp : p < pn) {y : Int32} (hy : W (9 + 4 * p + 3) = y) (hn : y ≠ -1) : ∀ k i : Nat, i + k = pn → i ≤ p → sInF W y k i = iN p := by
  intro k
  induction k with
  | zero => intro i h1 h2; omega
  | succ k ih =>
    intro i h1 h2
    rw [sInF]
    by_cases h : W (9 + 4 * i + 3) = y
    · rw [if_pos h, hd i p (by omega) hp (h.trans hy.symm) (by rw [h]; exact hn)]
    · rw [if_neg h]
      by_cases e : i = p
      · subst e; exact (h hy).elim
      · exact ih (i + 1) (by omega) (by omega)
/-- the slot of a prop holds it -/
theorem sIn_found {W : Nat → Int32} {pn on : Nat} (hW : WI W pn on) {p : Nat} (hp : p < pn) (hn : W (9 + 4 * p + 3) ≠ -1) : sIn W pn (W (9 + 4 * p + 3)) = iN p := sInF_found hW.2.2.1 hp rfl hn pn 0 (by omega) (by omega)
theorem sOn_0 {W : Nat → Int32} {pn s : Nat} (hpn : pn ≤ 8) : sOn W pn 0 s = sIn W pn (iN s) := by
  unfold sOn
  by_cases h : sIn W pn (iN s) = -1
  · rw [if_pos h, h]
  · rw [if_neg h]
    rcases sIn_or W pn (iN s) with h' | ⟨j, h1, h2, -⟩
    · exact (h h').elim
    · have h0 : ∀ p : Nat, p < 8 → ¬ (((0 : Int32) >>> (iN p &&& 31)) &&& 1 = 1) := by decide
      rw [h2, if_neg (h0 j (by omega))]
/-- what frights stand on, out of the court's relation -/
theorem cSt.cF {iv : gV} {b : Nat} {W : Nat → Int32} {pn on rm : Nat} (h : cSt iv b W pn on rm) (hW : WI W pn on) (o : Nat) {s : Nat} (hs : s < 10) : iv (b + 4) s = -1 ∨ ∃ p : Nat, p < 8 ∧ cF iv b o W p s (iv o 0) (iv o 1) (iv o 2) := by
  obtain ⟨h1, h2, h3, h4, h5⟩ := h
  rcases sIn_or W pn (iN s) with e | ⟨p, hp, e1, e2⟩
  · exact Or.inl ((h4 s hs).trans e)
  · have := hW.1.2.1
    exact Or.inr ⟨p, by omega, (h4 s hs).trans e1, h2 p hp 0 (by omega), h2 p hp 1 (by omega), h2 p hp 2 (by omega), e2, rfl, rfl, rfl⟩
