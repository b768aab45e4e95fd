/-! SUMS: over slots as over props -/
section SMS
variable {W : Nat → Int32} {pn on : Nat}
def nS (a : Nat → Nat) : Nat → Nat → Nat
  | 0, _ => 0
  | k + 1, i => a i + nS a k (i + 1)
theorem nS_c {a a' : Nat → Nat} : ∀ k i : Nat, (∀ j : Nat, i ≤ j → j < i + k → a' j = a j) → nS a' k i = nS a k i := by
  intro k
  induction k with
  | zero => exact fun _ _ => rfl
  | succ k ih => intro i h; rw [nS, nS, h i (Nat.le_refl _) (by omega), ih (i + 1) (fun j a b => h j (by omega) (by omega))]
theorem nS_one {a a' : Nat → Nat} {s d : Nat} : ∀ k i : Nat, i ≤ s → s < i + k → (∀ j : Nat, j ≠ s → j < i + k → a' j = a j) → a' s = a s + d → nS a' k i = nS a k i + d := by
  intro k
  induction k with
  | zero => intro i h1 h2; omega
  | succ k ih =>
    intro i h1 h2 h3 h4
    rw [nS, nS]
    by_cases e : i = s
    · subst e
      rw [h4, nS_c k (i + 1) (fun j j1 j2 => h3 j (by omega) (by omega))]
      omega
    · rw [h3 i e (by omega), ih (i + 1) (by omega) (by omega) (fun j j1 j2 => h3 j j1 (by omega)) h4]
      omega
theorem nS_snoc {a : Nat → Nat} : ∀ k i : Nat, nS a (k + 1) i = nS a k i + a (i + k) := by
  intro k
  induction k with
  | zero => intro i; rw [nS, nS, nS, Nat.add_zero, Nat.add_zero, Nat.zero_add]
  | succ k ih =>
    intro i
    rw [nS, ih (i + 1), nS, show i + 1 + k = i + (k + 1) by omega]
    omega
theorem nS_le {a a' : Nat → Nat} : ∀ k i : Nat, (∀ j : Nat, i ≤ j → j < i + k → a j ≤ a' j) → nS a k i ≤ nS a' k i := by
  intro k
  induction k with
  | zero => exact fun _ _ => Nat.le_refl _
  | succ k ih =>
    intro i h
    rw [nS, nS]
    have h1 := h i (Nat.le_refl _) (by omega)
    have h2 := ih (i + 1) (fun j a b => h j (by omega) (by omega))
    omega
theorem nS_at {a : Nat → Nat} {s : Nat} : ∀ k i : Nat, i ≤ s → s < i + k → a s ≤ nS a k i := by
  intro k
  induction k with
  | zero => intro i h1 h2; omega
  | succ k ih =>
    intro i h1 h2
    rw [nS]
    by_cases e : i = s
    · subst e; omega
    · have := ih (i + 1) (by omega) (by omega)
      omega
/-- what a slot gives -/
def tSl (W : Nat → Int32) (pn : Nat) (g : Nat → Nat) (s : Nat) : Nat := if sIn W pn (iN s) = -1 then 0 else g (sIn W pn (iN s)).toNatClampNeg
/-- what a prop gives -/
def tPr (W : Nat → Int32) (g : Nat → Nat) (p : Nat) : Nat := if W (9 + 4 * p + 3) = -1 then 0 else g p
theorem sIn_s {q : Nat} (hq : q < 900) (y : Int32) : sIn W (q + 1) y = if sIn W q y = -1 then (if W (9 + 4 * q + 3) = y then iN q else -1) else sIn W q y := by
  have := sInF_s (W := W) (W' := W) (y := y) q 0 (by omega) (fun _ _ _ => rfl)
  rw [Nat.zero_add] at this
  exact this
theorem slot_sum (hW : WI W pn on) (g : Nat → Nat) : nS (tSl W pn g) 10 0 = nS (tPr W g) pn 0 := by
  have h8 := hW.1.2.1
  have key : ∀ q : Nat, q ≤ pn → nS (tSl W q g) 10 0 = nS (tPr W g) q 0 := by
    intro q
    induction q with
    | zero =>
      intro _
      rw [show nS (tPr W g) 0 0 = 0 from rfl, show nS (tSl W 0 g) 10 0 = nS (fun _ => 0) 10 0 from nS_c 10 0 (fun j _ _ => by unfold tSl; rw [show sIn W 0 (iN j) = -1 from rfl, if_pos rfl])]
      rfl
    | succ q ih =>
      intro hq
      rw [nS_snoc (a := tPr W g) q 0, ← ih (by omega), Nat.zero_add]
      have hd := hW.2.1 q (by omega)
      rcases hd.1 with e | ⟨s, hs, e⟩
      · have : nS (tSl W (q + 1) g) 10 0 = nS (tSl W q g) 10 0 := nS_c 10 0 (fun j _ hj => by
          unfold tSl
          rw [sIn_s (by omega)]
          by_cases c : sIn W q (iN j) = -1
          · have hne : ¬ W (9 + 4 * q + 3) = iN j := fun h => iN_eqm (show j < 2147483648 by omega) (h.symm.trans e)
            rw [if_pos c, if_neg hne, c]
          · rw [if_neg c])
        rw [this]
        unfold tPr
        rw [if_pos e]
        rfl
      · have ne : W (9 + 4 * q + 3) ≠ -1 := by rw [e]; exact iN_eqm (by omega)
        have free : sIn W q (iN s) = -1 := sIn_no (fun p hp h => by
          have := hW.2.2.1 p q (by omega) (by omega) (h.trans e.symm) (by rw [h]; exact iN_eqm (by omega))
          omega)
        refine nS_one (s := s) 10 0 (by omega) (by omega) (fun j hj hj2 => ?_) ?_
        · unfold tSl
          rw [sIn_s (by omega)]
          by_cases c : sIn W q (iN j) = -1
          · by_cases c2 : W (9 + 4 * q + 3) = iN j
            · exfalso
              rw [e] at c2
              exact hj ((iN_eq (by omega) (by omega)).mp c2).symm
            · rw [if_pos c, if_neg c2, c]
          · rw [if_neg c]
        · unfold tSl tPr
          rw [sIn_s (by omega), free, if_pos rfl, if_pos e, if_neg (iN_eqm (by omega)), if_neg ne, if_pos rfl, iN_c (by omega), Nat.zero_add]
  exact key pn (Nat.le_refl _)
end SMS
