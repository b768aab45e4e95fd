/-! READING: what a condition says -/
section SP
variable {B : Nat → Int32} {e : Nat}
abbrev sGs : Type := (Nat → Int32) → Int32
abbrev sCs : Type := (Nat → Int32) → Bool
/-- the word of a fact -/
def fW (B : Nat → Int32) (e p : Nat) : Nat → Nat → Option Nat
  | 0, _ => none
  | n + 1, k => if tk B e (g_byt.getD k []) p = true then some k else fW B e p n (k + 1)
noncomputable def pPart (B : Nat → Int32) (e p : Nat) : gPR sGs := if kW B e p = kB B e p then (match pNum B e p 0 999 with
    | .inr f => .inr f
    | .inl (v, q) => .inl (fun _ => v, q))
  else match fW B e p 6 0 with
    | none => .inr (kB B e p)
    | some k => .inl (fun F => F k, kW B e p)
noncomputable def pSuL (B : Nat → Int32) (e : Nat) : Nat → sGs → Nat → gPR sGs
  | 0, _, p => .inr p
  | n + 1, G, p => if isS B e p 43 = true then (match pPart B e (kB B e p + 1) with
      | .inr f => .inr f
      | .inl (G', q) => pSuL B e n (fun F => G F + G' F) q)
    else .inl (G, kB B e p)
noncomputable def pSum (B : Nat → Int32) (e p : Nat) : gPR sGs := match pPart B e p with
  | .inr f => .inr f
  | .inl (G, q) => pSuL B e 401 G q
noncomputable def pTag (B : Nat → Int32) (e p : Nat) : gPR sCs := if tk B e (g_byt.getD 6 []) p = true then .inl (fun F => decide (F 6 ≠ 0), kW B e p)
  else if tk B e (g_byt.getD 7 []) p = true then .inl (fun F => decide (F 7 ≠ 0), kW B e p)
  else match pSum B e p with
    | .inr f => .inr f
    | .inl (G, q) => if isS B e q 60 = true then (match pSum B e (kB B e q + 1) with
        | .inr f => .inr f
        | .inl (G', r) => .inl (fun F => decide (G F < G' F), r))
      else if isS B e q 62 = true then (match pSum B e (kB B e q + 1) with
        | .inr f => .inr f
        | .inl (G', r) => .inl (fun F => decide (G' F < G F), r))
      else .inr (kB B e q)
/-- a row of conditions: all of them (al), or some; w: the word between -/
noncomputable def pRoL (B : Nat → Int32) (e : Nat) (al : Bool) (A : Nat → gPR sCs) : Nat → sCs → Nat → gPR sCs
  | 0, _, p => .inr p
  | n + 1, C, p => if tk B e (g_byt.getD (if al = true then 19 else 20) []) p = true then (match A (kW B e p) with
      | .inr f => .inr f
      | .inl (C', q) => pRoL B e al A n (fun F => if al = true then C F && C' F else C F || C' F) q)
    else .inl (C, kB B e p)
noncomputable def pRow (B : Nat → Int32) (e : Nat) (al : Bool) (A : Nat → gPR sCs) (p : Nat) : gPR sCs := match A p with
  | .inr f => .inr f
  | .inl (C, q) => pRoL B e al A 401 C q
noncomputable abbrev pCnd (B : Nat → Int32) (e : Nat) (A : Nat → gPR sCs) : Nat → gPR sCs := pRow B e false (pRow B e true A)
noncomputable def pAtm (B : Nat → Int32) (e : Nat) : Nat → Nat → gPR sCs
  | 0 => fun p => if isS B e p 40 = true ∨ tk B e (g_byt.getD 18 []) p = true then .inr (kB B e p) else pTag B e p
  | r + 1 => fun p => if isS B e p 40 = true then (match pCnd B e (pAtm B e r) (kB B e p + 1) with
      | .inr f => .inr f
      | .inl (C, q) => if isS B e q 41 = true then .inl (C, kB B e q + 1) else .inr (kB B e q))
    else if tk B e (g_byt.getD 18 []) p = true then (match pAtm B e r (kW B e p) with
      | .inr f => .inr f
      | .inl (C, q) => .inl (fun F => !C F, q))
    else pTag B e p
/-! how far these come -/
theorem isS_b {p k : Nat} (hp : p ≤ e) (h : isS B e p k = true) : kB B e p < e ∧ B (kB B e p) = iN k := by
  unfold isS at h
  rw [Bool.and_eq_true, decide_eq_true_eq, decide_eq_true_eq] at h
  exact h
theorem tk_b {w : List Int32} {p : Nat} (hp : p ≤ e) (hw : 1 ≤ w.length) (h : tk B e w p = true) : p + w.length ≤ kW B e p ∧ kW B e p ≤ e := by
  have h1 := tk_l h
  have h2 := kB_b (B := B) hp
  have h3 := kW_b (B := B) hp
  omega
theorem fW_s {p : Nat} : ∀ n k j : Nat, k + n ≤ 6 → fW B e p n k = some j → j < 6 ∧ k ≤ j ∧ tk B e (g_byt.getD j []) p = true ∧ ∀ i : Nat, k ≤ i → i < j → ¬ tk B e (g_byt.getD i []) p = true := by
  intro n
  induction n with
  | zero => intro k j _ h; cases h
  | succ n ih =>
    intro k j hk h
    rw [fW] at h
    by_cases hc : tk B e (g_byt.getD k []) p = true
    · rw [if_pos hc] at h
      injection h with h
      subst h
      exact ⟨by omega, Nat.le_refl _, hc, fun i a b => by omega⟩
    · rw [if_neg hc] at h
      obtain ⟨h1, h2, h3, h4⟩ := ih (k + 1) j (by omega) h
      refine ⟨h1, by omega, h3, fun i a b => ?_⟩
      by_cases e' : i = k
      · rw [e']; exact hc
      · exact h4 i (by omega) b
theorem bl_1 : ∀ j : Nat, j < 42 → 2 ≤ (g_byt.getD j []).length ∧ (g_byt.getD j []).length ≤ 7 := by decide +kernel
theorem pPart_n {p : Nat} (hp : p ≤ e) {G : sGs} {q : Nat} (h : pPart B e p = .inl (G, q)) : p < q ∧ q ≤ e := by
  unfold pPart at h
  by_cases hc : kW B e p = kB B e p
  · rw [if_pos hc] at h
    cases hn : pNum B e p 0 999 with
    | inr f => rw [hn] at h; cases h
    | inl r =>
      rw [hn] at h
      obtain ⟨v, q'⟩ := r
      have := pNum_n hp hn
      injection h with h
      injection h with h1 h2
      omega
  · rw [if_neg hc] at h
    cases hn : fW B e p 6 0 with
    | none => rw [hn] at h; cases h
    | some k =>
      rw [hn] at h
      obtain ⟨h1, -, h3, -⟩ := fW_s 6 0 k (by omega) hn
      have := tk_b hp (by have := (bl_1 k (by omega)).1; omega) h3
      have := (bl_1 k (by omega)).1
      injection h with h
      injection h with h4 h5
      omega
theorem pSuL_n : ∀ (n : Nat) (G : sGs) (p : Nat) (G' : sGs) (q : Nat), p ≤ e → pSuL B e n G p = .inl (G', q) → p ≤ q ∧ q ≤ e := by
  intro n
  induction n with
  | zero => intro G p G' q _ h; cases h
  | succ n ih =>
    intro G p G' q hp h
    rw [pSuL] at h
    have hb := kB_b (B := B) hp
    by_cases hc : isS B e p 43 = true
    · rw [if_pos hc] at h
      have hs := isS_b hp hc
      cases hn : pPart B e (kB B e p + 1) with
      | inr f => rw [hn] at h; cases h
      | inl r =>
        rw [hn] at h
        obtain ⟨G1, q1⟩ := r
        have h1 := pPart_n (by omega) hn
        have h2 := ih _ _ _ _ h1.2 h
        omega
    · rw [if_neg hc] at h
      injection h with h
      injection h with h1 h2
      omega
theorem pSum_n {p : Nat} (hp : p ≤ e) {G : sGs} {q : Nat} (h : pSum B e p = .inl (G, q)) : p < q ∧ q ≤ e := by
  unfold pSum at h
  cases hn : pPart B e p with
  | inr f => rw [hn] at h; cases h
  | inl r =>
    rw [hn] at h
    obtain ⟨G1, q1⟩ := r
    have h1 := pPart_n hp hn
    have h2 := pSuL_n _ _ _ _ _ h1.2 h
    omega
theorem pTag_n {p : Nat} (hp : p ≤ e) {C : sCs} {q : Nat} (h : pTag B e p = .inl (C, q)) : p + 3 ≤ q ∧ q ≤ e := by
  unfold pTag at h
  by_cases h6 : tk B e (g_byt.getD 6 []) p = true
  · rw [if_pos h6] at h
    injection h with h
    injection h with h1 h2
    have h3 := tk_b hp (by decide) h6
    have : (g_byt.getD 6 []).length = 5 := by decide
    omega
  · rw [if_neg h6] at h
    by_cases h7 : tk B e (g_byt.getD 7 []) p = true
    · rw [if_pos h7] at h
      injection h with h
      injection h with h1 h2
      have h3 := tk_b hp (by decide) h7
      have : (g_byt.getD 7 []).length = 6 := by decide
      omega
    · rw [if_neg h7] at h
      cases hn : pSum B e p with
      | inr f => rw [hn] at h; cases h
      | inl r =>
        rw [hn] at h
        obtain ⟨G1, q1⟩ := r
        have h1 := pSum_n hp hn
        have hb := kB_b (B := B) h1.2
        have fin : ∀ (k : Nat) (X : sGs → sCs), isS B e q1 k = true → (match pSum B e (kB B e q1 + 1) with
          | .inr f => (.inr f : gPR sCs)
          | .inl (G', r) => .inl (X G', r)) = .inl (C, q) → p + 3 ≤ q ∧ q ≤ e := by
          intro k X hs hx
          have h2 := isS_b h1.2 hs
          cases hm : pSum B e (kB B e q1 + 1) with
          | inr f => rw [hm] at hx; cases hx
          | inl r =>
            rw [hm] at hx
            obtain ⟨G2, q2⟩ := r
            have h3 := pSum_n (by omega) hm
            injection hx with hx
            injection hx with h4 h5
            omega
        dsimp only at h
        by_cases hs : isS B e q1 60 = true
        · rw [if_pos hs] at h
          exact fin 60 (fun G' F => decide (G1 F < G' F)) hs h
        · rw [if_neg hs] at h
          by_cases hs2 : isS B e q1 62 = true
          · rw [if_pos hs2] at h
            exact fin 62 (fun G' F => decide (G' F < G1 F)) hs2 h
          · rw [if_neg hs2] at h
            cases h
/-- a reader of conditions passes three bytes at least -/
def okA (B : Nat → Int32) (e : Nat) (A : Nat → gPR sCs) : Prop := ∀ (p : Nat) (C : sCs) (q : Nat), p ≤ e → A p = .inl (C, q) → p + 3 ≤ q ∧ q ≤ e
theorem pRoL_n {al : Bool} {A : Nat → gPR sCs} (hA : okA B e A) : ∀ (n : Nat) (C : sCs) (p : Nat) (C' : sCs) (q : Nat), p ≤ e → pRoL B e al A n C p = .inl (C', q) → p ≤ q ∧ q ≤ e := by
  intro n
  induction n with
  | zero => intro C p C' q _ h; cases h
  | succ n ih =>
    intro C p C' q hp h
    rw [pRoL] at h
    have hb := kB_b (B := B) hp
    by_cases hc : tk B e (g_byt.getD (if al = true then 19 else 20) []) p = true
    · rw [if_pos hc] at h
      have hw := kW_b (B := B) hp
      cases hn : A (kW B e p) with
      | inr f => rw [hn] at h; cases h
      | inl r =>
        rw [hn] at h
        obtain ⟨C1, q1⟩ := r
        have h1 := hA _ _ _ hw.2 hn
        have h2 := ih _ _ _ _ h1.2 h
        omega
    · rw [if_neg hc] at h
      injection h with h
      injection h with h1 h2
      omega
theorem okA.row {al : Bool} {A : Nat → gPR sCs} (hA : okA B e A) : okA B e (pRow B e al A) := by
  intro p C q hp h
  unfold pRow at h
  cases hn : A p with
  | inr f => rw [hn] at h; cases h
  | inl r =>
    rw [hn] at h
    obtain ⟨C1, q1⟩ := r
    have h1 := hA _ _ _ hp hn
    have h2 := pRoL_n hA _ _ _ _ _ h1.2 h
    omega
theorem okA.atm : ∀ r : Nat, okA B e (pAtm B e r) := by
  intro r
  induction r with
  | zero =>
    intro p C q hp h
    rw [pAtm] at h
    dsimp only at h
    by_cases hc : isS B e p 40 = true ∨ tk B e (g_byt.getD 18 []) p = true
    · rw [if_pos hc] at h; cases h
    · rw [if_neg hc] at h; exact pTag_n hp h
  | succ r ih =>
    intro p C q hp h
    rw [pAtm] at h
    dsimp only at h
    have hb := kB_b (B := B) hp
    by_cases hc : isS B e p 40 = true
    · rw [if_pos hc] at h
      have hs := isS_b hp hc
      cases hn : pCnd B e (pAtm B e r) (kB B e p + 1) with
      | inr f => rw [hn] at h; cases h
      | inl y =>
        rw [hn] at h
        obtain ⟨C1, q1⟩ := y
        have h1 := (ih.row (al := true)).row (al := false) _ _ _ (by omega) hn
        have hb1 := kB_b (B := B) h1.2
        dsimp only at h
        by_cases hs2 : isS B e q1 41 = true
        · rw [if_pos hs2] at h
          have := isS_b h1.2 hs2
          injection h with h
          injection h with h2 h3
          omega
        · rw [if_neg hs2] at h; cases h
    · rw [if_neg hc] at h
      by_cases ht : tk B e (g_byt.getD 18 []) p = true
      · rw [if_pos ht] at h
        have hw := kW_b (B := B) hp
        cases hn : pAtm B e r (kW B e p) with
        | inr f => rw [hn] at h; cases h
        | inl y =>
          rw [hn] at h
          obtain ⟨C1, q1⟩ := y
          have h1 := ih _ _ _ hw.2 hn
          injection h with h
          injection h with h2 h3
          omega
      · rw [if_neg ht] at h; exact pTag_n hp h
end SP
