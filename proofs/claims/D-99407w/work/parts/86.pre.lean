/-! BEFORE THE LAW: conditions stand on eight facts; what else is kept -/
section PR
variable {B : Nat → Int32} {e : Nat}
def okC (C : sCs) : Prop := ∀ F G : Nat → Int32, (∀ j : Nat, j < 8 → F j = G j) → C F = C G
def okG (X : sGs) : Prop := ∀ F G : Nat → Int32, (∀ j : Nat, j < 8 → F j = G j) → X F = X G
theorem pPart_c {p : Nat} {G : sGs} {q : Nat} (h : pPart B e p = .inl (G, q)) : okG G := by
  unfold pPart at h
  by_cases hc : kW B e p = kB B e p
  · rw [if_pos hc] at h
    cases hn : pNum B e p 0 999 with
    | inr f => rw [hn] at h; cases h
    | inl r =>
      rw [hn] at h
      injection h with h
      injection h with h1 h2
      subst h1
      exact fun F G _ => rfl
  · rw [if_neg hc] at h
    cases hn : fW B e p 6 0 with
    | none => rw [hn] at h; cases h
    | some k =>
      rw [hn] at h
      obtain ⟨h1, -, -, -⟩ := fW_s 6 0 k (by omega) hn
      injection h with h
      injection h with h3 h4
      subst h3
      exact fun F G hF => hF k (by omega)
theorem pSuL_c : ∀ (n : Nat) (G : sGs) (p : Nat) (G' : sGs) (q : Nat), okG G → pSuL B e n G p = .inl (G', q) → okG G' := by
  intro n
  induction n with
  | zero => intro G p G' q _ h; cases h
  | succ n ih =>
    intro G p G' q hG h
    rw [pSuL] at h
    by_cases hc : isS B e p 43 = true
    · rw [if_pos hc] at h
      cases hn : pPart B e (kB B e p + 1) with
      | inr f => rw [hn] at h; cases h
      | inl r =>
        rw [hn] at h
        obtain ⟨G1, q1⟩ := r
        have h1 := pPart_c hn
        exact ih _ _ _ _ (fun F F' hF => by
          show G F + G1 F = G F' + G1 F'
          rw [hG F F' hF, h1 F F' hF]) h
    · rw [if_neg hc] at h
      injection h with h
      injection h with h1 h2
      subst h1
      exact hG
theorem pSum_c {p : Nat} {G : sGs} {q : Nat} (h : pSum B e p = .inl (G, q)) : okG G := by
  unfold pSum at h
  cases hn : pPart B e p with
  | inr f => rw [hn] at h; cases h
  | inl r =>
    rw [hn] at h
    obtain ⟨G1, q1⟩ := r
    exact pSuL_c _ _ _ _ _ (pPart_c hn) h
theorem pTag_c {p : Nat} {C : sCs} {q : Nat} (h : pTag B e p = .inl (C, q)) : okC C := by
  unfold pTag at h
  by_cases h6 : tk B e (g_byt.getD 6 []) p = true
  · rw [if_pos h6] at h
    injection h with h
    injection h with h1 h2
    subst h1
    exact fun F G hF => by show decide (F 6 ≠ 0) = decide (G 6 ≠ 0); rw [hF 6 (by decide)]
  rw [if_neg h6] at h
  by_cases h7 : tk B e (g_byt.getD 7 []) p = true
  · rw [if_pos h7] at h
    injection h with h
    injection h with h1 h2
    subst h1
    exact fun F G hF => by show decide (F 7 ≠ 0) = decide (G 7 ≠ 0); rw [hF 7 (by decide)]
  rw [if_neg h7] at h
  cases hn : pSum B e p with
  | inr f => rw [hn] at h; cases h
  | inl r =>
    rw [hn] at h
    obtain ⟨G1, q1⟩ := r
    have c1 := pSum_c hn
    dsimp only at h
    by_cases hs : isS B e q1 60 = true
    · rw [if_pos hs] at h
      cases hm : pSum B e (kB B e q1 + 1) with
      | inr f => rw [hm] at h; cases h
      | inl r =>
        rw [hm] at h
        obtain ⟨G2, q2⟩ := r
        have c2 := pSum_c hm
        injection h with h
        injection h with h1 h2
        subst h1
        exact fun F G hF => by show decide (G1 F < G2 F) = decide (G1 G < G2 G); rw [c1 F G hF, c2 F G hF]
    · rw [if_neg hs] at h
      by_cases hs2 : isS B e q1 62 = true
      · rw [if_pos hs2] at h
        cases hm : pSum B e (kB B e q1 + 1) with
        | inr f => rw [hm] at h; cases h
        | inl r =>
          rw [hm] at h
          obtain ⟨G2, q2⟩ := r
          have c2 := pSum_c hm
          injection h with h
          injection h with h1 h2
          subst h1
          exact fun F G hF => by show decide (G2 F < G1 F) = decide (G2 G < G1 G); rw [c1 F G hF, c2 F G hF]
      · rw [if_neg hs2] at h
        cases h
def okD (A : Nat → gPR sCs) : Prop := ∀ (p : Nat) (C : sCs) (q : Nat), A p = .inl (C, q) → okC C
theorem pRoL_c {al : Bool} {A : Nat → gPR sCs} (hA : okD A) : ∀ (n : Nat) (C : sCs) (p : Nat) (C' : sCs) (q : Nat), okC C → pRoL B e al A n C p = .inl (C', q) → okC C' := by
  intro n
  induction n with
  | zero => intro C p C' q _ h; cases h
  | succ n ih =>
    intro C p C' q hC h
    rw [pRoL] at h
    by_cases hc : tk B e (g_byt.getD (if al = true then 19 else 20) []) p = true
    · rw [if_pos hc] at h
      cases hn : A (kW B e p) with
      | inr f => rw [hn] at h; cases h
      | inl r =>
        rw [hn] at h
        obtain ⟨C1, q1⟩ := r
        have h1 := hA _ _ _ hn
        exact ih _ _ _ _ (fun F G hF => by
          show (if al = true then C F && C1 F else C F || C1 F) = (if al = true then C G && C1 G else C G || C1 G)
          rw [hC F G hF, h1 F G hF]) h
    · rw [if_neg hc] at h
      injection h with h
      injection h with h1 h2
      subst h1
      exact hC
theorem okD.row {al : Bool} {A : Nat → gPR sCs} (hA : okD A) : okD (pRow B e al A) := by
  intro p C q h
  unfold pRow at h
  cases hn : A p with
  | inr f => rw [hn] at h; cases h
  | inl r =>
    rw [hn] at h
    obtain ⟨C1, q1⟩ := r
    exact pRoL_c hA _ _ _ _ _ (hA _ _ _ hn) h
theorem okD.atm : ∀ r : Nat, okD (pAtm B e r) := by
  intro r
  induction r with
  | zero =>
    intro p C q h
    rw [pAtm] at h
    dsimp only at h
    by_cases hc : isS B e p 40 = true ∨ tk B e (g_byt.getD 18 []) p = true
    · rw [if_pos hc] at h; cases h
    · rw [if_neg hc] at h; exact pTag_c h
  | succ r ih =>
    intro p C q h
    rw [pAtm] at h
    dsimp only at h
    by_cases hc : isS B e p 40 = true
    · rw [if_pos hc] at h
      cases hn : pCnd B e (pAtm B e r) (kB B e p + 1) with
      | inr f => rw [hn] at h; cases h
      | inl y =>
        rw [hn] at h
        obtain ⟨C1, q1⟩ := y
        have h1 := (ih.row (al := true)).row (al := false) _ _ _ hn
        dsimp only at h
        by_cases hs2 : isS B e q1 41 = true
        · rw [if_pos hs2] at h
          injection h with h
          injection h with h2 h3
          subst h2
          exact h1
        · rw [if_neg hs2] at h; cases h
    · rw [if_neg hc] at h
      by_cases ht : tk B e (g_byt.getD 18 []) p = true
      · rw [if_pos ht] at h
        cases hn : pAtm B e r (kW B e p) with
        | inr f => rw [hn] at h; cases h
        | inl y =>
          rw [hn] at h
          obtain ⟨C1, q1⟩ := y
          have h1 := ih _ _ _ hn
          injection h with h
          injection h with h2 h3
          subst h2
          exact fun F G hF => by show (!C1 F) = !C1 G; rw [h1 F G hF]
      · rw [if_neg ht] at h; exact pTag_c h
/-- what holds of a law's lines -/
def lK (L : gLw) : Prop := L.1 ≤ 12 ∧ (∀ k : Nat, k < L.1 → ∃ n : Nat, n ≤ 30 ∧ L.2.2.1 k = iN n) ∧ ∀ k : Nat, okC (L.2.2.2 k)
theorem pLine_c {p : Nat} {kd : Int32} {z : Int32 × Int32 × sCs} {r : Nat} (h : pLine B e p kd = .inl (z, r)) : okC z.2.2 := by
  unfold pLine at h
  cases hn : pNum B e (kW B e p) 0 30 with
  | inr f => rw [hn] at h; cases h
  | inl y =>
    obtain ⟨v, q⟩ := y
    rw [hn] at h
    dsimp only at h
    by_cases t : tk B e (g_byt.getD 17 []) q = true
    · rw [if_pos t] at h
      cases hc : pCnd B e (pAtm B e 6) (kW B e q) with
      | inr f => rw [hc] at h; cases h
      | inl y =>
        obtain ⟨C, r'⟩ := y
        rw [hc] at h
        have h1 := ((okD.atm 6).row (al := true)).row (al := false) _ _ _ hc
        injection h with h
        injection h with h2 h3
        subst h2
        exact h1
    · rw [if_neg t] at h
      injection h with h
      injection h with h2 h3
      subst h2
      exact fun _ _ _ => rfl
theorem pLaL_c {p : Nat} {z : Int32 × Int32 × sCs} {r : Nat} (h : pLaL B e p = .inl (z, r)) : okC z.2.2 := by
  unfold pLaL at h
  by_cases t1 : tk B e (g_byt.getD 14 []) p = true
  · rw [if_pos t1] at h; exact pLine_c h
  rw [if_neg t1] at h
  by_cases t2 : tk B e (g_byt.getD 15 []) p = true
  · rw [if_pos t2] at h; exact pLine_c h
  rw [if_neg t2] at h
  by_cases t3 : tk B e (g_byt.getD 16 []) p = true
  · rw [if_pos t3] at h; exact pLine_c h
  rw [if_neg t3] at h
  cases h
theorem pLaw_k : ∀ (m : Nat) (L : gLw) (p : Nat) (L' : gLw) (q : Nat), p ≤ e → lK L → pLaw B e m L p = .inl (L', q) → lK L' := by
  intro m
  induction m with
  | zero => intro L p L' q _ _ h; cases h
  | succ m ih =>
    intro L p L' q hp hL h
    rw [pLaw] at h
    cases hm : pMor B e p L.1 12 with
    | inr f => rw [hm] at h; cases h
    | inl y =>
      obtain ⟨b, q1⟩ := y
      rw [hm] at h
      have hq := pMor_n hp hm
      cases b with
      | false =>
        injection h with h
        injection h with h1 h2
        subst h1
        exact hL
      | true =>
        dsimp only at h
        have hc12 : L.1 < 12 := by
          unfold pMor at hm
          by_cases c1 : kB B e p = e
          · rw [if_pos c1] at hm; cases hm
          rw [if_neg c1] at hm
          by_cases c2 : L.1 = 0
          · omega
          rw [if_neg c2] at hm
          by_cases c3 : B (kB B e p) = 59
          · rw [if_pos c3] at hm
            by_cases c4 : L.1 = 12
            · rw [if_pos c4] at hm; cases hm
            · have := hL.1; omega
          · rw [if_neg c3] at hm; cases hm
        cases hl : pLaL B e q1 with
        | inr f => rw [hl] at h; cases h
        | inl y =>
          obtain ⟨z, r⟩ := y
          rw [hl] at h
          have h1 := pLaL_n hq.2.1 hl
          have h2 := pLaL_c hl
          refine ih _ _ _ _ h1.2.1 ⟨by show L.1 + 1 ≤ 12; omega, fun k hk => ?_, fun k => ?_⟩ h
          · by_cases ek : k = L.1
            · rw [ek, show (L.1 + 1, va_up L.2.1 L.1 z.1, va_up L.2.2.1 L.1 z.2.1, va_up L.2.2.2 L.1 z.2.2).2.2.1 L.1 = z.2.1 from va_up_self _ _ _]
              exact h1.2.2.2
            · rw [show (L.1 + 1, va_up L.2.1 L.1 z.1, va_up L.2.2.1 L.1 z.2.1, va_up L.2.2.2 L.1 z.2.2).2.2.1 k = L.2.2.1 k from va_up_ne _ _ ek]
              exact hL.2.1 k (by have : k < L.1 + 1 := hk; omega)
          · by_cases ek : k = L.1
            · rw [ek, show (L.1 + 1, va_up L.2.1 L.1 z.1, va_up L.2.2.1 L.1 z.2.1, va_up L.2.2.2 L.1 z.2.2).2.2.2 L.1 = z.2.2 from va_up_self _ _ _]
              exact h2
            · rw [show (L.1 + 1, va_up L.2.1 L.1 z.1, va_up L.2.2.1 L.1 z.2.1, va_up L.2.2.2 L.1 z.2.2).2.2.2 k = L.2.2.2 k from va_up_ne _ _ ek]
              exact hL.2.2 k
theorem lK.cOk {L : gLw} (h : lK L) : cOk L.2.2.2 := fun k F G hF => h.2.2 k F G hF
end PR
section FR2
variable {iv jv kv : gV} {u v w : gU} {x : Nat}
/-- the lines of laws are kept; there may be more cells -/
def Kx (x : Nat) (iv : gV) (u : gU) (jv : gV) (v : gU) : Prop := Kp (x + 370) u.2.2.2.1 iv u jv v ∧ u.2.2.2.1 ≤ v.2.2.2.1
theorem lwC.fr2 {b : Nat} {L : gLw} (h : lwC x iv u b L) (hK : Kx x iv u jv v) (h8 : jv b 8 = iv b 8) (h3 : v.2.1 (b + 3) = u.2.1 (b + 3)) : lwC x jv v b L := ⟨(h.1.up hK.1 h8 h3).mono hK.2, h.2⟩
theorem cC.fr2 {t t' b : Nat} {V : Nat → Int32} {pn on rm : Nat} {L : gLw} (h : cC x t iv u b V pn on rm L) (hK : Kx x iv u jv v) (ht : t ≤ t') (e0 : jv b = iv b) (e : ∀ a : Nat, b < a → a < b + 21 → a ≠ b + 5 → jv a = iv a) (h3 : v.2.1 (b + 3) = u.2.1 (b + 3)) : cC x t' jv v b V pn on rm L :=
  ⟨h.1.fr h.2.1.1.2.1 h.2.1.1.2.2.2 (fun k _ => by rw [e0]) e, h.2.1, Nat.le_trans h.2.2.1 ht, h.2.2.2.1.fr2 hK (by rw [e0]) h3, by rw [e0]; exact h.2.2.2.2⟩
theorem RI.fr2 {t t' : Nat} (h : RI x t iv u) (hK : Kx x iv u jv v) (ht : t ≤ t') (e1 : jv x 18 = iv x 18) (e2 : jv (x + 353) 6 = iv (x + 353) 6) (e3 : jv (x + 355) = iv (x + 355)) (e : ∀ a : Nat, x + 49 ≤ a → a < x + 70 → jv a = iv a) (h3 : v.2.1 (x + 49 + 3) = u.2.1 (x + 49 + 3)) : RI x t' jv v := by
  unfold RI
  rw [e1, e2, e3]
  refine ⟨h.1, ?_⟩
  rcases h.2 with h | ⟨h, pn, on, rm, L, q1, q2⟩
  · exact Or.inl h
  · exact Or.inr ⟨h, pn, on, rm, L, q1.fr2 hK ht (e _ (by omega) (by omega)) (fun a _ _ _ => e a (by omega) (by omega)) h3, q2⟩
theorem RB.fr2 {z b n t t' : Nat} (h : RB x z b n t iv u) (hX : XS v x) (hM : MS v (x + 353)) (hO : v.1 (x + 369) = u.1 (x + 369)) (hl : ∀ a : Nat, a < x → v.1 a = u.1 a ∧ v.2.1 a = u.2.1 a ∧ jv a = iv a) (htx : v.2.2.1 = u.2.2.1) (hnx : u.2.2.2.1 ≤ v.2.2.2.1) (ht : t ≤ t') (hn : v.2.2.2.1 ≤ u.2.2.2.1 + 5000 * (t' - t)) (hs : v.2.2.2.2 ≤ u.2.2.2.2 + 50000 * (t' - t)) : RB x z b n t' jv v := by
  obtain ⟨h1, h2, h3, ⟨h4, h5⟩, h6, h7, h8, h9⟩ := h
  refine ⟨hX, hM, hO.trans h3, ⟨h4, by rw [(hl _ h4).1]; exact h5⟩, fun i hi => ?_, by omega, by omega, by omega⟩
  obtain ⟨q1, q2, q3, y, q4, q5, q6, q7⟩ := h6 i hi
  rw [htx]
  exact ⟨q1, by rw [(hl _ q1).1]; exact q2, by rw [(hl _ q1).2.2]; exact q3, y, q4, by rw [(hl _ q1).2.1]; exact q5, by rw [(hl _ q4).1]; exact q6, fun j hj => by rw [(hl _ q4).2.2]; exact q7 j hj⟩
theorem MS.u5 {T : Nat} (H : MS u (x + 353)) (hu : U5 x T u w) (hT : x + 370 ≤ T) : MS w (x + 353) := ⟨by rw [(hu.1 _ (by omega)).1]; exact H.1, fun j hj => ⟨by rw [(hu.1 (x + 353) (by omega)).2 (by omega)]; exact (H.2 j hj).1, by rw [(hu.1 _ (by omega)).1]; exact (H.2 j hj).2⟩⟩
theorem sIn_c {W W' : Nat → Int32} {pn : Nat} {y : Int32} (h : ∀ p : Nat, p < pn → W' (9 + 4 * p + 3) = W (9 + 4 * p + 3)) : sIn W' pn y = sIn W pn y := by
  unfold sIn
  have : ∀ k i : Nat, i + k = pn → sInF W' y k i = sInF W y k i := by
    intro k
    induction k with
    | zero => exact fun _ _ => rfl
    | succ k ih => intro i hi; rw [sInF, sInF, h i (by omega), ih (i + 1) (by omega)]
  exact this pn 0 (by omega)
theorem cSt.cw {b : Nat} {W W' : Nat → Int32} {pn on rm : Nat} (h : cSt iv b W pn on rm) (hpn : pn ≤ 8) (hon : on ≤ 6) (hW : ∀ k : Nat, k < 305 → k ≠ 3 → W' k = W k) : cSt iv b W' pn on rm := by
  obtain ⟨⟨s1, s2, s3, s4, s5, s6, s7, s8⟩, sp, so, sl, sg, sr⟩ := h
  refine ⟨⟨?_, ?_, ?_, ?_, ?_, ?_, ?_, s8⟩, fun p hp f hf => ?_, fun o ho f hf => ?_, fun s hs => ?_, ?_, fun a ha f hf => ?_⟩
  · rw [hW 0 (by decide) (by decide)]; exact s1
  · rw [hW 1 (by decide) (by decide)]; exact s2
  · rw [hW 2 (by decide) (by decide)]; exact s3
  · rw [hW 4 (by decide) (by decide)]; exact s4
  · rw [hW 5 (by decide) (by decide)]; exact s5
  · rw [hW 6 (by decide) (by decide)]; exact s6
  · rw [hW 8 (by decide) (by decide)]; exact s7
  · rw [hW _ (by omega) (by omega)]; exact sp p hp f hf
  · rw [hW _ (by omega) (by omega)]; exact so o ho f hf
  · rw [sIn_c (fun p hp => hW _ (by omega) (by omega))]; exact sl s hs
  · rw [hW 7 (by decide) (by decide)]; exact sg
  · rw [hW _ (by omega) (by omega)]; exact sr a ha f hf
theorem WI.cw {W W' : Nat → Int32} {pn on : Nat} (h : WI W pn on) (hW : ∀ k : Nat, k < 305 → k ≠ 3 → W' k = W k) (h3 : W' 3 = 0 ∨ W' 3 = 1) : WI W' pn on := by
  obtain ⟨⟨a1, a2, a3, a4⟩, b, c, d, f1, f2, f3, f4, f5⟩ := h
  refine ⟨⟨by rw [hW 0 (by decide) (by decide)]; exact a1, a2, by rw [hW 1 (by decide) (by decide)]; exact a3, a4⟩, fun p hp => ?_, fun p q hp hq => ?_, fun o ho => ?_, ?_, ?_, ?_, ?_, h3⟩
  · rw [hW _ (by omega) (by omega), hW _ (by omega) (by omega), hW _ (by omega) (by omega), hW _ (by omega) (by omega)]; exact b p hp
  · rw [hW _ (by omega) (by omega), hW _ (by omega) (by omega)]; exact c p q hp hq
  · rw [hW _ (by omega) (by omega), hW _ (by omega) (by omega), hW _ (by omega) (by omega), hW _ (by omega) (by omega)]; exact d o ho
  · rw [hW 2 (by decide) (by decide)]; exact f1
  · rw [hW 4 (by decide) (by decide)]; exact f2
  · rw [hW 5 (by decide) (by decide)]; exact f3
  · rw [hW 6 (by decide) (by decide)]; exact f4
end FR2
