/-! OP: LAW, of both -/
section OM
variable {iv jv kv lv : gV} {u v w y : gU} {x z b n t : Nat} {B : Nat → Int32} {e : Nat}
/-- a text begins to be used, in the component -/
theorem w_took (H : XS u x) {P : Int32 → g_H → Prop} : gW (f_X1_took x) (iv, u) P ↔ P (iv (x + 1) 6) (g_u2 iv (x + 1) 6 0, u) := by
  unfold f_X1_took
  rw [gW_B, rXr0 H, gW_B, rQi H, gW_B, rXr0 H, gW_B, rQp H, gW_ret]
theorem w_begins2 (H : XS u x) {q : Int32} {P : Unit → g_H → Prop} : gW (f_X2_begins (x + 1) q) (iv, u) P ↔ P () (g_u2 (g_u2 (g_u2 iv (x + 1) 7 q) (x + 1) 8 0) (x + 1) 9 0, u) := by
  unfold f_X2_begins
  rw [gW_B, rQp H, gW_B, rQp H, gW_B, rQp H, gW_ret]
/-- what both begin from -/
theorem RR.pc (hR : RR x z b n t iv u) : ∃ e : Nat, e ≤ 400 ∧ iv (x + 1) 6 = iN e ∧ iv (x + 353) 9 = iN e ∧ okB (iv (x + 359)) e ∧ (∀ k : Nat, k < e → iv (x + 2) k = iv (x + 359) k) ∧ TX x iv u := by
  obtain ⟨hB, ⟨⟨e, h1, h2, h3, h4⟩, -⟩, -⟩ := hR
  exact ⟨e, h1, h2, h3, ⟨h1, fun k hk => (h4 k hk).2⟩, fun k hk => (h4 k hk).1, hB.2.2.2.2.1⟩
/-- the heap as the component's reader finds it -/
def cH (x : Nat) (iv : gV) (e : Nat) : gV := g_u2 (g_u2 (g_u2 (g_u2 (g_u2 iv (x + 1) 6 0) x 11 (-1)) (x + 1) 7 (iN e)) (x + 1) 8 0) (x + 1) 9 0
theorem cH_f : (∀ a : Nat, a ≠ x → a ≠ x + 1 → cH x iv e a = iv a) ∧ (∀ k : Nat, k ≠ 11 → cH x iv e x k = iv x k) ∧ cH x iv e x 11 = -1 ∧ cH x iv e (x + 1) 6 = 0 ∧ cH x iv e (x + 1) 7 = iN e ∧ cH x iv e (x + 1) 8 = iN 0 ∧ cH x iv e (x + 1) 9 = 0 := by
  unfold cH
  refine ⟨fun a h1 h2 => ?_, fun k hk => ?_, ?_, ?_, ?_, ?_, ?_⟩
  · rw [g_u2_ne _ _ _ h2, g_u2_ne _ _ _ h2, g_u2_ne _ _ _ h2, g_u2_ne _ _ _ h1, g_u2_ne _ _ _ h2]
  · rw [g_u2_ne _ _ _ (by omega), g_u2_ne _ _ _ (by omega), g_u2_ne _ _ _ (by omega), g_u2_self, va_up_ne _ _ hk, g_u2_ne _ _ _ (by omega)]
  · rw [g_u2_ne _ _ _ (by omega), g_u2_ne _ _ _ (by omega), g_u2_ne _ _ _ (by omega), g_u2_self, va_up_self]
  · simp [g_u2, va_up]
  · simp [g_u2, va_up]
  · rw [g_u2_self, va_up_ne _ _ (by decide), g_u2_self, va_up_self]; rfl
  · rw [g_u2_self, va_up_self]
theorem cH_pc (hX : XS u x) (hx : x + 370 ≤ u.2.2.2.1) (hB : okB B e) (ht : ∀ k : Nat, k < e → iv (x + 2) k = B k) (hT : TX x iv u) : PC x (cH x iv e) u B e := by
  obtain ⟨c1, c2, c3, c4, c5, c6, c7⟩ := cH_f (x := x) (iv := iv) (e := e)
  exact ⟨hX, c5, hB, fun k hk => by rw [c1 _ (by omega) (by omega)]; exact ht k hk, hT.fr Ux.rf (Nat.le_refl _) (fun a ha => c1 a (by omega) (by omega)), hx⟩
/-- a law's text lies below 1154 -/
theorem mL.lo {W W' : Nat → Int32} {lm : Nat} {K N : Nat → Int32} {C : Nat → (Nat → Int32) → Bool} (h : mL W lm K N C) (hW : ∀ k : Nat, k < 1154 → W k = W' k) : mL W' lm K N C := by
  rcases h with ⟨h1, h2⟩ | ⟨h1, h2, h3, h4⟩
  · exact Or.inl ⟨by rw [← hW 3 (by decide)]; exact h1, h2⟩
  · refine Or.inr ⟨by rw [← hW 3 (by decide)]; exact h1, by rw [← hW 305 (by decide)]; exact h2, h3, fun n hn => ?_⟩
    obtain ⟨a1, a2, b, f, a3, a4, a5, a6, a7⟩ := h4 n hn
    refine ⟨by rw [← hW _ (by omega)]; exact a1, by rw [← hW _ (by omega)]; exact a2, b, f, by rw [← hW _ (by omega)]; exact a3, by rw [← hW _ (by omega)]; exact a4, a5, a6, fun F st hF => ?_⟩
    obtain ⟨c1, c2⟩ := sRun_c (D := W) (D' := W') (F := F) (f - b) b (0, st) (fun j j1 j2 => hW j (by omega))
    rw [← c1, ← c2]
    exact a7 F st hF
/-- behind a text that is wrong, in both: all is as before, but the fault and the tape -/
theorem RR.bad (hR : RR x z b n t iv u) {f : Int32} {n' : Nat} (hn' : n' ≤ 4000)
    (a1 : ∀ k : Nat, k ≠ 11 → k ≠ 14 → k ≠ 15 → k ≠ 16 → jv x k = iv x k) (a2 : jv x 11 = f) (a3 : jv (x + 1) 6 = 0) (a4 : ∀ k : Nat, (k = 6 ∨ k = 7 ∨ k = 23 ∨ k = 24) → jv (x + 353) k = iv (x + 353) k) (a5 : jv (x + 353) 14 = f) (a6 : jv (x + 353) 9 = 0)
    (a7 : ∀ a : Nat, a < u.2.2.2.1 → a ≠ x → a ≠ x + 1 → (a < x + 5 ∨ x + 27 < a) → a ≠ x + 353 → a ≠ x + 354 → (a < x + 356 ∨ x + 357 < a) → a ≠ x + 369 → jv a = iv a) (a8 : ∀ k : Nat, k < 1154 → jv (x + 354) k = iv (x + 354) k)
    (hU : U5 x u.2.2.2.1 u v ∨ ((∀ a : Nat, a < u.2.2.2.1 → v.1 a = u.1 a ∧ (a ≠ x + 9 → v.2.1 a = u.2.1 a)) ∧ v.2.2.1 = u.2.2.1 ∧ u.2.2.2.1 ≤ v.2.2.2.1)) (hXv : XS v x) (hn : v.2.2.2.1 ≤ u.2.2.2.1 + n' + 1) (hs : v.2.2.2.2 + 8 * u.2.2.2.1 ≤ u.2.2.2.2 + 8 * v.2.2.2.1) : RR x z b n (t + 1) jv v := by
  obtain ⟨hB, hT, hI, pn, on, rm, L, h1, h2, hA⟩ := hR
  have hx := hB.2.2.2.2.2.1
  have hr : ∀ a : Nat, a < u.2.2.2.1 → v.1 a = u.1 a ∧ (a ≠ x + 5 → a ≠ x + 9 → v.2.1 a = u.2.1 a) := by
    intro a ha
    rcases hU with hU | hU
    · exact ⟨(hU.1 a ha).1, fun h1 _ => (hU.1 a ha).2 h1⟩
    · exact ⟨(hU.1 a ha).1, fun _ h2 => (hU.1 a ha).2 h2⟩
  have htx : v.2.2.1 = u.2.2.1 := by rcases hU with hU | hU <;> exact hU.2.1
  have hnx : u.2.2.2.1 ≤ v.2.2.2.1 := by rcases hU with hU | hU <;> exact hU.2.2
  have hK : Kx x iv u jv v := ⟨fun a h1 h2 => ⟨a7 a h2 (by omega) (by omega) (by omega) (by omega) (by omega) (by omega) (by omega), (hr a h2).1, (hr a h2).2 (by omega) (by omega)⟩, hnx⟩
  have hW : ∀ k : Nat, k < 305 → k ≠ 3 → jv (x + 354) k = iv (x + 354) k := fun k hk _ => a8 k (by omega)
  refine ⟨hB.fr2 hXv ⟨by rw [(hr _ (by omega)).1]; exact hB.2.1.1, fun j hj => ⟨by rw [(hr (x + 353) (by omega)).2 (by omega) (by omega)]; exact (hB.2.1.2 j hj).1, by rw [(hr _ (by omega)).1]; exact (hB.2.1.2 j hj).2⟩⟩ (hr _ (by omega)).1 (fun a ha => ⟨(hr a (by omega)).1, (hr a (by omega)).2 (by omega) (by omega), a7 a (by omega) (by omega) (by omega) (by omega) (by omega) (by omega) (by omega) (by omega)⟩) htx hnx (by omega) (by omega) (by omega), ?_, ?_, pn, on, rm, L, ?_, ?_, ?_⟩
  · obtain ⟨-, h5, h6, h7, h8, h9⟩ := hT
    refine ⟨⟨0, by omega, a3, a6, fun k hk => absurd hk (Nat.not_lt_zero k)⟩, by rw [a2, a5], ?_, ?_, ?_, ?_⟩
    · rw [a1 17 (by decide) (by decide) (by decide) (by decide)]; exact h6
    · rw [a4 23 (by omega)]; exact h7
    · rw [a4 24 (by omega)]; exact h8
    · rw [a7 (x + 96) (by omega) (by omega) (by omega) (by omega) (by omega) (by omega) (by omega) (by omega)]; exact h9
  · exact hI.fr2 hK (by omega) (a1 18 (by decide) (by decide) (by decide) (by decide)) (a4 6 (by omega)) (a7 _ (by omega) (by omega) (by omega) (by omega) (by omega) (by omega) (by omega) (by omega)) (fun a h1 h2 => a7 a (by omega) (by omega) (by omega) (by omega) (by omega) (by omega) (by omega) (by omega)) ((hr _ (by omega)).2 (by omega) (by omega))
  · have c1 := h1.fr2 (t' := t + 1) hK (by omega) (a7 _ (by omega) (by omega) (by omega) (by omega) (by omega) (by omega) (by omega) (by omega)) (fun a h1 h2 _ => a7 a (by omega) (by omega) (by omega) (by omega) (by omega) (by omega) (by omega) (by omega)) ((hr _ (by omega)).2 (by omega) (by omega))
    exact ⟨c1.1.cw c1.2.1.1.2.1 c1.2.1.1.2.2.2 hW, c1.2.1.cw hW (by rw [a8 3 (by decide)]; exact c1.2.1.2.2.2.2.2.2.2.2), c1.2.2.1, c1.2.2.2.1, by rw [a8 3 (by decide)]; exact c1.2.2.2.2⟩
  · exact mL.lo h2 (fun k hk => (a8 k hk).symm)
  · obtain ⟨q, r, g1, g2, g3, g4, g5, g6⟩ := hA
    refine ⟨q, r, g1, g2, by rw [a1 12 (by decide) (by decide) (by decide) (by decide)]; exact g3, by rw [a4 7 (by omega)]; exact g4, by rw [a1 13 (by decide) (by decide) (by decide) (by decide)]; exact g5, fun j hj => ?_⟩
    obtain ⟨pn', on', rm', q1, q2⟩ := g6 j hj
    have : (r + 11 - j) % 12 < 12 := Nat.mod_lt _ (by decide)
    rw [a7 (x + 358) (by omega) (by omega) (by omega) (by omega) (by omega) (by omega) (by omega) (by omega), a8 3 (by decide)]
    exact ⟨pn', on', rm', q1.fr2 hK (by omega) (a7 _ (by omega) (by omega) (by omega) (by omega) (by omega) (by omega) (by omega) (by omega)) (fun a h1 h2 _ => a7 a (by omega) (by omega) (by omega) (by omega) (by omega) (by omega) (by omega) (by omega)) ((hr _ (by omega)).2 (by omega) (by omega)), q2⟩
end OM
