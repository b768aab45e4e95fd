/-! A COURT'S TEXT: what it says -/
section KS
variable {iv jv kv : gV} {B : Nat → Int32} {e : Nat}
abbrev gCt : Type := (Nat → Int32) × Nat × Nat
def addP (W : Nat → Int32) (pn : Nat) (d j w s : Int32) : Nat → Int32 := va_up (va_up (va_up (va_up (va_up W (9 + 4 * pn + 0) d) (9 + 4 * pn + 1) j) (9 + 4 * pn + 2) w) (9 + 4 * pn + 3) s) 0 (iN (pn + 1))
def addO (W : Nat → Int32) (on : Nat) (d nv k : Int32) : Nat → Int32 := va_up (va_up (va_up (va_up (va_up W (41 + 4 * on + 0) d) (41 + 4 * on + 1) nv) (41 + 4 * on + 2) k) (41 + 4 * on + 3) 0) 1 (iN (on + 1))
noncomputable def pPr2 (B : Nat → Int32) (e : Nat) (W : Nat → Int32) (pn on : Nat) (d j s : Int32) (q : Nat) : gPR gCt := if tk B e (g_byt.getD 3 []) q = true then (match pNum B e (kW B e q) 0 99 with
    | .inr f => .inr f
    | .inl (w, r) => .inl ((addP W pn d j w s, pn + 1, on), r))
  else .inl ((addP W pn d j 0 s, pn + 1, on), kB B e q)
noncomputable def pPrp (B : Nat → Int32) (e : Nat) (W : Nat → Int32) (pn on f p : Nat) : gPR gCt := if pn = 8 then .inr f else match pLe B e p true with
  | .inr g => .inr g
  | .inl (s, q1) => match pAft B e (g_byt.getD 2 []) q1 0 20 with
    | .inr g => .inr g
    | .inl (j, q2) => if tk B e (g_byt.getD 8 []) q2 = true then (match pNum B e (kW B e q2) 0 9 with
        | .inr g => .inr g
        | .inl (sl, q3) => if sIn W pn sl = -1 then pPr2 B e W pn on (ntz s) j sl q3 else .inr (kB B e (kW B e q2)))
      else pPr2 B e W pn on (ntz s) j (-1) (kB B e q2)
noncomputable def pAc2 (B : Nat → Int32) (e : Nat) (W : Nat → Int32) (pn on : Nat) (nv d : Int32) (q : Nat) : gPR gCt := if tk B e (g_byt.getD 6 []) q = true then (match pNum B e (kW B e q) 0 (iN pn - 1) with
    | .inr f => .inr f
    | .inl (k, r) => .inl ((addO W on d nv ((1 : Int32) <<< (k &&& 31)), pn, on + 1), r))
  else .inl ((addO W on d nv 0, pn, on + 1), kB B e q)
noncomputable def pAcc (B : Nat → Int32) (e : Nat) (W : Nat → Int32) (pn on f p : Nat) : gPR gCt := if on = 6 then .inr f else match pAft B e (g_byt.getD 5 []) p 1 60 with
  | .inr g => .inr g
  | .inl (nv, q1) => if tk B e (g_byt.getD 10 []) q1 = true then (match pLe B e (kW B e q1) false with
      | .inr g => .inr g
      | .inl (s, q2) => pAc2 B e W pn on nv s q2)
    else pAc2 B e W pn on nv 0 (kB B e q1)
noncomputable def pFld (B : Nat → Int32) (e : Nat) (W : Nat → Int32) (pn on p : Nat) (hi : Int32) (k : Nat) : gPR gCt := match pNum B e p 0 hi with
  | .inr f => .inr f
  | .inl (v, r) => .inl ((va_up W k v, pn, on), r)
noncomputable def pCtL (B : Nat → Int32) (e : Nat) (c : gCt) (p : Nat) : gPR gCt := if tk B e (g_byt.getD 0 []) p = true then pPrp B e c.1 c.2.1 c.2.2 (kB B e p) (kW B e p)
  else if tk B e (g_byt.getD 9 []) p = true then pAcc B e c.1 c.2.1 c.2.2 (kB B e p) (kW B e p)
  else if tk B e (g_byt.getD 11 []) p = true then pFld B e c.1 c.2.1 c.2.2 (kW B e p) 9 5
  else if tk B e (g_byt.getD 12 []) p = true then pFld B e c.1 c.2.1 c.2.2 (kW B e p) 20 6
  else if tk B e (g_byt.getD 13 []) p = true then pFld B e c.1 c.2.1 c.2.2 (kW B e p) 999 4
  else .inr (kB B e p)
noncomputable def pCrt (B : Nat → Int32) (e : Nat) : Nat → Nat → gCt → Nat → gPR gCt
  | 0, _, _, p => .inr p
  | m + 1, n, c, p => match pMor B e p n 14 with
    | .inr f => .inr f
    | .inl (false, q) => .inl (c, q)
    | .inl (true, q) => match pCtL B e c q with
      | .inr f => .inr f
      | .inl (c', r) => pCrt B e m (n + 1) c' r
/-! what they keep -/
theorem sInF_s {W W' : Nat → Int32} {y : Int32} : ∀ k i : Nat, i + k < 1000 → (∀ p : Nat, i ≤ p → p < i + k → W' (9 + 4 * p + 3) = W (9 + 4 * p + 3)) → sInF W' y (k + 1) i = if sInF W y k i = -1 then (if W' (9 + 4 * (i + k) + 3) = y then iN (i + k) else -1) else sInF W y k i := by
  intro k
  induction k with
  | zero =>
    intro i _ h
    rw [sInF, sInF, sInF, if_pos rfl]
    rfl
  | succ k ih =>
    intro i hi h
    have h1 := h i (Nat.le_refl _) (by omega)
    rw [sInF, ih (i + 1) (by omega) (fun p a b => h p (by omega) (by omega)), sInF, h1, show i + 1 + k = i + (k + 1) by omega]
    by_cases c : W (9 + 4 * i + 3) = y
    · rw [if_pos c, if_pos c]
      by_cases c2 : iN i = -1
      · exact (iN_eqm (by omega) c2).elim
      · rw [if_neg c2]
    · rw [if_neg c, if_neg c]
theorem addP_k {W : Nat → Int32} {pn : Nat} {d j w s : Int32} {k : Nat} (h0 : k ≠ 0) (h1 : k < 9 + 4 * pn ∨ 9 + 4 * pn + 3 < k) : addP W pn d j w s k = W k := by
  unfold addP
  rw [va_up_ne _ _ h0, va_up_ne _ _ (by omega), va_up_ne _ _ (by omega), va_up_ne _ _ (by omega), va_up_ne _ _ (by omega)]
theorem addP_0 {W : Nat → Int32} {pn : Nat} {d j w s : Int32} : addP W pn d j w s 0 = iN (pn + 1) := va_up_self _ _ _
theorem addP_f {W : Nat → Int32} {pn : Nat} {d j w s : Int32} : addP W pn d j w s (9 + 4 * pn + 0) = d ∧ addP W pn d j w s (9 + 4 * pn + 1) = j ∧ addP W pn d j w s (9 + 4 * pn + 2) = w ∧ addP W pn d j w s (9 + 4 * pn + 3) = s := by
  unfold addP
  refine ⟨?_, ?_, ?_, ?_⟩
  · rw [va_up_ne _ _ (by omega), va_up_ne _ _ (by omega), va_up_ne _ _ (by omega), va_up_ne _ _ (by omega), va_up_self]
  · rw [va_up_ne _ _ (by omega), va_up_ne _ _ (by omega), va_up_ne _ _ (by omega), va_up_self]
  · rw [va_up_ne _ _ (by omega), va_up_ne _ _ (by omega), va_up_self]
  · rw [va_up_ne _ _ (by omega), va_up_self]
theorem addO_k {W : Nat → Int32} {on : Nat} {d nv s : Int32} {k : Nat} (h0 : k ≠ 1) (h1 : k < 41 + 4 * on ∨ 41 + 4 * on + 3 < k) : addO W on d nv s k = W k := by
  unfold addO
  rw [va_up_ne _ _ h0, va_up_ne _ _ (by omega), va_up_ne _ _ (by omega), va_up_ne _ _ (by omega), va_up_ne _ _ (by omega)]
theorem addO_0 {W : Nat → Int32} {on : Nat} {d nv s : Int32} : addO W on d nv s 1 = iN (on + 1) := va_up_self _ _ _
theorem addO_f {W : Nat → Int32} {on : Nat} {d nv s : Int32} : addO W on d nv s (41 + 4 * on + 0) = d ∧ addO W on d nv s (41 + 4 * on + 1) = nv ∧ addO W on d nv s (41 + 4 * on + 2) = s ∧ addO W on d nv s (41 + 4 * on + 3) = 0 := by
  unfold addO
  refine ⟨?_, ?_, ?_, ?_⟩
  · rw [va_up_ne _ _ (by omega), va_up_ne _ _ (by omega), va_up_ne _ _ (by omega), va_up_ne _ _ (by omega), va_up_self]
  · rw [va_up_ne _ _ (by omega), va_up_ne _ _ (by omega), va_up_ne _ _ (by omega), va_up_self]
  · rw [va_up_ne _ _ (by omega), va_up_ne _ _ (by omega), va_up_self]
  · rw [va_up_ne _ _ (by omega), va_up_self]
/-- a prop more -/
theorem WI.moP {W : Nat → Int32} {pn on : Nat} (h : WI W pn on) (hp : pn < 8) {d j w : Nat} (hd : d < 6) (hj : j ≤ 20) (hw : w ≤ 99) {s : Int32} (hs : s = -1 ∨ ∃ k : Nat, k < 10 ∧ s = iN k) (hf : s ≠ -1 → sIn W pn s = -1) : WI (addP W pn (iN d) (iN j) (iN w) s) (pn + 1) on := by
  obtain ⟨⟨a1, a2, a3, a4⟩, b, c, o, f1, f2, f3, f4, f5⟩ := h
  obtain ⟨g0, g1, g2, g3⟩ := addP_f (W := W) (pn := pn) (d := iN d) (j := iN j) (w := iN w) (s := s)
  have old : ∀ p : Nat, p < pn → ∀ f : Nat, f < 4 → addP W pn (iN d) (iN j) (iN w) s (9 + 4 * p + f) = W (9 + 4 * p + f) := fun p hp f hf => addP_k (by omega) (by omega)
  have notin : s ≠ -1 → ∀ p : Nat, p < pn → W (9 + 4 * p + 3) ≠ s := by
    intro hs1 p hp1 he
    have := sInF_found c hp1 he hs1 pn 0 (by omega) (by omega)
    have h2 := hf hs1
    unfold sIn at h2
    rw [h2] at this
    exact iN_eqm (by omega) this.symm
  have o1 : ∀ q : Nat, q < on → ∀ f : Nat, f < 4 → addP W pn (iN d) (iN j) (iN w) s (41 + 4 * q + f) = W (41 + 4 * q + f) := fun q hq f hf => addP_k (by omega) (by omega)
  refine ⟨⟨addP_0, by omega, (addP_k (by decide) (by omega)).trans a3, a4⟩, fun p hp' => ?_, fun p q hp' hq' he hn => ?_, fun q hq => ?_, ?_, ?_, ?_, ?_, ?_⟩
  · by_cases e' : p = pn
    · subst e'
      rw [g0, g1, g2, g3]
      exact ⟨hs, ⟨d, hd, rfl⟩, ⟨j, hj, rfl⟩, w, hw, rfl⟩
    · rw [old p (by omega) 3 (by decide), old p (by omega) 0 (by decide), old p (by omega) 1 (by decide), old p (by omega) 2 (by decide)]
      exact b p (by omega)
  · by_cases e1 : p = pn
    · by_cases e2 : q = pn
      · rw [e1, e2]
      · exfalso
        rw [e1, g3] at he hn
        rw [old q (by omega) 3 (by decide)] at he
        exact notin hn q (by omega) he.symm
    · by_cases e2 : q = pn
      · exfalso
        rw [old p (by omega) 3 (by decide)] at he hn
        rw [e2, g3] at he
        rw [he] at hn
        exact notin hn p (by omega) he
      · rw [old p (by omega) 3 (by decide)] at he hn
        rw [old q (by omega) 3 (by decide)] at he
        exact c p q (by omega) (by omega) he hn
  · rw [o1 q hq 0 (by decide), o1 q hq 1 (by decide), o1 q hq 2 (by decide), o1 q hq 3 (by decide)]
    exact o q hq
  · rw [addP_k (by decide) (by omega)]; exact f1
  · rw [addP_k (by decide) (by omega)]; exact f2
  · rw [addP_k (by decide) (by omega)]; exact f3
  · rw [addP_k (by decide) (by omega)]; exact f4
  · rw [addP_k (by decide) (by omega)]; exact f5
/-- an accused more -/
theorem WI.moO {W : Nat → Int32} {pn on : Nat} (h : WI W pn on) (hp : on < 6) {d nv k : Nat} (hd : d < 64) (hn : 1 ≤ nv ∧ nv ≤ 60) (hk : k < 256) : WI (addO W on (iN d) (iN nv) (iN k)) pn (on + 1) := by
  obtain ⟨⟨a1, a2, a3, a4⟩, b, c, o, f1, f2, f3, f4, f5⟩ := h
  obtain ⟨g0, g1, g2, g3⟩ := addO_f (W := W) (on := on) (d := iN d) (nv := iN nv) (s := iN k)
  have old : ∀ p : Nat, p < pn → ∀ f : Nat, f < 4 → addO W on (iN d) (iN nv) (iN k) (9 + 4 * p + f) = W (9 + 4 * p + f) := fun p hp f hf => addO_k (by omega) (by omega)
  have o1 : ∀ q : Nat, q < on → ∀ f : Nat, f < 4 → addO W on (iN d) (iN nv) (iN k) (41 + 4 * q + f) = W (41 + 4 * q + f) := fun q hq f hf => addO_k (by omega) (by omega)
  refine ⟨⟨(addO_k (by decide) (by omega)).trans a1, a2, addO_0, by omega⟩, fun p hp' => ?_, fun p q hp' hq' => ?_, fun q hq => ?_, ?_, ?_, ?_, ?_, ?_⟩
  · rw [old p hp' 3 (by decide), old p hp' 0 (by decide), old p hp' 1 (by decide), old p hp' 2 (by decide)]
    exact b p hp'
  · rw [old p hp' 3 (by decide), old q hq' 3 (by decide)]
    exact c p q hp' hq'
  · by_cases e' : q = on
    · subst e'
      rw [g0, g1, g2, g3]
      exact ⟨⟨d, hd, rfl⟩, ⟨nv, hn.1, hn.2, rfl⟩, ⟨k, hk, rfl⟩, 0, by decide, rfl⟩
    · rw [o1 q (by omega) 0 (by decide), o1 q (by omega) 1 (by decide), o1 q (by omega) 2 (by decide), o1 q (by omega) 3 (by decide)]
      exact o q (by omega)
  · rw [addO_k (by decide) (by omega)]; exact f1
  · rw [addO_k (by decide) (by omega)]; exact f2
  · rw [addO_k (by decide) (by omega)]; exact f3
  · rw [addO_k (by decide) (by omega)]; exact f4
  · rw [addO_k (by decide) (by omega)]; exact f5
theorem cSt.moP {b : Nat} {W : Nat → Int32} {pn on rm : Nat} (h : cSt iv b W pn on rm) (hW : WI W pn on) (hp : pn < 8) {d j w s : Int32} (hs : s ≠ -1 → sIn W pn s = -1)
    (e0 : ∀ k : Nat, k ≠ 6 → k ≠ 8 → jv b k = iv b k) (e6 : jv b 6 = iN (pn + 1)) (ep : jv (b + 7 + pn) 0 = d ∧ jv (b + 7 + pn) 1 = j ∧ jv (b + 7 + pn) 2 = w ∧ jv (b + 7 + pn) 3 = s) (e4 : ∀ k : Nat, k < 10 → jv (b + 4) k = if s = iN k then iN pn else iv (b + 4) k)
    (e : ∀ a : Nat, b < a → a < b + 21 → a ≠ b + 4 → a ≠ b + 5 → a ≠ b + 7 + pn → jv a = iv a) : cSt jv b (addP W pn d j w s) (pn + 1) on rm := by
  have h8 := hW.1.2.1
  have h6 := hW.1.2.2.2
  obtain ⟨⟨s1, s2, s3, s4, s5, s6, s7, s8⟩, sp, so, sl, sg, sr⟩ := h
  obtain ⟨g0, g1, g2, g3⟩ := addP_f (W := W) (pn := pn) (d := d) (j := j) (w := w) (s := s)
  refine ⟨⟨?_, ?_, ?_, ?_, ?_, ?_, ?_, ?_⟩, fun p hp' f hf => ?_, fun o ho f hf => ?_, fun k hk => ?_, ?_, fun a ha f hf => ?_⟩
  · rw [e6, addP_0]
  · rw [e0 7 (by decide) (by decide), addP_k (by decide) (by omega)]; exact s2
  · rw [e0 9 (by decide) (by decide), addP_k (by decide) (by omega)]; exact s3
  · rw [e0 10 (by decide) (by decide), addP_k (by decide) (by omega)]; exact s4
  · rw [e0 11 (by decide) (by decide), addP_k (by decide) (by omega)]; exact s5
  · rw [e0 12 (by decide) (by decide), addP_k (by decide) (by omega)]; exact s6
  · rw [e0 13 (by decide) (by decide), addP_k (by decide) (by omega)]; exact s7
  · rw [e0 14 (by decide) (by decide)]; exact s8
  · by_cases e' : p = pn
    · subst e'
      have : f = 0 ∨ f = 1 ∨ f = 2 ∨ f = 3 := by omega
      rcases this with rfl | rfl | rfl | rfl
      · rw [g0]; exact ep.1
      · rw [g1]; exact ep.2.1
      · rw [g2]; exact ep.2.2.1
      · rw [g3]; exact ep.2.2.2
    · rw [e _ (by omega) (by omega) (by omega) (by omega) (by omega), addP_k (by omega) (by omega)]
      exact sp p (by omega) f hf
  · rw [e _ (by omega) (by omega) (by omega) (by omega) (by omega), addP_k (by omega) (by omega)]
    exact so o ho f hf
  · rw [e4 k hk, sl k hk]
    unfold sIn
    rw [sInF_s pn 0 (by omega) (fun p _ hp' => addP_k (by omega) (by omega)), Nat.zero_add, g3]
    by_cases c : s = iN k
    · have hn : s ≠ -1 := by rw [c]; exact iN_eqm (by omega)
      have := hs hn
      unfold sIn at this
      rw [c] at this
      rw [if_pos c, if_pos this, if_pos c]
    · rw [if_neg c, if_neg c]
      by_cases c2 : sInF W (iN k) pn 0 = -1
      · rw [if_pos c2, c2]
      · rw [if_neg c2]
  · rw [addP_k (by decide) (by omega)]; exact sg
  · rw [e _ (by omega) (by omega) (by omega) (by omega) (by omega), addP_k (by omega) (by omega)]
    exact sr a ha f hf
theorem cSt.moO {b : Nat} {W : Nat → Int32} {pn on rm : Nat} (h : cSt iv b W pn on rm) (hW : WI W pn on) (hp : on < 6) {d nv k0 : Int32}
    (e0 : ∀ k : Nat, k ≠ 7 → k ≠ 8 → jv b k = iv b k) (e6 : jv b 7 = iN (on + 1)) (ep : jv (b + 15 + on) 0 = d ∧ jv (b + 15 + on) 1 = nv ∧ jv (b + 15 + on) 2 = k0 ∧ jv (b + 15 + on) 3 = 0)
    (e : ∀ a : Nat, b < a → a < b + 21 → a ≠ b + 5 → a ≠ b + 15 + on → jv a = iv a) : cSt jv b (addO W on d nv k0) pn (on + 1) rm := by
  have h8 := hW.1.2.1
  have h6 := hW.1.2.2.2
  obtain ⟨⟨s1, s2, s3, s4, s5, s6, s7, s8⟩, sp, so, sl, sg, sr⟩ := h
  obtain ⟨g0, g1, g2, g3⟩ := addO_f (W := W) (on := on) (d := d) (nv := nv) (s := k0)
  refine ⟨⟨?_, ?_, ?_, ?_, ?_, ?_, ?_, ?_⟩, fun p hp' f hf => ?_, fun o ho f hf => ?_, fun k hk => ?_, ?_, fun a ha f hf => ?_⟩
  · rw [e0 6 (by decide) (by decide), addO_k (by decide) (by omega)]; exact s1
  · rw [e6, addO_0]
  · rw [e0 9 (by decide) (by decide), addO_k (by decide) (by omega)]; exact s3
  · rw [e0 10 (by decide) (by decide), addO_k (by decide) (by omega)]; exact s4
  · rw [e0 11 (by decide) (by decide), addO_k (by decide) (by omega)]; exact s5
  · rw [e0 12 (by decide) (by decide), addO_k (by decide) (by omega)]; exact s6
  · rw [e0 13 (by decide) (by decide), addO_k (by decide) (by omega)]; exact s7
  · rw [e0 14 (by decide) (by decide)]; exact s8
  · rw [e _ (by omega) (by omega) (by omega) (by omega), addO_k (by omega) (by omega)]
    exact sp p hp' f hf
  · by_cases e' : o = on
    · subst e'
      have : f = 0 ∨ f = 1 ∨ f = 2 ∨ f = 3 := by omega
      rcases this with rfl | rfl | rfl | rfl
      · rw [g0]; exact ep.1
      · rw [g1]; exact ep.2.1
      · rw [g2]; exact ep.2.2.1
      · rw [g3]; exact ep.2.2.2
    · rw [e _ (by omega) (by omega) (by omega) (by omega), addO_k (by omega) (by omega)]
      exact so o (by omega) f hf
  · rw [e _ (by omega) (by omega) (by omega) (by omega), sIn_c (fun p hp => addO_k (by omega) (by omega))]
    exact sl k hk
  · rw [addO_k (by decide) (by omega)]; exact sg
  · rw [e _ (by omega) (by omega) (by omega) (by omega), addO_k (by omega) (by omega)]
    exact sr a ha f hf
/-- a field of the court -/
theorem cSt.fld {b k f : Nat} {W : Nat → Int32} {pn on rm : Nat} {v : Int32} (h : cSt iv b W pn on rm) (hW : WI W pn on) (hkf : (k = 4 ∧ f = 10) ∨ (k = 5 ∧ f = 11) ∨ (k = 6 ∧ f = 12) ∨ (k = 8 ∧ f = 13) ∨ (k = 2 ∧ f = 9)) (e0 : ∀ j : Nat, j ≠ f → j ≠ 8 → jv b j = iv b j) (ef : jv b f = v) (e : ∀ a : Nat, b < a → a < b + 21 → a ≠ b + 5 → jv a = iv a) : cSt jv b (va_up W k v) pn on rm := by
  have h8 := hW.1.2.1
  have h6 := hW.1.2.2.2
  obtain ⟨⟨s1, s2, s3, s4, s5, s6, s7, s8⟩, sp, so, sl, sg, sr⟩ := h
  have fl : ∀ j i : Nat, ((j = 0 ∧ i = 6) ∨ (j = 1 ∧ i = 7) ∨ (j = 2 ∧ i = 9) ∨ (j = 4 ∧ i = 10) ∨ (j = 5 ∧ i = 11) ∨ (j = 6 ∧ i = 12) ∨ (j = 8 ∧ i = 13)) → iv b i = W j → jv b i = va_up W k v j := by
    intro j i hji hi
    by_cases c : j = k
    · have : i = f := by omega
      rw [c, va_up_self, this, ef]
    · rw [va_up_ne _ _ c, e0 i (by omega) (by omega), hi]
  refine ⟨⟨fl 0 6 (by omega) s1, fl 1 7 (by omega) s2, fl 2 9 (by omega) s3, fl 4 10 (by omega) s4, fl 5 11 (by omega) s5, fl 6 12 (by omega) s6, fl 8 13 (by omega) s7, ?_⟩, fun p hp' i hf => ?_, fun o ho i hf => ?_, fun s hs => ?_, ?_, fun a ha i hf => ?_⟩
  · rw [e0 14 (by omega) (by decide)]; exact s8
  · rw [e _ (by omega) (by omega) (by omega), va_up_ne _ _ (by omega)]; exact sp p hp' i hf
  · rw [e _ (by omega) (by omega) (by omega), va_up_ne _ _ (by omega)]; exact so o ho i hf
  · rw [e _ (by omega) (by omega) (by omega), sIn_c (fun p hp => va_up_ne _ _ (by omega))]; exact sl s hs
  · rw [va_up_ne _ _ (by omega)]; exact sg
  · rw [e _ (by omega) (by omega) (by omega), va_up_ne _ _ (by omega)]; exact sr a ha i hf
theorem WI.fld {W : Nat → Int32} {pn on k : Nat} {v : Int32} (h : WI W pn on) (hk : k < 9 ∧ k ≠ 0 ∧ k ≠ 1 ∧ k ≠ 3) (h2 : k = 2 → ∃ t : Nat, t ≤ 12 ∧ v = iN t) (h4 : k = 4 → ∃ t : Nat, t ≤ 9999 ∧ v = iN t) (h5 : k = 5 → ∃ t : Nat, t ≤ 9 ∧ v = iN t) (h6 : k = 6 → ∃ t : Nat, t ≤ 20 ∧ v = iN t) : WI (va_up W k v) pn on := by
  obtain ⟨⟨a1, a2, a3, a4⟩, b, c, o, f1, f2, f3, f4, f5⟩ := h
  refine ⟨⟨by rw [va_up_ne _ _ (Ne.symm hk.2.1)]; exact a1, a2, by rw [va_up_ne _ _ (Ne.symm hk.2.2.1)]; exact a3, a4⟩, fun p hp => ?_, fun p q hp hq => ?_, fun q hq => ?_, ?_, ?_, ?_, ?_, ?_⟩
  · rw [va_up_ne _ _ (by omega), va_up_ne _ _ (by omega), va_up_ne _ _ (by omega), va_up_ne _ _ (by omega)]; exact b p hp
  · rw [va_up_ne _ _ (by omega), va_up_ne _ _ (by omega)]; exact c p q hp hq
  · rw [va_up_ne _ _ (by omega), va_up_ne _ _ (by omega), va_up_ne _ _ (by omega), va_up_ne _ _ (by omega)]; exact o q hq
  · by_cases e' : k = 2
    · rw [e', va_up_self]; exact h2 e'
    · rw [va_up_ne _ _ (by omega)]; exact f1
  · by_cases e' : k = 4
    · rw [e', va_up_self]; exact h4 e'
    · rw [va_up_ne _ _ (by omega)]; exact f2
  · by_cases e' : k = 5
    · rw [e', va_up_self]; exact h5 e'
    · rw [va_up_ne _ _ (by omega)]; exact f3
  · by_cases e' : k = 6
    · rw [e', va_up_self]; exact h6 e'
    · rw [va_up_ne _ _ (by omega)]; exact f4
  · rw [va_up_ne _ _ (Ne.symm hk.2.2.2)]; exact f5
end KS
