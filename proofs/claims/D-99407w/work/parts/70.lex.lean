/-! READING: what both readers see of a text -/
section LX
variable {B : Nat → Int32} {e : Nat}
/-- past all bytes of a kind -/
def skG (f : Int32 → Bool) (B : Nat → Int32) (e : Nat) : Nat → Nat → Nat
  | 0, p => p
  | k + 1, p => if p < e ∧ f (B p) = true then skG f B e k (p + 1) else p
def sk (f : Int32 → Bool) (B : Nat → Int32) (e p : Nat) : Nat := skG f B e (e - p) p
theorem sk_on {f : Int32 → Bool} {p : Nat} (h : p < e) (hf : f (B p) = true) : sk f B e p = sk f B e (p + 1) := by
  unfold sk
  obtain ⟨k, hk⟩ : ∃ k, e - p = k + 1 := ⟨e - p - 1, by omega⟩
  rw [hk, skG, if_pos ⟨h, hf⟩, show e - (p + 1) = k by omega]
theorem sk_off {f : Int32 → Bool} {p : Nat} (h : ¬ (p < e ∧ f (B p) = true)) : sk f B e p = p := by
  unfold sk
  cases hk : e - p with
  | zero => rfl
  | succ k => rw [skG, if_neg h]
theorem skG_b {f : Int32 → Bool} : ∀ k p : Nat, p + k = e → p ≤ skG f B e k p ∧ skG f B e k p ≤ e ∧ (∀ j : Nat, p ≤ j → j < skG f B e k p → f (B j) = true) ∧ (skG f B e k p < e → f (B (skG f B e k p)) = false) := by
  intro k
  induction k with
  | zero => intro p h; rw [skG]; exact ⟨by omega, by omega, fun j _ _ => by omega, fun _ => by omega⟩
  | succ k ih =>
    intro p h
    rw [skG]
    by_cases hc : p < e ∧ f (B p) = true
    · rw [if_pos hc]
      obtain ⟨h1, h2, h3, h4⟩ := ih (p + 1) (by omega)
      refine ⟨by omega, h2, fun j q1 q2 => ?_, h4⟩
      by_cases e' : j = p
      · rw [e']; exact hc.2
      · exact h3 j (by omega) q2
    · rw [if_neg hc]
      refine ⟨by omega, by omega, fun j _ _ => by omega, fun q => ?_⟩
      cases hv : f (B p) with
      | false => rfl
      | true => exact (hc ⟨q, hv⟩).elim
theorem sk_b {f : Int32 → Bool} {p : Nat} (h : p ≤ e) : p ≤ sk f B e p ∧ sk f B e p ≤ e ∧ (∀ j : Nat, p ≤ j → j < sk f B e p → f (B j) = true) ∧ (sk f B e p < e → f (B (sk f B e p)) = false) := skG_b (e - p) p (by omega)
theorem sk_sk {f : Int32 → Bool} {p : Nat} (h : p ≤ e) : sk f B e (sk f B e p) = sk f B e p := by
  obtain ⟨h1, h2, h3, h4⟩ := sk_b (f := f) (B := B) h
  exact sk_off (fun q => by rw [h4 q.1] at q; cases q.2)
def isBl (c : Int32) : Bool := decide (c = 32)
def isLe (c : Int32) : Bool := decide (97 ≤ c ∧ c ≤ 122)
def isDi (c : Int32) : Bool := decide (48 ≤ c ∧ c ≤ 57)
def kB (B : Nat → Int32) (e p : Nat) : Nat := sk isBl B e p
def kL (B : Nat → Int32) (e p : Nat) : Nat := sk isLe B e p
def kD (B : Nat → Int32) (e p : Nat) : Nat := sk isDi B e p
/-- a word ends where letters end -/
def kW (B : Nat → Int32) (e p : Nat) : Nat := kL B e (kB B e p)
theorem kB_s {p : Nat} (h : p ≤ e) : p ≤ kB B e p ∧ kB B e p ≤ e ∧ (∀ j : Nat, p ≤ j → j < kB B e p → isBl (B j) = true) ∧ (kB B e p < e → isBl (B (kB B e p)) = false) := sk_b h
theorem kL_s {p : Nat} (h : p ≤ e) : p ≤ kL B e p ∧ kL B e p ≤ e ∧ (∀ j : Nat, p ≤ j → j < kL B e p → isLe (B j) = true) ∧ (kL B e p < e → isLe (B (kL B e p)) = false) := sk_b h
theorem kD_s {p : Nat} (h : p ≤ e) : p ≤ kD B e p ∧ kD B e p ≤ e ∧ (∀ j : Nat, p ≤ j → j < kD B e p → isDi (B j) = true) ∧ (kD B e p < e → isDi (B (kD B e p)) = false) := sk_b h
theorem kB_b {p : Nat} (h : p ≤ e) : p ≤ kB B e p ∧ kB B e p ≤ e := ⟨(kB_s h).1, (kB_s h).2.1⟩
theorem kW_s {p : Nat} (h : p ≤ e) : kB B e p ≤ kW B e p ∧ kW B e p ≤ e ∧ (∀ j : Nat, kB B e p ≤ j → j < kW B e p → isLe (B j) = true) := ⟨(kL_s (kB_b h).2).1, (kL_s (kB_b h).2).2.1, (kL_s (kB_b h).2).2.2.1⟩
theorem kW_b {p : Nat} (h : p ≤ e) : kB B e p ≤ kW B e p ∧ kW B e p ≤ e := ⟨(kW_s h).1, (kW_s h).2.1⟩
/-- the bytes from f + j on are those of w -/
def cE (B : Nat → Int32) (f : Nat) (w : List Int32) : Nat → Nat → Bool
  | 0, _ => true
  | k + 1, j => decide (B (f + j) = w.getD j 0) && cE B f w k (j + 1)
/-- the bytes from f to g are the word w -/
def wIs (B : Nat → Int32) (w : List Int32) (f g : Nat) : Bool := decide (g - f = w.length) && cE B f w w.length 0
/-- the word w stands next; where one is then -/
def tk (B : Nat → Int32) (e : Nat) (w : List Int32) (p : Nat) : Bool := wIs B w (kB B e p) (kW B e p)
def kT (B : Nat → Int32) (e : Nat) (w : List Int32) (p : Nat) : Nat := if tk B e w p = true then kW B e p else kB B e p
/-- bytes are bytes -/
def okB (B : Nat → Int32) (e : Nat) : Prop := e ≤ 400 ∧ ∀ k : Nat, k < e → ∃ c : Nat, c < 256 ∧ B k = Int32.ofInt ((c : Int) - 128)
/-- what stands next, blanks being passed -/
def sgn (B : Nat → Int32) (e p : Nat) : Int32 := if kB B e p < e then B (kB B e p) &&& 255 else -1
theorem by_255 : ∀ c : Nat, c < 256 → ∀ k : Nat, k < 127 → ((Int32.ofInt ((c : Int) - 128) &&& 255 = iN k) ↔ Int32.ofInt ((c : Int) - 128) = iN k) := by decide +kernel
theorem by_m1 : ∀ c : Nat, c < 256 → ¬ (Int32.ofInt ((c : Int) - 128) &&& 255 = -1) := by decide +kernel
theorem by_di : ∀ c : Nat, c < 256 → ((48 ≤ Int32.ofInt ((c : Int) - 128) &&& 255 ∧ Int32.ofInt ((c : Int) - 128) &&& 255 ≤ 57) ↔ (48 ≤ Int32.ofInt ((c : Int) - 128) ∧ Int32.ofInt ((c : Int) - 128) ≤ 57)) := by decide +kernel
/-- a sign stands next -/
def isS (B : Nat → Int32) (e p k : Nat) : Bool := decide (kB B e p < e) && decide (B (kB B e p) = iN k)
theorem sgn_is (hB : okB B e) {p k : Nat} (hk : k < 127) : sgn B e p = iN k ↔ isS B e p k = true := by
  unfold sgn isS
  by_cases h : kB B e p < e
  · rw [if_pos h]
    obtain ⟨c, hc, h2⟩ := hB.2 _ h
    rw [h2, by_255 c hc k hk]
    simp [h]
  · rw [if_neg h]
    simp only [h, decide_false, Bool.false_and]
    exact ⟨fun q => (iN_eqm (by omega) q.symm).elim, fun q => by cases q⟩
theorem sgn_m1 (hB : okB B e) {p : Nat} (hp : p ≤ e) : sgn B e p = -1 ↔ kB B e p = e := by
  unfold sgn
  have := (kB_s (B := B) hp).2.1
  by_cases h : kB B e p < e
  · rw [if_pos h]
    obtain ⟨c, hc, h2⟩ := hB.2 _ h
    rw [h2]
    exact ⟨fun q => (by_m1 c hc q).elim, fun q => by omega⟩
  · rw [if_neg h]
    exact ⟨fun _ => by omega, fun _ => rfl⟩
/-- the number that digits say -/
def dV (B : Nat → Int32) (f : Nat) : Nat → Int32
  | 0 => 0
  | k + 1 => ((10 : Int32) * dV B f k + B (f + k)) - 48
abbrev gPR (α : Type) : Type := (α × Nat) ⊕ Nat
def okN (B : Nat → Int32) (e f : Nat) (lo hi : Int32) : Prop := kD B e f ≠ f ∧ kD B e f - f ≤ 3 ∧ lo ≤ dV B f (kD B e f - f) ∧ dV B f (kD B e f - f) ≤ hi
noncomputable def pNum (B : Nat → Int32) (e p : Nat) (lo hi : Int32) : gPR Int32 := @ite _ (okN B e (kB B e p) lo hi) (Classical.propDecidable _) (.inl (dV B (kB B e p) (kD B e (kB B e p) - kB B e p), kD B e (kB B e p))) (.inr (kB B e p))
theorem pNum_t {p : Nat} {lo hi : Int32} (h : okN B e (kB B e p) lo hi) : pNum B e p lo hi = .inl (dV B (kB B e p) (kD B e (kB B e p) - kB B e p), kD B e (kB B e p)) := if_pos h
theorem pNum_f {p : Nat} {lo hi : Int32} (h : ¬ okN B e (kB B e p) lo hi) : pNum B e p lo hi = .inr (kB B e p) := if_neg h
theorem dV_n {f : Nat} : ∀ k : Nat, k ≤ 3 → (∀ j : Nat, f ≤ j → j < f + k → isDi (B j) = true) → ∃ v : Nat, v < 10 ^ k ∧ dV B f k = iN v := by
  intro k
  induction k with
  | zero => exact fun _ _ => ⟨0, by decide, rfl⟩
  | succ k ih =>
    intro hk h
    obtain ⟨v, h1, h2⟩ := ih (by omega) (fun j a b => h j a (by omega))
    have hd := h (f + k) (by omega) (by omega)
    unfold isDi at hd
    rw [decide_eq_true_eq] at hd
    obtain ⟨d, hd1, hd2⟩ : ∃ d : Nat, d ≤ 57 ∧ B (f + k) = iN d ∧ 48 ≤ d := by
      obtain ⟨d, q1, q2⟩ := i_get2 (n := 57) (by decide) ⟨Int32.le_trans (by decide : (0 : Int32) ≤ 48) hd.1, hd.2⟩
      refine ⟨d, q1, q2, ?_⟩
      have := hd.1
      rw [q2, show (48 : Int32) = iN 48 from rfl, iN_le (by omega) (by omega)] at this
      exact this
    have hp : 10 ^ k ≤ 100 := by
      have : k = 0 ∨ k = 1 ∨ k = 2 := by omega
      rcases this with rfl | rfl | rfl <;> decide
    refine ⟨10 * v + d - 48, ?_, ?_⟩
    · rw [Nat.pow_succ]; omega
    · rw [dV, h2, hd2.1, show (10 : Int32) = iN 10 from rfl, iN_mul, iN_add, show (48 : Int32) = iN 48 from rfl, iN_sub (by omega)]
/-- a number that is well is a number of at most three figures -/
theorem pNum_n {p : Nat} (hp : p ≤ e) {lo hi v : Int32} {q : Nat} (h : pNum B e p lo hi = .inl (v, q)) : p < q ∧ q ≤ e ∧ lo ≤ v ∧ v ≤ hi ∧ ∃ k : Nat, k ≤ 999 ∧ v = iN k := by
  by_cases hc : okN B e (kB B e p) lo hi
  · rw [pNum_t hc] at h
    injection h with h
    injection h with h1 h2
    obtain ⟨b1, b2, -⟩ := kB_s (B := B) hp
    obtain ⟨d1, d2, d3, -⟩ := kD_s (B := B) b2
    obtain ⟨c1, c2, c3, c4⟩ := hc
    obtain ⟨k, k1, k2⟩ := dV_n (B := B) (f := kB B e p) (kD B e (kB B e p) - kB B e p) c2 (fun j a b => d3 j a (by omega))
    have hpw : 10 ^ (kD B e (kB B e p) - kB B e p) ≤ 10 ^ 3 := Nat.pow_le_pow_right (by decide) c2
    refine ⟨by omega, by omega, h1 ▸ c3, h1 ▸ c4, k, by omega, h1 ▸ k2⟩
  · rw [pNum_f hc] at h
    cases h
/-- letters of deeds, none twice -/
def lB (B : Nat → Int32) (f : Nat) : Nat → Option Int32
  | 0 => some 0
  | k + 1 => match lB B f k with
    | none => none
    | some s => if 6 ≤ B (f + k) - 97 ∨ (s >>> ((B (f + k) - 97) &&& 31)) &&& 1 = 1 then none else some (s ||| ((1 : Int32) <<< ((B (f + k) - 97) &&& 31)))
def pLet (B : Nat → Int32) (e p : Nat) : gPR Int32 := if kW B e p = kB B e p then .inr (kB B e p) else match lB B (kB B e p) (kW B e p - kB B e p) with
  | none => .inr (kB B e p)
  | some s => .inl (s, kW B e p)
theorem lB_n {f : Nat} : ∀ k : Nat, (∀ j : Nat, f ≤ j → j < f + k → isLe (B j) = true) → ∀ s : Int32, lB B f k = some s → ∃ v : Nat, v < 64 ∧ s = iN v := by
  intro k
  induction k with
  | zero => intro _ s h; injection h with h; exact ⟨0, by decide, h.symm⟩
  | succ k ih =>
    intro hl s h
    rw [lB] at h
    cases hs : lB B f k with
    | none => rw [hs] at h; cases h
    | some s0 =>
      rw [hs] at h
      obtain ⟨v, hv, rfl⟩ := ih (fun j a b => hl j a (by omega)) s0 hs
      have hd := hl (f + k) (by omega) (by omega)
      unfold isLe at hd
      rw [decide_eq_true_eq] at hd
      obtain ⟨d, q1, q2⟩ := i_get2 (n := 122) (by decide) ⟨Int32.le_trans (by decide : (0 : Int32) ≤ 97) hd.1, hd.2⟩
      have q3 : 97 ≤ d := by
        have := hd.1
        rw [q2, show (97 : Int32) = iN 97 from rfl, iN_le (by omega) (by omega)] at this
        exact this
      have q4 : B (f + k) - 97 = iN (d - 97) := by rw [q2, show (97 : Int32) = iN 97 from rfl, iN_sub q3]
      simp only [q4] at h
      by_cases hc : 6 ≤ iN (d - 97) ∨ (iN v >>> (iN (d - 97) &&& 31)) &&& 1 = 1
      · rw [if_pos hc] at h; cases h
      · rw [if_neg hc] at h
        injection h with h
        have h6 : d - 97 < 6 := by
          have : ¬ 6 ≤ iN (d - 97) := fun q => hc (Or.inl q)
          rw [show (6 : Int32) = iN 6 from rfl, iN_le (by omega) (by omega)] at this
          omega
        have hb : ∀ v : Nat, v < 64 → ∀ k : Nat, k < 6 → ∃ w : Nat, w < 64 ∧ iN v ||| ((1 : Int32) <<< (iN k &&& 31)) = iN w := by decide +kernel
        obtain ⟨w, w1, w2⟩ := hb v hv (d - 97) h6
        exact ⟨w, w1, by rw [← h, w2]⟩
theorem pLet_n {p : Nat} (hp : p ≤ e) {s : Int32} {q : Nat} (h : pLet B e p = .inl (s, q)) : p < q ∧ q ≤ e ∧ ∃ v : Nat, v < 64 ∧ s = iN v := by
  unfold pLet at h
  obtain ⟨b1, b2, -⟩ := kB_s (B := B) hp
  obtain ⟨d1, d2, d3⟩ := kW_s (B := B) hp
  by_cases hc : kW B e p = kB B e p
  · rw [if_pos hc] at h; cases h
  · rw [if_neg hc] at h
    cases hl : lB B (kB B e p) (kW B e p - kB B e p) with
    | none => rw [hl] at h; cases h
    | some s0 =>
      rw [hl] at h
      injection h with h
      injection h with h1 h2
      obtain ⟨v, v1, v2⟩ := lB_n _ (fun j a b => d3 j a (by omega)) s0 hl
      exact ⟨by omega, by omega, v, v1, h1 ▸ v2⟩
theorem kT_t {w : List Int32} {p : Nat} (h : tk B e w p = true) : kT B e w p = kW B e p := if_pos h
theorem kT_f {w : List Int32} {p : Nat} (h : ¬ tk B e w p = true) : kT B e w p = kB B e p := if_neg h
theorem kT_b {w : List Int32} {p : Nat} (h : p ≤ e) : p ≤ kT B e w p ∧ kT B e w p ≤ e := by
  have h1 := kB_b (B := B) h
  have h2 := kW_b (B := B) h
  unfold kT
  by_cases hc : tk B e w p = true
  · rw [if_pos hc]; omega
  · rw [if_neg hc]; omega
theorem kBB {p : Nat} (h : p ≤ e) : kB B e (kB B e p) = kB B e p := sk_sk h
theorem kWB {p : Nat} (h : p ≤ e) : kW B e (kB B e p) = kW B e p := by unfold kW; rw [kBB h]
theorem tk_kB {w : List Int32} {p : Nat} (h : p ≤ e) : tk B e w (kB B e p) = tk B e w p := by unfold tk; rw [kWB h, kBB h]
theorem tk_l {w : List Int32} {p : Nat} (h : tk B e w p = true) : kW B e p - kB B e p = w.length := by
  unfold tk wIs at h
  rw [Bool.and_eq_true, decide_eq_true_eq] at h
  exact h.1
/-- a number behind a word -/
noncomputable def pAft (B : Nat → Int32) (e : Nat) (w : List Int32) (p : Nat) (lo hi : Int32) : gPR Int32 := if tk B e w p = true then pNum B e (kW B e p) lo hi else .inr (kB B e p)
/-- bits that are set -/
def bC1 (y : Int32) : Int32 := y - (((y.toUInt32 >>> (((1 : Int32)).toUInt32 &&& Int32.toUInt32 31)).toInt32) &&& (1431655765 : Int32))
def bC2 (y : Int32) : Int32 := (y &&& (858993459 : Int32)) + (((y.toUInt32 >>> (((2 : Int32)).toUInt32 &&& Int32.toUInt32 31)).toInt32) &&& (858993459 : Int32))
def bC3 (y : Int32) : Int32 := (y + ((y.toUInt32 >>> (((4 : Int32)).toUInt32 &&& Int32.toUInt32 31)).toInt32)) &&& (252645135 : Int32)
def bC4 (y : Int32) : Int32 := y + ((y.toUInt32 >>> (((8 : Int32)).toUInt32 &&& Int32.toUInt32 31)).toInt32)
def bC5 (y : Int32) : Int32 := y + ((y.toUInt32 >>> (((16 : Int32)).toUInt32 &&& Int32.toUInt32 31)).toInt32)
def bC (y : Int32) : Int32 := bC5 (bC4 (bC3 (bC2 (bC1 y)))) &&& (63 : Int32)
theorem w_bitCount {h : g_H} {y : Int32} {P : Int32 → g_H → Prop} : gW (f_J7_bitCount y) h P ↔ P (bC y) h := by
  unfold f_J7_bitCount
  simp only [gW_B, gW_ret]
  exact Iff.rfl
def nt74 (y z : Int32) : Int32 := z + ((y.toUInt32 >>> (((1 : Int32)).toUInt32 &&& Int32.toUInt32 31)).toInt32)
def nt62 (y z : Int32) : Int32 := if y ≤ 4 then nt74 y z else nt74 ((y.toUInt32 >>> (((2 : Int32)).toUInt32 &&& Int32.toUInt32 31)).toInt32) (z + 2)
def nt49 (y z : Int32) : Int32 := if y ≤ 16 then nt62 y z else nt62 ((y.toUInt32 >>> (((4 : Int32)).toUInt32 &&& Int32.toUInt32 31)).toInt32) (z + 4)
def nt34 (y z : Int32) : Int32 := if y ≤ 256 then nt49 y z else nt49 ((y.toUInt32 >>> (((8 : Int32)).toUInt32 &&& Int32.toUInt32 31)).toInt32) (z + 8)
def nt0 (y : Int32) : Int32 := if 0 < y then (if y ≤ 65536 then nt34 y 1 else nt34 ((y.toUInt32 >>> (((16 : Int32)).toUInt32 &&& Int32.toUInt32 31)).toInt32) (1 + 16)) else y &&& 32
def ntz (y : Int32) : Int32 := nt0 ((y ^^^ (-1 : Int32)) &&& (y - 1))
theorem w_nt74 {h : g_H} {y z : Int32} {P : Int32 → g_H → Prop} : gW (f_J7_numberOfTrailingZeros_74 y z) h P ↔ P (nt74 y z) h := by
  unfold f_J7_numberOfTrailingZeros_74 nt74
  rw [gW_ret]
theorem w_nt62 {h : g_H} {y z : Int32} {P : Int32 → g_H → Prop} : gW (f_J7_numberOfTrailingZeros_62 y z) h P ↔ P (nt62 y z) h := by
  unfold f_J7_numberOfTrailingZeros_62 nt62
  by_cases c : y ≤ 4
  · rw [gW_ift c, if_pos c, w_nt74]
  · rw [gW_iff c, if_neg c, gW_B, gW_ret, w_nt74]
theorem w_nt49 {h : g_H} {y z : Int32} {P : Int32 → g_H → Prop} : gW (f_J7_numberOfTrailingZeros_49 y z) h P ↔ P (nt49 y z) h := by
  unfold f_J7_numberOfTrailingZeros_49 nt49
  by_cases c : y ≤ 16
  · rw [gW_ift c, if_pos c, w_nt62]
  · rw [gW_iff c, if_neg c, gW_B, gW_ret, w_nt62]
theorem w_nt34 {h : g_H} {y z : Int32} {P : Int32 → g_H → Prop} : gW (f_J7_numberOfTrailingZeros_34 y z) h P ↔ P (nt34 y z) h := by
  unfold f_J7_numberOfTrailingZeros_34 nt34
  by_cases c : y ≤ 256
  · rw [gW_ift c, if_pos c, w_nt49]
  · rw [gW_iff c, if_neg c, gW_B, gW_ret, w_nt49]
theorem w_ntz0 {h : g_H} {y : Int32} {P : Int32 → g_H → Prop} : gW (f_J7_numberOfTrailingZeros y) h P ↔ P (ntz y) h := by
  unfold f_J7_numberOfTrailingZeros ntz nt0
  rw [gW_B, gW_ret]
  by_cases c : 0 < (y ^^^ (-1 : Int32)) &&& (y - 1)
  · rw [gW_ift c, if_pos c]
    by_cases c2 : (y ^^^ (-1 : Int32)) &&& (y - 1) ≤ 65536
    · rw [gW_ift c2, if_pos c2, w_nt34]
    · rw [gW_iff c2, if_neg c2, gW_B, gW_ret, w_nt34]
  · rw [gW_iff c, if_neg c, gW_ret]
theorem ntz_d : ∀ d : Nat, d < 6 → ntz (iN (2 ^ d)) = iN d := by decide +kernel
theorem w_ntz {h : g_H} {d : Nat} (hd : d < 6) {P : Int32 → g_H → Prop} : gW (f_J7_numberOfTrailingZeros (iN (2 ^ d))) h P ↔ P (iN d) h := by
  rw [w_ntz0, ntz_d d hd]
theorem bC_1 : ∀ v : Nat, v < 64 → v ≠ 0 → (bC (iN v) ≤ 1 ↔ bC (iN v) = 1) ∧ (bC (iN v) = 1 → ∃ d : Nat, d < 6 ∧ v = 2 ^ d) := by decide +kernel
/-- letters; of one deed alone -/
def pLe (B : Nat → Int32) (e p : Nat) (one : Bool) : gPR Int32 := match pLet B e p with
  | .inr f => .inr f
  | .inl (s, q) => if one = true ∧ ¬ bC s ≤ 1 then .inr (kB B e p) else .inl (s, q)
theorem lB_0 {f k : Nat} (hl : ∀ j : Nat, f ≤ j → j < f + (k + 1) → isLe (B j) = true) {s : Int32} (h : lB B f (k + 1) = some s) : s ≠ 0 := by
  rw [lB] at h
  cases hs : lB B f k with
  | none => rw [hs] at h; cases h
  | some s0 =>
    rw [hs] at h
    obtain ⟨v, hv, rfl⟩ := lB_n k (fun j a b => hl j a (by omega)) s0 hs
    have hd := hl (f + k) (by omega) (by omega)
    unfold isLe at hd
    rw [decide_eq_true_eq] at hd
    obtain ⟨d, q1, q2⟩ := i_get2 (n := 122) (by decide) ⟨Int32.le_trans (by decide : (0 : Int32) ≤ 97) hd.1, hd.2⟩
    have q3 : 97 ≤ d := by
      have := hd.1
      rw [q2, show (97 : Int32) = iN 97 from rfl, iN_le (by omega) (by omega)] at this
      exact this
    have q4 : B (f + k) - 97 = iN (d - 97) := by rw [q2, show (97 : Int32) = iN 97 from rfl, iN_sub q3]
    simp only [q4] at h
    by_cases hc : 6 ≤ iN (d - 97) ∨ (iN v >>> (iN (d - 97) &&& 31)) &&& 1 = 1
    · rw [if_pos hc] at h; cases h
    · rw [if_neg hc] at h
      injection h with h
      have h6 : d - 97 < 6 := by
        have : ¬ 6 ≤ iN (d - 97) := fun q => hc (Or.inl q)
        rw [show (6 : Int32) = iN 6 from rfl, iN_le (by omega) (by omega)] at this
        omega
      have hb : ∀ v : Nat, v < 64 → ∀ k : Nat, k < 6 → ¬ (iN v ||| ((1 : Int32) <<< (iN k &&& 31)) = 0) := by decide +kernel
      rw [← h]
      exact hb v hv (d - 97) h6
theorem lB_none {f k : Nat} (h : lB B f k = none) : ∀ j : Nat, lB B f (k + j) = none := by
  intro j
  induction j with
  | zero => exact h
  | succ j ih => rw [show k + (j + 1) = k + j + 1 by omega, lB, ih]
theorem sk_to {f : Int32 → Bool} {p q : Nat} (h1 : p ≤ q) (h2 : q ≤ e) (h : ∀ j : Nat, p ≤ j → j < q → f (B j) = true) : sk f B e q = sk f B e p := by
  obtain ⟨k, rfl⟩ : ∃ k, q = p + k := ⟨q - p, by omega⟩
  induction k with
  | zero => rfl
  | succ k ih =>
    rw [← ih (by omega) (by omega) (fun j a b => h j a (by omega)), show p + (k + 1) = p + k + 1 by omega]
    exact (sk_on (by omega) (h (p + k) (by omega) (by omega))).symm
theorem wIs_l {w : List Int32} {f g : Nat} (h : wIs B w f g = true) : g - f = w.length := by
  unfold wIs at h
  rw [Bool.and_eq_true, decide_eq_true_eq] at h
  exact h.1
end LX
