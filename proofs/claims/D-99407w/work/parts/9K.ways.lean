/-! WAYS: how many, as both count them -/
section WYS
variable {V : Nat → Int32} {pn on n w : Nat} {L : gLw}
abbrev gWz : Type := (Nat → Nat) × Nat
/-- k turns behind b, each by h -/
def wAdd (n b h w : Nat) : Nat → Nat → gWz → gWz
  | 0, _, z => z
  | k + 1, j, z => wAdd n b h w k (j + 1) (if b + j ≤ n then (va_up z.1 (b + j) (z.1 (b + j) + h), z.2) else (z.1, z.2 + h * w))
/-- a slot, from t on -/
def wSl (n w c : Nat) (bf H : Nat → Nat) : Nat → Nat → gWz → gWz
  | 0, _, z => z
  | k + 1, t, z => wSl n w c bf H k (t + 1) (wAdd n (bf t) (H t) w c 0 z)
def wM (w : Nat) (z : gWz) : Nat := nS z.1 61 0 * w + z.2
theorem nS_up {a : Nat → Nat} {r h : Nat} (hr : r < 61) : nS (va_up a r (a r + h)) 61 0 = nS a 61 0 + h := nS_one (s := r) 61 0 (by omega) (by omega) (fun j hj _ => va_up_ne _ _ hj) (va_up_self _ _ _)
theorem wAdd_M (hn : n ≤ 60) {b h : Nat} : ∀ (k j : Nat) (z : gWz), wM w (wAdd n b h w k j z) = wM w z + k * (h * w) := by
  intro k
  induction k with
  | zero => intro j z; rw [wAdd, Nat.zero_mul, Nat.add_zero]
  | succ k ih =>
    intro j z
    rw [wAdd, ih, Nat.succ_mul]
    by_cases c : b + j ≤ n
    · rw [if_pos c]
      unfold wM
      show nS (va_up z.1 (b + j) (z.1 (b + j) + h)) 61 0 * w + z.2 + k * (h * w) = _
      rw [nS_up (by omega), Nat.add_mul]
      omega
    · rw [if_neg c]
      unfold wM
      show nS z.1 61 0 * w + (z.2 + h * w) + k * (h * w) = _
      omega
theorem wSl_M (hn : n ≤ 60) {c : Nat} {bf H : Nat → Nat} : ∀ (k t : Nat) (z : gWz), wM w (wSl n w c bf H k t z) = wM w z + nS H k t * (c * w) := by
  intro k
  induction k with
  | zero => intro t z; rw [wSl, nS, Nat.zero_mul, Nat.add_zero]
  | succ k ih =>
    intro t z
    rw [wSl, ih, wAdd_M hn, nS, Nat.add_mul]
    have : c * (H t * w) = H t * (c * w) := by rw [← Nat.mul_assoc, ← Nat.mul_assoc, Nat.mul_comm c (H t)]
    omega
/-- is there a prop in a slot -/
def wT (V : Nat → Int32) (pn s : Nat) : Nat := if sIn V pn (iN s) = -1 then 1 else 3
/-- what is left ahead of a slot -/
def wLf (V : Nat → Int32) (pn s : Nat) : Nat := 3 ^ nS (tSl V pn (fun _ => 1)) (10 - s) s
theorem wLf_s {s : Nat} (hs : s < 10) : wLf V pn s = wT V pn s * wLf V pn (s + 1) := by
  unfold wLf wT
  rw [show 10 - s = (10 - (s + 1)) + 1 by omega, nS]
  unfold tSl
  by_cases c : sIn V pn (iN s) = -1
  · rw [if_pos c, if_pos c, Nat.zero_add, Nat.one_mul]
  · rw [if_neg c, if_neg c, Nat.pow_add, Nat.pow_one]
theorem wLf_pos {s : Nat} : 0 < wLf V pn s := Nat.pow_pos (by decide)
/-- how tense one is behind a slot, as a number -/
noncomputable def wB (V : Nat → Int32) (pn : Nat) (L : gLw) (d n k : Int32) (s t : Nat) : Nat := (bS V pn L d n k s (iN t) 0).toNatClampNeg
/-- how many come to a slot, and how tense -/
noncomputable def wH (V : Nat → Int32) (pn : Nat) (L : gLw) (d : Int32) (n : Nat) (k : Int32) : Nat → Nat → Nat
  | 0 => fun r => if r = 0 then 1 else 0
  | s + 1 => (wSl n (wLf V pn (s + 1)) (wT V pn s) (wB V pn L d (iN n) k s) (wH V pn L d n k s) (n + 1) 0 (fun _ => 0, 0)).1
/-- how many scream at a slot -/
noncomputable def wAt (V : Nat → Int32) (pn : Nat) (L : gLw) (d : Int32) (n : Nat) (k : Int32) (s : Nat) : Nat := (wSl n (wLf V pn (s + 1)) (wT V pn s) (wB V pn L d (iN n) k s) (wH V pn L d n k s) (n + 1) 0 (fun _ => 0, 0)).2
theorem wLf_0 (hW : WI V pn on) : wLf V pn 0 ≤ 6561 := by
  have h8 := hW.1.2.1
  unfold wLf
  rw [show 10 - 0 = 10 from rfl, slot_sum hW]
  have h1 : nS (tPr V (fun _ => 1)) pn 0 ≤ 8 := by
    have h2 := nS_le (a := tPr V (fun _ => 1)) (a' := fun _ => 1) pn 0 (fun j _ _ => by
      show (if V (9 + 4 * j + 3) = -1 then 0 else 1) ≤ 1
      split <;> decide)
    have h3 : ∀ k i : Nat, nS (fun _ => 1) k i = k := by
      intro k
      induction k with
      | zero => exact fun _ => rfl
      | succ k ih => intro i; rw [nS, ih]; omega
    rw [h3] at h2
    omega
  exact Nat.pow_le_pow_right (n := 3) (by decide) h1
/-- no more than all -/
theorem wH_b (hW : WI V pn on) (hn : n ≤ 60) {d k : Int32} : ∀ s : Nat, s ≤ 10 → nS (wH V pn L d n k s) 61 0 * wLf V pn s ≤ 6561 := by
  intro s
  induction s with
  | zero =>
    intro _
    have : nS (wH V pn L d n k 0) 61 0 = 1 := by
      show nS (fun r => if r = 0 then 1 else 0) 61 0 = 1
      decide
    rw [this, Nat.one_mul]
    exact wLf_0 hW
  | succ s ih =>
    intro hs
    have h1 := ih (by omega)
    have h2 := wSl_M (w := wLf V pn (s + 1)) hn (c := wT V pn s) (bf := wB V pn L d (iN n) k s) (H := wH V pn L d n k s) (n + 1) 0 (fun _ => 0, 0)
    have h0 : wM (wLf V pn (s + 1)) ((fun _ => 0, 0) : gWz) = 0 := by
      unfold wM
      rw [show nS (fun _ => 0) 61 0 = 0 from by decide]
      omega
    rw [h0, ← wLf_s (by omega)] at h2
    have h3 : nS (wH V pn L d n k s) (n + 1) 0 ≤ nS (wH V pn L d n k s) 61 0 := by
      have : ∀ m i j : Nat, nS (wH V pn L d n k s) j i ≤ nS (wH V pn L d n k s) (j + m) i := by
        intro m
        induction m with
        | zero => exact fun i j => Nat.le_refl _
        | succ m ih => intro i j; rw [show j + (m + 1) = (j + m) + 1 by omega, nS_snoc]; have := ih i j; omega
      have := this (60 - n) 0 (n + 1)
      rw [show n + 1 + (60 - n) = 61 by omega] at this
      exact this
    have h4 := Nat.mul_le_mul_right (wLf V pn s) h3
    unfold wM at h2
    show nS (wSl n (wLf V pn (s + 1)) (wT V pn s) (wB V pn L d (iN n) k s) (wH V pn L d n k s) (n + 1) 0 (fun _ => 0, 0)).1 61 0 * wLf V pn (s + 1) ≤ 6561
    omega
end WYS
