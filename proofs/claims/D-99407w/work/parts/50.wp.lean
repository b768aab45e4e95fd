/-! THE PLAIN LAW: what an answer of a function is, from the front -/
def gW {α : Type} (m : gM α) (h : g_H) (P : α → g_H → Prop) : Prop := ∃ (r : α) (h' : g_H), m.1 h = some (r, h') ∧ P r h'
theorem gW_mono {α : Type} {m : gM α} {h : g_H} {P Q : α → g_H → Prop} (H : gW m h P) (hPQ : ∀ r h', P r h' → Q r h') : gW m h Q := by
  obtain ⟨r, h', e, p⟩ := H
  exact ⟨r, h', e, hPQ r h' p⟩
theorem gW_B {α β : Type} {m : gM α} {k : α → gM β} {h : g_H} {P : β → g_H → Prop} : gW (gB m k) h P ↔ gW m h (fun v h1 => gW (k v) h1 P) := by
  constructor
  · rintro ⟨r, h', e, p⟩
    obtain ⟨v, h1, e1, e2, -, -⟩ := gB_b e
    exact ⟨v, h1, e1, r, h', e2, p⟩
  · rintro ⟨v, h1, e1, r, h', e2, p⟩
    refine ⟨r, h', ?_, p⟩
    show ((m.1 h).bind fun p => (k p.1).1 p.2) = _
    rw [e1]
    exact e2
theorem gW_ret {α : Type} {v : α} {h : g_H} {P : α → g_H → Prop} : gW (gRet v) h P ↔ P v h := by
  constructor
  · rintro ⟨r, h', e, p⟩
    cases gRet_e e
    exact p
  · exact fun p => ⟨v, h, rfl, p⟩
theorem gW_fail {α : Type} {h : g_H} {P : α → g_H → Prop} : gW (gFail : gM α) h P ↔ False := ⟨fun ⟨_, _, e, _⟩ => gFail_f e, fun h => h.elim⟩
theorem gW_if {α : Type} {c : Prop} [Decidable c] {a b : gM α} {h : g_H} {P : α → g_H → Prop} : gW (gIf c a b) h P ↔ (c → gW a h P) ∧ (¬ c → gW b h P) := by
  constructor
  · rintro ⟨r, h', e, p⟩
    exact ⟨fun hc => ⟨r, h', g_t hc e, p⟩, fun hc => ⟨r, h', g_f hc e, p⟩⟩
  · rintro ⟨h1, h2⟩
    by_cases hc : c
    · obtain ⟨r, h', e, p⟩ := h1 hc
      refine ⟨r, h', ?_, p⟩
      show (if c then a.1 h else b.1 h) = _
      rw [if_pos hc]
      exact e
    · obtain ⟨r, h', e, p⟩ := h2 hc
      refine ⟨r, h', ?_, p⟩
      show (if c then a.1 h else b.1 h) = _
      rw [if_neg hc]
      exact e
theorem gW_ift {α : Type} {c : Prop} [Decidable c] {a b : gM α} {h : g_H} {P : α → g_H → Prop} (hc : c) : gW (gIf c a b) h P ↔ gW a h P := gW_if.trans ⟨fun z => z.1 hc, fun z => ⟨fun _ => z, fun n => (n hc).elim⟩⟩
theorem gW_iff {α : Type} {c : Prop} [Decidable c] {a b : gM α} {h : g_H} {P : α → g_H → Prop} (hc : ¬ c) : gW (gIf c a b) h P ↔ gW b h P := gW_if.trans ⟨fun z => z.2 hc, fun z => ⟨fun n => (hc n).elim, fun _ => z⟩⟩
theorem gW_rd {α : Type} {f : g_H → Option α} {h : g_H} {P : α → g_H → Prop} : gW (gRd f) h P ↔ ∃ v, f h = some v ∧ P v h := by
  constructor
  · rintro ⟨r, h', e, p⟩
    have e : ((f h).map fun v => (v, h)) = some (r, h') := e
    cases hf : f h with
    | none => rw [hf] at e; cases e
    | some v => rw [hf] at e; cases e; exact ⟨_, rfl, p⟩
  · rintro ⟨v, e, p⟩
    refine ⟨v, h, ?_, p⟩
    show ((f h).map fun v => (v, h)) = _
    rw [e]
    rfl
theorem gW_wr {f : g_H → Option (Nat → Nat → Int32)} {h : g_H} {P : Unit → g_H → Prop} : gW (gWr f) h P ↔ ∃ v, f h = some v ∧ P () (v, h.2) := by
  constructor
  · rintro ⟨r, h', e, p⟩
    have e : ((f h).map fun iv => ((), (iv, h.2))) = some (r, h') := e
    cases hf : f h with
    | none => rw [hf] at e; cases e
    | some v => rw [hf] at e; cases e; exact ⟨_, rfl, p⟩
  · rintro ⟨v, e, p⟩
    refine ⟨(), (v, h.2), ?_, p⟩
    show ((f h).map fun iv => ((), (iv, h.2))) = _
    rw [e]
    rfl
theorem gW_wq {f : g_H → Option (Nat → Nat → Option Nat)} {h : g_H} {P : Unit → g_H → Prop} : gW (gWq f) h P ↔ ∃ v, f h = some v ∧ P () (h.1, h.2.1, v, h.2.2.2) := by
  constructor
  · rintro ⟨r, h', e, p⟩
    have e : ((f h).map fun rv => ((), (h.1, h.2.1, rv, h.2.2.2))) = some (r, h') := e
    cases hf : f h with
    | none => rw [hf] at e; cases e
    | some v => rw [hf] at e; cases e; exact ⟨_, rfl, p⟩
  · rintro ⟨v, e, p⟩
    refine ⟨(), (h.1, h.2.1, v, h.2.2.2), ?_, p⟩
    show ((f h).map fun rv => ((), (h.1, h.2.1, rv, h.2.2.2))) = _
    rw [e]
    rfl
theorem gW_al {s : g_S} {n : Nat} {h : g_H} {P : Nat → g_H → Prop} : gW (gAl s n) h P ↔ P (g_nx h) (g_add h s n) := by
  constructor
  · rintro ⟨r, h', e, p⟩
    have e : some (g_nx h, g_add h s n) = some (r, h') := e
    cases e
    exact p
  · exact fun p => ⟨_, _, rfl, p⟩
theorem gW_new {ci n : Nat} {h : g_H} {P : Nat → g_H → Prop} : gW (gNew ci n) h P ↔ P (g_nx h) (g_add h (.inr ci) n) := gW_al
theorem gW_nwA {t : Nat} {n : Int32} {h : g_H} {P : Nat → g_H → Prop} (h1 : ¬ n < 0 ∧ n.toNatClampNeg ≤ 100000) : gW (gNwA t n) h P ↔ P (g_nx h) (g_add h (.inl (t, n.toNatClampNeg)) n.toNatClampNeg) := (gW_ift h1).trans gW_al
theorem gW_T {α β : Type} {m : gM (α ⊕ gE)} {k : α → gM (β ⊕ gE)} {h : g_H} {P : β ⊕ gE → g_H → Prop} : gW (gT m k) h P ↔ gW m h (fun r h1 => match r with
    | .inl v => gW (k v) h1 P
    | .inr x => P (.inr x) h1) := by
  refine gW_B.trans ?_
  constructor
  · intro H
    refine gW_mono H (fun r h1 p => ?_)
    cases r with
    | inl v => exact p
    | inr x => exact gW_ret.mp p
  · intro H
    refine gW_mono H (fun r h1 p => ?_)
    cases r with
    | inl v => exact p
    | inr x => exact gW_ret.mpr p
theorem gW_gd {c : Prop} [Decidable c] {h : g_H} {P : Unit → g_H → Prop} : gW (gGd c) h P ↔ c ∧ P () h := by
  refine gW_if.trans ⟨fun z => ?_, fun z => ⟨fun _ => gW_ret.mpr z.2, fun n => (n z.1).elim⟩⟩
  by_cases hc : c
  · exact ⟨hc, gW_ret.mp (z.1 hc)⟩
  · exact (gW_fail.mp (z.2 hc)).elim
/-! the instructions, over a heap of which the numbers stand apart -/
abbrev gU : Type := (Nat → Option g_S) × (Nat → Nat → Option Nat) × (Nat → Nat) × Nat × Nat
abbrev gV : Type := Nat → Nat → Int32
section WI
variable {iv : gV} {u : gU} {a k t n : Nat} {ci : Nat}
theorem gW_FI {P : Int32 → g_H → Prop} (hs : u.1 a = some (.inr ci)) : gW (gFI a ci k) (iv, u) P ↔ P (iv a k) (iv, u) := by
  refine gW_rd.trans ?_
  constructor
  · rintro ⟨v, e, p⟩
    have e : (if u.1 a = some (.inr ci) then some (iv a k) else none) = some v := e
    rw [if_pos hs] at e
    cases e
    exact p
  · exact fun p => ⟨_, if_pos hs, p⟩
theorem gW_FQ {P : Option Nat → g_H → Prop} (hs : u.1 a = some (.inr ci)) : gW (gFQ a ci k) (iv, u) P ↔ P (u.2.1 a k) (iv, u) := by
  refine gW_rd.trans ?_
  constructor
  · rintro ⟨v, e, p⟩
    have e : (if u.1 a = some (.inr ci) then some (u.2.1 a k) else none) = some v := e
    rw [if_pos hs] at e
    cases e
    exact p
  · exact fun p => ⟨_, if_pos hs, p⟩
theorem gW_FR {P : Nat → g_H → Prop} {v : Nat} (hs : u.1 a = some (.inr ci)) (hv : u.2.1 a k = some v) : gW (gFR a ci k) (iv, u) P ↔ P v (iv, u) := by
  refine gW_rd.trans ?_
  constructor
  · rintro ⟨w, e, p⟩
    have e : (if u.1 a = some (.inr ci) then u.2.1 a k else none) = some w := e
    rw [if_pos hs, hv] at e
    cases e
    exact p
  · exact fun p => ⟨_, (if_pos hs).trans hv, p⟩
theorem gW_PI {x : Int32} {P : Unit → g_H → Prop} (hs : u.1 a = some (.inr ci)) : gW (gPI a ci k x) (iv, u) P ↔ P () (g_u2 iv a k x, u) := by
  refine gW_wr.trans ?_
  constructor
  · rintro ⟨v, e, p⟩
    have e : (if u.1 a = some (.inr ci) then some (g_u2 iv a k x) else none) = some v := e
    rw [if_pos hs] at e
    cases e
    exact p
  · exact fun p => ⟨_, if_pos hs, p⟩
theorem gW_PZ {x : Int32} {P : Unit → g_H → Prop} (hs : u.1 a = some (.inr ci)) (hx : x = 0 ∨ x = 1) : gW (gPZ a ci k x) (iv, u) P ↔ P () (g_u2 iv a k x, u) := by
  refine gW_wr.trans ?_
  constructor
  · rintro ⟨v, e, p⟩
    have e : (if u.1 a = some (.inr ci) ∧ (x = 0 ∨ x = 1) then some (g_u2 iv a k x) else none) = some v := e
    rw [if_pos ⟨hs, hx⟩] at e
    cases e
    exact p
  · exact fun p => ⟨_, if_pos ⟨hs, hx⟩, p⟩
theorem gW_PQ {x : Option Nat} {P : Unit → g_H → Prop} (hs : u.1 a = some (.inr ci)) : gW (gPQ a ci k x) (iv, u) P ↔ P () (iv, u.1, g_u2 u.2.1 a k x, u.2.2) := by
  refine gW_wq.trans ?_
  constructor
  · rintro ⟨v, e, p⟩
    have e : (if u.1 a = some (.inr ci) then some (g_u2 u.2.1 a k x) else none) = some v := e
    rw [if_pos hs] at e
    cases e
    exact p
  · exact fun p => ⟨_, if_pos hs, p⟩
theorem gW_AN {P : Int32 → g_H → Prop} (hs : u.1 a = some (.inl (t, n))) : gW (gAN a t) (iv, u) P ↔ P (Int32.ofNat n) (iv, u) := by
  have he : (match u.1 a with
    | some (.inl (t', n)) => if t' = t then some (Int32.ofNat n) else none
    | _ => none) = some (Int32.ofNat n) := by rw [hs]; exact if_pos rfl
  refine gW_rd.trans ?_
  constructor
  · rintro ⟨v, e, p⟩
    cases he.symm.trans e
    exact p
  · exact fun p => ⟨_, he, p⟩
/-- a number as an int -/
abbrev iN (k : Nat) : Int32 := Int32.ofNat k
theorem iN_c {k : Nat} (h : k < 2147483648) : (iN k).toNatClampNeg = k := by
  show (Int32.ofNat k).toInt.toNat = k
  rw [Int32.toInt_ofNat_small (by omega)]
  omega
theorem iN_0 {k : Nat} (h : k < 2147483648) : ¬ iN k < 0 := by
  intro q
  have q := Int32.lt_iff_toInt_lt.mp q
  rw [Int32.toInt_ofNat_small (by omega)] at q
  have : (0 : Int32).toInt = 0 := by decide
  omega
theorem iN_ix {h : g_H} (hs : g_sh h a = some (.inl (t, n))) (hk : k < n) (hn : n < 2147483648) : g_ix h a t (iN k) = true := by
  unfold g_ix
  rw [hs]
  simp only [iN_c (show k < 2147483648 by omega), iN_0 (show k < 2147483648 by omega)]
  simp
  omega
theorem gW_AI {P : Int32 → g_H → Prop} {i : Int32} (hs : u.1 a = some (.inl (t, n))) (hi : i = iN k) (hk : k < n) (hn : n < 2147483648) : gW (gAI a t i) (iv, u) P ↔ P (iv a k) (iv, u) := by
  subst hi
  have he : (if g_ix (iv, u) a t (iN k) = true then some (iv a (iN k).toNatClampNeg) else none) = some (iv a k) := by rw [if_pos (iN_ix hs hk hn), iN_c (by omega)]
  refine gW_rd.trans ?_
  constructor
  · rintro ⟨v, e, p⟩
    cases he.symm.trans e
    exact p
  · exact fun p => ⟨_, he, p⟩
theorem gW_AR {P : Nat → g_H → Prop} {i : Int32} {v : Nat} (hs : u.1 a = some (.inl (t, n))) (hi : i = iN k) (hk : k < n) (hn : n < 2147483648) (hv : u.2.1 a k = some v) : gW (gAR a t i) (iv, u) P ↔ P v (iv, u) := by
  subst hi
  have he : (if g_ix (iv, u) a t (iN k) = true then u.2.1 a (iN k).toNatClampNeg else none) = some v := by rw [if_pos (iN_ix hs hk hn), iN_c (by omega), hv]
  refine gW_rd.trans ?_
  constructor
  · rintro ⟨v, e, p⟩
    cases he.symm.trans e
    exact p
  · exact fun p => ⟨_, he, p⟩
theorem gW_SI {P : Unit → g_H → Prop} {i x : Int32} (hs : u.1 a = some (.inl (t, n))) (hi : i = iN k) (hk : k < n) (hn : n < 2147483648) : gW (gSI a t i x) (iv, u) P ↔ P () (g_u2 iv a k x, u) := by
  subst hi
  have he : (if g_ix (iv, u) a t (iN k) = true then some (g_u2 iv a (iN k).toNatClampNeg x) else none) = some (g_u2 iv a k x) := by rw [if_pos (iN_ix hs hk hn), iN_c (by omega)]
  refine gW_wr.trans ?_
  constructor
  · rintro ⟨v, e, p⟩
    cases he.symm.trans e
    exact p
  · exact fun p => ⟨_, he, p⟩
theorem gW_SQ {P : Unit → g_H → Prop} {i : Int32} {v : Nat} (hs : u.1 a = some (.inl (t, n))) (hi : i = iN k) (hk : k < n) (hn : n < 2147483648) (hv : u.1 v = some (.inr ci)) (hc : g_in t ci = true) : gW (gSQ a t i ci v) (iv, u) P ↔ P () (iv, u.1, g_u2 u.2.1 a k (some v), u.2.2) := by
  subst hi
  have he : (if g_ix (iv, u) a t (iN k) = true ∧ u.1 v = some (.inr ci) ∧ g_in t ci = true then some (g_u2 u.2.1 a (iN k).toNatClampNeg (some v)) else none) = some (g_u2 u.2.1 a k (some v)) := by rw [if_pos ⟨iN_ix hs hk hn, hv, hc⟩, iN_c (by omega)]
  refine gW_wq.trans ?_
  constructor
  · rintro ⟨v, e, p⟩
    cases he.symm.trans e
    exact p
  · exact fun p => ⟨_, he, p⟩
theorem gW_Ck {P : Unit → g_H → Prop} (hs : u.1 a = some (.inr ci)) : gW (gCk a ci) (iv, u) P ↔ P () (iv, u) := by
  refine gW_rd.trans ?_
  constructor
  · rintro ⟨v, e, p⟩
    exact p
  · exact fun p => ⟨(), if_pos hs, p⟩
theorem gW_Sh {P : Nat → g_H → Prop} (hs : u.1 a = some (.inr ci)) : gW (gSh a) (iv, u) P ↔ P ci (iv, u) := by
  have he : (match u.1 a with
    | some (.inr ci) => some ci
    | _ => none) = some ci := by rw [hs]
  refine gW_rd.trans ?_
  constructor
  · rintro ⟨v, e, p⟩
    cases he.symm.trans e
    exact p
  · exact fun p => ⟨_, he, p⟩
theorem gW_NN {P : Nat → g_H → Prop} {r : Option Nat} {v : Nat} (hr : r = some v) {h : g_H} : gW (gNN r) h P ↔ P v h := by
  refine gW_rd.trans ?_
  constructor
  · rintro ⟨w, e, p⟩
    cases hr.symm.trans e
    exact p
  · exact fun p => ⟨_, hr, p⟩
theorem gW_Tx {P : Nat → g_H → Prop} {i : Nat} : gW (gTx i) (iv, u) P ↔ P (u.2.2.1 i) (iv, u) := by
  refine gW_rd.trans ?_
  constructor
  · rintro ⟨w, e, p⟩
    have e : some (u.2.2.1 i) = some w := e
    cases e
    exact p
  · exact fun p => ⟨_, rfl, p⟩
end WI
