/-! THE ABSTRACT HEAP: numbers, shapes, references, texts, next address, slots used -/
abbrev g_S : Type := (Nat × Nat) ⊕ Nat
abbrev g_H : Type := (Nat → Nat → Int32) × (Nat → Option g_S) × (Nat → Nat → Option Nat) × (Nat → Nat) × Nat × Nat
abbrev g_iv (h : g_H) : Nat → Nat → Int32 := h.1
abbrev g_sh (h : g_H) : Nat → Option g_S := h.2.1
abbrev g_rv (h : g_H) : Nat → Nat → Option Nat := h.2.2.1
abbrev g_tx (h : g_H) : Nat → Nat := h.2.2.2.1
abbrev g_nx (h : g_H) : Nat := h.2.2.2.2.1
abbrev g_us (h : g_H) : Nat := h.2.2.2.2.2
def g_u2 {α : Type} (f : Nat → Nat → α) (a k : Nat) (v : α) : Nat → Nat → α := va_up f a (va_up (f a) k v)
theorem g_u2_self {α : Type} (f : Nat → Nat → α) (a k : Nat) (v : α) : g_u2 f a k v a = va_up (f a) k v := by simp [g_u2, va_up]
theorem g_u2_ne {α : Type} (f : Nat → Nat → α) {a b : Nat} (k : Nat) (v : α) (h : b ≠ a) : g_u2 f a k v b = f b := by simp [g_u2, va_up, h]
def g_le (h h' : g_H) : Prop := g_nx h ≤ g_nx h' ∧ g_us h ≤ g_us h'
theorem g_le.rf (h : g_H) : g_le h h := ⟨Nat.le_refl _, Nat.le_refl _⟩
theorem g_le.tr {a b c : g_H} (h1 : g_le a b) (h2 : g_le b c) : g_le a c := ⟨Nat.le_trans h1.1 h2.1, Nat.le_trans h1.2 h2.2⟩
/-! THE MONAD: a function of the heap that may have no answer, and that only adds cells -/
def gMono {α : Type} (f : g_H → Option (α × g_H)) : Prop := ∀ (h : g_H) (r : α) (h' : g_H), f h = some (r, h') → g_le h h'
abbrev gM (α : Type) : Type := { f : g_H → Option (α × g_H) // gMono f }
def gRet {α : Type} (a : α) : gM α := ⟨fun h => some (a, h), fun h r h' e => by
  have e : some (a, h) = some (r, h') := e
  cases e
  exact g_le.rf _⟩
def gFail {α : Type} : gM α := ⟨fun _ => none, fun h r h' e => by
  have e : (none : Option (α × g_H)) = some (r, h') := e
  cases e⟩
def gB {α β : Type} (m : gM α) (k : α → gM β) : gM β := ⟨fun h => (m.1 h).bind fun p => (k p.1).1 p.2, fun h r h' e => by
  have e : ((m.1 h).bind fun p => (k p.1).1 p.2) = some (r, h') := e
  cases hm : m.1 h with
  | none => rw [hm] at e; cases e
  | some p =>
    rw [hm] at e
    exact (m.2 h p.1 p.2 hm).tr ((k p.1).2 p.2 r h' e)⟩
def gIf {α : Type} (c : Prop) [Decidable c] (a b : gM α) : gM α := ⟨fun h => if c then a.1 h else b.1 h, fun h r h' e => by
  have e : (if c then a.1 h else b.1 h) = some (r, h') := e
  by_cases hc : c
  · rw [if_pos hc] at e
    exact a.2 h r h' e
  · rw [if_neg hc] at e
    exact b.2 h r h' e⟩
abbrev gE : Type := Nat × Nat
/-- on, or past it with what was thrown -/
def gT {α β : Type} (m : gM (α ⊕ gE)) (k : α → gM (β ⊕ gE)) : gM (β ⊕ gE) := gB m (fun r => match r with
  | .inl v => k v
  | .inr x => gRet (.inr x))
def gRd {α : Type} (f : g_H → Option α) : gM α := ⟨fun h => (f h).map fun v => (v, h), fun h r h' e => by
  have e : ((f h).map fun v => (v, h)) = some (r, h') := e
  cases hf : f h with
  | none => rw [hf] at e; cases e
  | some v => rw [hf] at e; cases e; exact g_le.rf _⟩
def gWr (f : g_H → Option (Nat → Nat → Int32)) : gM Unit := ⟨fun h => (f h).map fun iv => ((), (iv, h.2)), fun h r h' e => by
  have e : ((f h).map fun iv => ((), (iv, h.2))) = some (r, h') := e
  cases hf : f h with
  | none => rw [hf] at e; cases e
  | some v => rw [hf] at e; cases e; exact ⟨Nat.le_refl _, Nat.le_refl _⟩⟩
def gWq (f : g_H → Option (Nat → Nat → Option Nat)) : gM Unit := ⟨fun h => (f h).map fun rv => ((), (h.1, h.2.1, rv, h.2.2.2)), fun h r h' e => by
  have e : ((f h).map fun rv => ((), (h.1, h.2.1, rv, h.2.2.2))) = some (r, h') := e
  cases hf : f h with
  | none => rw [hf] at e; cases e
  | some v => rw [hf] at e; cases e; exact ⟨Nat.le_refl _, Nat.le_refl _⟩⟩
/-- a new cell of shape s, n slots -/
def g_add (h : g_H) (s : g_S) (n : Nat) : g_H := (va_up h.1 (g_nx h) (fun _ => 0), va_up (g_sh h) (g_nx h) (some s), va_up (g_rv h) (g_nx h) (fun _ => none), g_tx h, g_nx h + 1, g_us h + n)
def gAl (s : g_S) (n : Nat) : gM Nat := ⟨fun h => some (g_nx h, g_add h s n), fun h r h' e => by
  have e : some (g_nx h, g_add h s n) = some (r, h') := e
  cases e
  exact ⟨Nat.le_succ _, Nat.le_add_right _ _⟩⟩
/-! what the instructions do -/
def gFI (a ci k : Nat) : gM Int32 := gRd fun h => if g_sh h a = some (.inr ci) then some (g_iv h a k) else none
def gFQ (a ci k : Nat) : gM (Option Nat) := gRd fun h => if g_sh h a = some (.inr ci) then some (g_rv h a k) else none
def gFR (a ci k : Nat) : gM Nat := gRd fun h => if g_sh h a = some (.inr ci) then g_rv h a k else none
def gPI (a ci k : Nat) (v : Int32) : gM Unit := gWr fun h => if g_sh h a = some (.inr ci) then some (g_u2 h.1 a k v) else none
def gPZ (a ci k : Nat) (v : Int32) : gM Unit := gWr fun h => if g_sh h a = some (.inr ci) ∧ (v = 0 ∨ v = 1) then some (g_u2 h.1 a k v) else none
def gPQ (a ci k : Nat) (v : Option Nat) : gM Unit := gWq fun h => if g_sh h a = some (.inr ci) then some (g_u2 (g_rv h) a k v) else none
/-- the length of an array of kind t -/
def gAN (a t : Nat) : gM Int32 := gRd fun h => match g_sh h a with
  | some (.inl (t', n)) => if t' = t then some (Int32.ofNat n) else none
  | _ => none
def g_ix (h : g_H) (a t : Nat) (i : Int32) : Bool := match g_sh h a with
  | some (.inl (t', n)) => decide (t' = t) && !(decide (i < 0) || decide (n ≤ i.toNatClampNeg))
  | _ => false
def gAI (a t : Nat) (i : Int32) : gM Int32 := gRd fun h => if g_ix h a t i = true then some (g_iv h a i.toNatClampNeg) else none
def gAR (a t : Nat) (i : Int32) : gM Nat := gRd fun h => if g_ix h a t i = true then g_rv h a i.toNatClampNeg else none
def gSI (a t : Nat) (i x : Int32) : gM Unit := gWr fun h => if g_ix h a t i = true then some (g_u2 h.1 a i.toNatClampNeg x) else none
/-- may an object of class ci lie in an array of kind t -/
def g_in (t ci : Nat) : Bool := match t with
  | 4 => ci == 3
  | 5 => ci == 4
  | 6 => ci == 14 || ci == 15
  | 7 => ci == 2
  | 8 => ci == 16
  | _ => false
def gSQ (a t : Nat) (i : Int32) (ci v : Nat) : gM Unit := gWq fun h => if g_ix h a t i = true ∧ g_sh h v = some (.inr ci) ∧ g_in t ci = true then some (g_u2 (g_rv h) a i.toNatClampNeg (some v)) else none
def gNew (ci n : Nat) : gM Nat := gAl (.inr ci) n
def gNwA (t : Nat) (n : Int32) : gM Nat := gIf (¬ n < 0 ∧ n.toNatClampNeg ≤ 100000) (gAl (.inl (t, n.toNatClampNeg)) n.toNatClampNeg) gFail
def gTx (i : Nat) : gM Nat := gRd fun h => some (g_tx h i)
def gCk (a ci : Nat) : gM Unit := gRd fun h => if g_sh h a = some (.inr ci) then some () else none
def gGd (c : Prop) [Decidable c] : gM Unit := gIf c (gRet ()) gFail
def gNN (r : Option Nat) : gM Nat := gRd fun _ => r
def gSh (a : Nat) : gM Nat := gRd fun h => match g_sh h a with
  | some (.inr ci) => some ci
  | _ => none
/-- System.arraycopy of numbers, of references: another array -/
def g_cpOk (h : g_H) (t a0 a1 : Nat) (sp dp n : Int32) : Bool := match g_sh h a0, g_sh h a1 with
  | some (.inl (t0, n0)), some (.inl (t1, n1)) => decide (t0 = t) && decide (t1 = t) && decide (a0 ≠ a1) && !decide (sp < 0) && !decide (dp < 0) && !decide (n < 0) && decide (sp.toNatClampNeg + n.toNatClampNeg ≤ n0) && decide (dp.toNatClampNeg + n.toNatClampNeg ≤ n1)
  | _, _ => false
def gCpI (a0 : Nat) (sp : Int32) (a1 : Nat) (dp n : Int32) : gM Unit := gWr fun h => if g_cpOk h 0 a0 a1 sp dp n = true then some (va_up h.1 a1 (va_cpy (h.1 a0) (h.1 a1) sp.toNatClampNeg dp.toNatClampNeg n.toNatClampNeg)) else none
def gCpQ (a0 : Nat) (sp : Int32) (a1 : Nat) (dp n : Int32) : gM Unit := gWq fun h => if g_cpOk h 6 a0 a1 sp dp n = true then some (va_up (g_rv h) a1 (va_cpy (g_rv h a0) (g_rv h a1) sp.toNatClampNeg dp.toNatClampNeg n.toNatClampNeg)) else none
/-! what an answer of each says -/
theorem gB_b {α β : Type} {m : gM α} {k : α → gM β} {h : g_H} {q : β × g_H} (e : (gB m k).1 h = some q) : ∃ v h1, m.1 h = some (v, h1) ∧ (k v).1 h1 = some q ∧ g_le h h1 ∧ g_le h1 q.2 := by
  have e : ((m.1 h).bind fun p => (k p.1).1 p.2) = some q := e
  cases hm : m.1 h with
  | none => rw [hm] at e; cases e
  | some p =>
    rw [hm] at e
    exact ⟨p.1, p.2, rfl, e, m.2 h p.1 p.2 hm, (k p.1).2 p.2 q.1 q.2 e⟩
theorem gB_rd {α β : Type} {f : g_H → Option α} {k : α → gM β} {h : g_H} {q : β × g_H} (e : (gB (gRd f) k).1 h = some q) : ∃ v, f h = some v ∧ (k v).1 h = some q := by
  obtain ⟨v, h1, e1, e2, -, -⟩ := gB_b e
  have e1 : ((f h).map fun v => (v, h)) = some (v, h1) := e1
  cases hf : f h with
  | none => rw [hf] at e1; cases e1
  | some w => rw [hf] at e1; cases e1; exact ⟨_, rfl, e2⟩
theorem gB_wr {β : Type} {f : g_H → Option (Nat → Nat → Int32)} {k : Unit → gM β} {h : g_H} {q : β × g_H} (e : (gB (gWr f) k).1 h = some q) : ∃ v, f h = some v ∧ (k ()).1 (v, h.2) = some q := by
  obtain ⟨v, h1, e1, e2, -, -⟩ := gB_b e
  have e1 : ((f h).map fun iv => ((), (iv, h.2))) = some (v, h1) := e1
  cases hf : f h with
  | none => rw [hf] at e1; cases e1
  | some w => rw [hf] at e1; cases e1; exact ⟨_, rfl, e2⟩
theorem gB_wq {β : Type} {f : g_H → Option (Nat → Nat → Option Nat)} {k : Unit → gM β} {h : g_H} {q : β × g_H} (e : (gB (gWq f) k).1 h = some q) : ∃ v, f h = some v ∧ (k ()).1 (h.1, h.2.1, v, h.2.2.2) = some q := by
  obtain ⟨v, h1, e1, e2, -, -⟩ := gB_b e
  have e1 : ((f h).map fun rv => ((), (h.1, h.2.1, rv, h.2.2.2))) = some (v, h1) := e1
  cases hf : f h with
  | none => rw [hf] at e1; cases e1
  | some w => rw [hf] at e1; cases e1; exact ⟨_, rfl, e2⟩
theorem gB_al {β : Type} {s : g_S} {n : Nat} {k : Nat → gM β} {h : g_H} {q : β × g_H} (e : (gB (gAl s n) k).1 h = some q) : (k (g_nx h)).1 (g_add h s n) = some q ∧ g_le (g_add h s n) q.2 := by
  obtain ⟨v, h1, e1, e2, -, hl⟩ := gB_b e
  have e1 : some (g_nx h, g_add h s n) = some (v, h1) := e1
  cases e1
  exact ⟨e2, hl⟩
theorem gB_if {α β : Type} {c : Prop} [Decidable c] {a b : gM α} {k : α → gM β} {h : g_H} {q : β × g_H} (e : (gB (gIf c a b) k).1 h = some q) : (c ∧ (gB a k).1 h = some q) ∨ (¬ c ∧ (gB b k).1 h = some q) := by
  have e : ((if c then a.1 h else b.1 h).bind fun p => (k p.1).1 p.2) = some q := e
  by_cases hc : c
  · rw [if_pos hc] at e
    exact Or.inl ⟨hc, e⟩
  · rw [if_neg hc] at e
    exact Or.inr ⟨hc, e⟩
theorem gB_fail {α β : Type} {k : α → gM β} {h : g_H} {q : β × g_H} (e : (gB gFail k).1 h = some q) : False := by
  have e : (none : Option (β × g_H)) = some q := e
  cases e
theorem gFail_f {α : Type} {h : g_H} {q : α × g_H} (e : (gFail : gM α).1 h = some q) : False := by
  have e : (none : Option (α × g_H)) = some q := e
  cases e
theorem gB_gd {β : Type} {c : Prop} [Decidable c] {k : Unit → gM β} {h : g_H} {q : β × g_H} (e : (gB (gGd c) k).1 h = some q) : c ∧ (k ()).1 h = some q := by
  rcases gB_if e with ⟨hc, e⟩ | ⟨-, e⟩
  · exact ⟨hc, e⟩
  · exact (gB_fail e).elim
theorem g_t {α : Type} {c : Prop} [Decidable c] {a b : gM α} {h : g_H} {q : α × g_H} (hc : c) (e : (gIf c a b).1 h = some q) : a.1 h = some q := by
  have e : (if c then a.1 h else b.1 h) = some q := e
  rw [if_pos hc] at e
  exact e
theorem g_f {α : Type} {c : Prop} [Decidable c] {a b : gM α} {h : g_H} {q : α × g_H} (hc : ¬ c) (e : (gIf c a b).1 h = some q) : b.1 h = some q := by
  have e : (if c then a.1 h else b.1 h) = some q := e
  rw [if_neg hc] at e
  exact e
theorem gRet_e {α : Type} {v : α} {h : g_H} {q : α × g_H} (e : (gRet v).1 h = some q) : q = (v, h) := by
  have e : some (v, h) = some q := e
  cases e
  rfl
theorem gT_b {α β : Type} {m : gM (α ⊕ gE)} {k : α → gM (β ⊕ gE)} {h : g_H} {q : (β ⊕ gE) × g_H} (e : (gT m k).1 h = some q) : (∃ v h1, m.1 h = some (.inl v, h1) ∧ (k v).1 h1 = some q ∧ g_le h h1 ∧ g_le h1 q.2) ∨ ∃ x h1, m.1 h = some (.inr x, h1) ∧ q = (.inr x, h1) ∧ g_le h h1 := by
  obtain ⟨v, h1, e1, e2, l1, l2⟩ := gB_b e
  cases v with
  | inl v => exact Or.inl ⟨v, h1, e1, e2, l1, l2⟩
  | inr x => exact Or.inr ⟨x, h1, e1, gRet_e e2, l1⟩
