/-! CALLS AND ENDS -/
def g_wI (v : Int32) : Option Value := some (.int v)
def g_wR (v : Nat) : Option Value := some (.ref v)
def g_wQ (v : Option Nat) : Option Value := some (va_rf v)
def g_wU (_ : Unit) : Option Value := none
def g_w {α : Type} (w : α → Option Value) (x : α ⊕ gE) : g_Rs := match x with
  | .inl v => .inl (w v)
  | .inr x => .inr x
/-- a method's name: its number of arguments -/
def gYd (y : MethodName) (n : Nat) : Prop := (y.cls ≠ "java/lang/invoke/MethodHandle" ∧ y.cls ≠ "java/lang/invoke/VarHandle") ∧ (parseMethodDescriptor y.desc).map (fun d => d.parameters.length) = some n
theorem gCk_b {β : Type} {a ci : Nat} {K : Unit → gM β} {h : g_H} {q : β × g_H} (e : (gB (gCk a ci) K).1 h = some q) : g_sh h a = some (.inr ci) ∧ (K ()).1 h = some q := by
  obtain ⟨v, hv, hf⟩ := gB_rd e
  by_cases hs : g_sh h a = some (.inr ci)
  · exact ⟨hs, hf⟩
  · rw [if_neg hs] at hv
    cases hv
theorem gNN_b {β : Type} {r : Option Nat} {K : Nat → gM β} {h : g_H} {q : β × g_H} (e : (gB (gNN r) K).1 h = some q) : ∃ a, r = some a ∧ (K a).1 h = some q := by
  obtain ⟨v, hv, hf⟩ := gB_rd e
  exact ⟨v, hv, hf⟩
theorem gSh_b {β : Type} {a : Nat} {K : Nat → gM β} {h : g_H} {q : β × g_H} (e : (gB (gSh a) K).1 h = some q) : ∃ ci, g_sh h a = some (.inr ci) ∧ (K ci).1 h = some q := by
  obtain ⟨v, hv, hf⟩ := gB_rd e
  cases hs : g_sh h a with
  | none => rw [hs] at hv; cases hv
  | some u =>
    rcases u with ⟨t, n⟩ | ci
    · rw [hs] at hv; cases hv
    · rw [hs] at hv; cases hv; exact ⟨_, rfl, hf⟩
section GT
variable {p : Program} {l : Launch} {e : Env} {R : Room} {s : State} {m : MethodId} {args : Array Value} {below : List Frame} {meth : Method} {c : Code} {H : Heap} {locs : List Loc} {cells slots : Nat} {Q : State → Prop}
variable {G : gG} {h0 h : g_H} {own : String} {cc : ByteArray} {nL : Nat} {ret : Option FieldType} {hh : List (Nat × Nat × Nat × Nat)} {nm : String} {pc : Nat} {ls : Array Slot} {rest st0 : List Value} {β : Type} {q : β × g_H}
theorem g_after {h1 : g_H} (hI : gI G h0 h H locs cells slots) (hle : g_le h h1) {t : State} {L : List Loc} {H1 : Heap} (e1 : H1 = t.heap) (hR : g_R G h1 t.heap) (hL : ∀ q ∈ L, g_A G q.base) : gI G h0 h1 H1 (locs ++ L) (cells + (g_nx h1 - g_nx h)) (slots + (g_us h1 - g_us h)) := by
  obtain ⟨-, hL0, ⟨l1, l1'⟩, e2, e3⟩ := hI
  obtain ⟨l2, l2'⟩ := hle
  refine ⟨by rw [e1]; exact hR, fun x hx => ?_, ⟨Nat.le_trans l1 l2, Nat.le_trans l1' l2'⟩, by omega, by omega⟩
  rcases List.mem_append.mp hx with h | h
  · exact hL0 x h
  · exact hL x h
theorem g_run {res : g_Rs} {h1 : g_H} (hI : gI G h0 h H locs cells slots) (hle : g_le h h1) {a : Array Value} (hr : vx_Run p l e R s m args below meth c H locs cells slots (g_nx h1 - g_nx h) (g_us h1 - g_us h) (F0 m pc ls st0) rest (g_Qc G res h1 a) (g_XC G res h1) (g_A G))
    (kn : ∀ (v : Option Value) (H1 : Heap) (locs1 : List Loc) (cells1 slots1 : Nat), res = .inl v → gI G h0 h1 H1 locs1 cells1 slots1 → W p l e R s m args below meth c H1 locs1 cells1 slots1 Q (F0 m (pc + 3) ls (v.toList ++ rest)))
    (kx : ∀ (ci x : Nat) (H1 : Heap) (locs1 : List Loc) (cells1 slots1 : Nat) (r : vw_C) (ce : Cell), res = .inr (ci, x) → g_cl[ci]? = some r → gI G h0 h1 H1 locs1 cells1 slots1 → H1[x]? = some ce → ce.vm = .none → s.vm.findClass r.1 = some ce.cls → vx_W p l e R s m args below meth c H1 locs1 cells1 slots1 Q (F0 m pc ls rest) x) : W p l e R s m args below meth c H locs cells slots Q (F0 m pc ls st0) := by
  intro T hT X
  rcases hr T hT X with ⟨v, st₀, t, T', L, h0', X', hL, e1, e2, ⟨v', hv1, hv2, hR⟩, st⟩ | ⟨x, st₀, t, T', L, E, ce, h0', X', hL, e1, e2, ⟨ci, r, hr1, hr2, hr3, hR⟩, hce, hcv, hcl, st⟩
  · cases hv2
    obtain ⟨t2, a1, b1⟩ := kn v T'.heap _ _ _ hv1 (g_after hI hle e1 hR hL) T' rfl X'
    exact ⟨t2, st t2 a1, b1⟩
  · subst hr2
    obtain ⟨t2, a1, b1⟩ := kx ci x T'.heap _ _ _ r ce hr3 hr1 (g_after hI hle e1 hR hL) (by rw [e1]; exact hce) hcv hcl T' rfl X'
    exact ⟨t2, st.trans a1, b1⟩
theorem g_run5 {res : g_Rs} {h1 : g_H} (hI : gI G h0 h H locs cells slots) (hle : g_le h h1) {a : Array Value} (hr : vx_Run5 p l e R s m args below meth c H locs cells slots (g_nx h1 - g_nx h) (g_us h1 - g_us h) (F0 m pc ls st0) rest (g_Qc G res h1 a) (g_XC G res h1) (g_A G))
    (kn : ∀ (v : Option Value) (H1 : Heap) (locs1 : List Loc) (cells1 slots1 : Nat), res = .inl v → gI G h0 h1 H1 locs1 cells1 slots1 → W p l e R s m args below meth c H1 locs1 cells1 slots1 Q (F0 m (pc + 5) ls (v.toList ++ rest)))
    (kx : ∀ (ci x : Nat) (H1 : Heap) (locs1 : List Loc) (cells1 slots1 : Nat) (r : vw_C) (ce : Cell), res = .inr (ci, x) → g_cl[ci]? = some r → gI G h0 h1 H1 locs1 cells1 slots1 → H1[x]? = some ce → ce.vm = .none → s.vm.findClass r.1 = some ce.cls → vx_W p l e R s m args below meth c H1 locs1 cells1 slots1 Q (F0 m pc ls rest) x) : W p l e R s m args below meth c H locs cells slots Q (F0 m pc ls st0) := by
  intro T hT X
  rcases hr T hT X with ⟨v, st₀, t, T', L, h0', X', hL, e1, e2, ⟨v', hv1, hv2, hR⟩, st⟩ | ⟨x, st₀, t, T', L, E, ce, h0', X', hL, e1, e2, ⟨ci, r, hr1, hr2, hr3, hR⟩, hce, hcv, hcl, st⟩
  · cases hv2
    obtain ⟨t2, a1, b1⟩ := kn v T'.heap _ _ _ hv1 (g_after hI hle e1 hR hL) T' rfl X'
    exact ⟨t2, st t2 a1, b1⟩
  · subst hr2
    obtain ⟨t2, a1, b1⟩ := kx ci x T'.heap _ _ _ r ce hr3 hr1 (g_after hI hle e1 hR hL) (by rw [e1]; exact hce) hcv hcl T' rfl X'
    exact ⟨t2, st.trans a1, b1⟩
/-- what was thrown leaves this method too -/
theorem g_out {γ : Type} {w2 : γ → Option Value} (X : gX G l own cc nL ret hh nm p s m args meth c) (hout : ∀ x ∈ tableOf hh, covers x pc = false) {ci x : Nat} {r : vw_C} {ce : Cell} {H1 : Heap} {locs1 : List Loc} {cells1 slots1 : Nat} {h1 : g_H} (hr : g_cl[ci]? = some r) (hI : gI G h0 h1 H1 locs1 cells1 slots1) (hce : H1[x]? = some ce) (hcv : ce.vm = .none) (hcl : s.vm.findClass r.1 = some ce.cls) : vx_W p l e R s m args below meth c H1 locs1 cells1 slots1 (gQ G below args s h0 h1 (g_w w2 (.inr (ci, x)))) (F0 m pc ls rest) x := by
  obtain ⟨hR, hL, -, e1, e2⟩ := hI
  refine vx_out (E := r.1) (ce := ce) (by rw [X.2.2.2.2.2.2.2.2.1]; exact hout) X.2.2.2.2.2.2.2.1 hce hcv hcl (fun t ht _ => ⟨ci, r, hr, rfl, rfl, by rw [ht]; exact hR⟩) hL (by omega) (by omega)
theorem g_cBI (hI : gI G h0 h H locs cells slots) {f : gM Int32} {K : Int32 → gM β} (hf : (gB f K).1 h = some q) {a : Array Value}
    (hr : ∀ (v : Int32) (h1 : g_H), f.1 h = some (v, h1) → g_le h h1 → g_le h1 q.2 → vx_Run p l e R s m args below meth c H locs cells slots (g_nx h1 - g_nx h) (g_us h1 - g_us h) (F0 m pc ls st0) rest (g_Qc G (.inl (g_wI v)) h1 a) (g_XC G (.inl (g_wI v)) h1) (g_A G))
    (kk : ∀ (v : Int32) (h1 : g_H) (H1 : Heap) (locs1 : List Loc) (cells1 slots1 : Nat), (K v).1 h1 = some q → gI G h0 h1 H1 locs1 cells1 slots1 → W p l e R s m args below meth c H1 locs1 cells1 slots1 Q (F0 m (pc + 3) ls (.int v :: rest))) : W p l e R s m args below meth c H locs cells slots Q (F0 m pc ls st0) := by
  obtain ⟨v, h1, e1, hf1, l1, l2⟩ := gB_b hf
  refine g_run hI l1 (hr v h1 e1 l1 l2) (fun v' H1 locs1 cells1 slots1 hv hI1 => ?_) (fun ci x H1 locs1 cells1 slots1 r ce hv => by cases hv)
  cases hv
  exact kk v h1 H1 locs1 cells1 slots1 hf1 hI1
theorem g_cTI {γ : Type} {w2 : γ → Option Value} {q : (γ ⊕ gE) × g_H} (X : gX G l own cc nL ret hh nm p s m args meth c) (hI : gI G h0 h H locs cells slots) (hout : ∀ x ∈ tableOf hh, covers x pc = false) {f : gM (Int32 ⊕ gE)} {K : Int32 → gM (γ ⊕ gE)} (hf : (gT f K).1 h = some q) {a : Array Value}
    (hr : ∀ (v : Int32 ⊕ gE) (h1 : g_H), f.1 h = some (v, h1) → g_le h h1 → g_le h1 q.2 → vx_Run p l e R s m args below meth c H locs cells slots (g_nx h1 - g_nx h) (g_us h1 - g_us h) (F0 m pc ls st0) rest (g_Qc G (g_w g_wI v) h1 a) (g_XC G (g_w g_wI v) h1) (g_A G))
    (kk : ∀ (v : Int32) (h1 : g_H) (H1 : Heap) (locs1 : List Loc) (cells1 slots1 : Nat), (K v).1 h1 = some q → gI G h0 h1 H1 locs1 cells1 slots1 → W p l e R s m args below meth c H1 locs1 cells1 slots1 (gQ G below args s h0 q.2 (g_w w2 q.1)) (F0 m (pc + 3) ls (.int v :: rest))) : W p l e R s m args below meth c H locs cells slots (gQ G below args s h0 q.2 (g_w w2 q.1)) (F0 m pc ls st0) := by
  obtain ⟨v, h1, e1, hf1, l1, l2⟩ := gB_b hf
  cases v with
  | inl v =>
    refine g_run hI l1 (hr _ h1 e1 l1 l2) (fun v' H1 locs1 cells1 slots1 hv hI1 => ?_) (fun ci x H1 locs1 cells1 slots1 r ce hv => by cases hv)
    cases hv
    exact kk v h1 H1 locs1 cells1 slots1 hf1 hI1
  | inr y =>
    cases gRet_e hf1
    refine g_run hI l1 (hr _ h1 e1 l1 l2) (fun v' H1 locs1 cells1 slots1 hv hI1 => by cases hv) (fun ci x H1 locs1 cells1 slots1 r ce hv hr9 hI1 hce hcv hcl => ?_)
    cases hv
    exact g_out X hout hr9 hI1 hce hcv hcl
theorem g_cHI (hI : gI G h0 h H locs cells slots) {f : gM (Int32 ⊕ gE)} {K : (Int32 ⊕ gE) → gM β} (hf : (gB f K).1 h = some q) {a : Array Value}
    (hr : ∀ (v : Int32 ⊕ gE) (h1 : g_H), f.1 h = some (v, h1) → g_le h h1 → g_le h1 q.2 → vx_Run p l e R s m args below meth c H locs cells slots (g_nx h1 - g_nx h) (g_us h1 - g_us h) (F0 m pc ls st0) rest (g_Qc G (g_w g_wI v) h1 a) (g_XC G (g_w g_wI v) h1) (g_A G))
    (kk : ∀ (v : Int32) (h1 : g_H) (H1 : Heap) (locs1 : List Loc) (cells1 slots1 : Nat), (K (.inl v)).1 h1 = some q → gI G h0 h1 H1 locs1 cells1 slots1 → W p l e R s m args below meth c H1 locs1 cells1 slots1 Q (F0 m (pc + 3) ls (.int v :: rest)))
    (kx : ∀ (ci x : Nat) (h1 : g_H) (H1 : Heap) (locs1 : List Loc) (cells1 slots1 : Nat) (r : vw_C) (ce : Cell), (K (.inr (ci, x))).1 h1 = some q → g_cl[ci]? = some r → gI G h0 h1 H1 locs1 cells1 slots1 → H1[x]? = some ce → ce.vm = .none → s.vm.findClass r.1 = some ce.cls → vx_W p l e R s m args below meth c H1 locs1 cells1 slots1 Q (F0 m pc ls rest) x) : W p l e R s m args below meth c H locs cells slots Q (F0 m pc ls st0) := by
  obtain ⟨v, h1, e1, hf1, l1, l2⟩ := gB_b hf
  cases v with
  | inl v =>
    refine g_run hI l1 (hr _ h1 e1 l1 l2) (fun v' H1 locs1 cells1 slots1 hv hI1 => ?_) (fun ci x H1 locs1 cells1 slots1 r ce hv => by cases hv)
    cases hv
    exact kk v h1 H1 locs1 cells1 slots1 hf1 hI1
  | inr y =>
    refine g_run hI l1 (hr _ h1 e1 l1 l2) (fun v' H1 locs1 cells1 slots1 hv hI1 => by cases hv) (fun ci x H1 locs1 cells1 slots1 r ce hv hr9 hI1 hce hcv hcl => ?_)
    cases hv
    exact kx ci x h1 H1 locs1 cells1 slots1 r ce hf1 hr9 hI1 hce hcv hcl
theorem g_cBR (hI : gI G h0 h H locs cells slots) {f : gM Nat} {K : Nat → gM β} (hf : (gB f K).1 h = some q) {a : Array Value}
    (hr : ∀ (v : Nat) (h1 : g_H), f.1 h = some (v, h1) → g_le h h1 → g_le h1 q.2 → vx_Run p l e R s m args below meth c H locs cells slots (g_nx h1 - g_nx h) (g_us h1 - g_us h) (F0 m pc ls st0) rest (g_Qc G (.inl (g_wR v)) h1 a) (g_XC G (.inl (g_wR v)) h1) (g_A G))
    (kk : ∀ (v : Nat) (h1 : g_H) (H1 : Heap) (locs1 : List Loc) (cells1 slots1 : Nat), (K v).1 h1 = some q → gI G h0 h1 H1 locs1 cells1 slots1 → W p l e R s m args below meth c H1 locs1 cells1 slots1 Q (F0 m (pc + 3) ls (.ref v :: rest))) : W p l e R s m args below meth c H locs cells slots Q (F0 m pc ls st0) := by
  obtain ⟨v, h1, e1, hf1, l1, l2⟩ := gB_b hf
  refine g_run hI l1 (hr v h1 e1 l1 l2) (fun v' H1 locs1 cells1 slots1 hv hI1 => ?_) (fun ci x H1 locs1 cells1 slots1 r ce hv => by cases hv)
  cases hv
  exact kk v h1 H1 locs1 cells1 slots1 hf1 hI1
theorem g_cTR {γ : Type} {w2 : γ → Option Value} {q : (γ ⊕ gE) × g_H} (X : gX G l own cc nL ret hh nm p s m args meth c) (hI : gI G h0 h H locs cells slots) (hout : ∀ x ∈ tableOf hh, covers x pc = false) {f : gM (Nat ⊕ gE)} {K : Nat → gM (γ ⊕ gE)} (hf : (gT f K).1 h = some q) {a : Array Value}
    (hr : ∀ (v : Nat ⊕ gE) (h1 : g_H), f.1 h = some (v, h1) → g_le h h1 → g_le h1 q.2 → vx_Run p l e R s m args below meth c H locs cells slots (g_nx h1 - g_nx h) (g_us h1 - g_us h) (F0 m pc ls st0) rest (g_Qc G (g_w g_wR v) h1 a) (g_XC G (g_w g_wR v) h1) (g_A G))
    (kk : ∀ (v : Nat) (h1 : g_H) (H1 : Heap) (locs1 : List Loc) (cells1 slots1 : Nat), (K v).1 h1 = some q → gI G h0 h1 H1 locs1 cells1 slots1 → W p l e R s m args below meth c H1 locs1 cells1 slots1 (gQ G below args s h0 q.2 (g_w w2 q.1)) (F0 m (pc + 3) ls (.ref v :: rest))) : W p l e R s m args below meth c H locs cells slots (gQ G below args s h0 q.2 (g_w w2 q.1)) (F0 m pc ls st0) := by
  obtain ⟨v, h1, e1, hf1, l1, l2⟩ := gB_b hf
  cases v with
  | inl v =>
    refine g_run hI l1 (hr _ h1 e1 l1 l2) (fun v' H1 locs1 cells1 slots1 hv hI1 => ?_) (fun ci x H1 locs1 cells1 slots1 r ce hv => by cases hv)
    cases hv
    exact kk v h1 H1 locs1 cells1 slots1 hf1 hI1
  | inr y =>
    cases gRet_e hf1
    refine g_run hI l1 (hr _ h1 e1 l1 l2) (fun v' H1 locs1 cells1 slots1 hv hI1 => by cases hv) (fun ci x H1 locs1 cells1 slots1 r ce hv hr9 hI1 hce hcv hcl => ?_)
    cases hv
    exact g_out X hout hr9 hI1 hce hcv hcl
theorem g_cHR (hI : gI G h0 h H locs cells slots) {f : gM (Nat ⊕ gE)} {K : (Nat ⊕ gE) → gM β} (hf : (gB f K).1 h = some q) {a : Array Value}
    (hr : ∀ (v : Nat ⊕ gE) (h1 : g_H), f.1 h = some (v, h1) → g_le h h1 → g_le h1 q.2 → vx_Run p l e R s m args below meth c H locs cells slots (g_nx h1 - g_nx h) (g_us h1 - g_us h) (F0 m pc ls st0) rest (g_Qc G (g_w g_wR v) h1 a) (g_XC G (g_w g_wR v) h1) (g_A G))
    (kk : ∀ (v : Nat) (h1 : g_H) (H1 : Heap) (locs1 : List Loc) (cells1 slots1 : Nat), (K (.inl v)).1 h1 = some q → gI G h0 h1 H1 locs1 cells1 slots1 → W p l e R s m args below meth c H1 locs1 cells1 slots1 Q (F0 m (pc + 3) ls (.ref v :: rest)))
    (kx : ∀ (ci x : Nat) (h1 : g_H) (H1 : Heap) (locs1 : List Loc) (cells1 slots1 : Nat) (r : vw_C) (ce : Cell), (K (.inr (ci, x))).1 h1 = some q → g_cl[ci]? = some r → gI G h0 h1 H1 locs1 cells1 slots1 → H1[x]? = some ce → ce.vm = .none → s.vm.findClass r.1 = some ce.cls → vx_W p l e R s m args below meth c H1 locs1 cells1 slots1 Q (F0 m pc ls rest) x) : W p l e R s m args below meth c H locs cells slots Q (F0 m pc ls st0) := by
  obtain ⟨v, h1, e1, hf1, l1, l2⟩ := gB_b hf
  cases v with
  | inl v =>
    refine g_run hI l1 (hr _ h1 e1 l1 l2) (fun v' H1 locs1 cells1 slots1 hv hI1 => ?_) (fun ci x H1 locs1 cells1 slots1 r ce hv => by cases hv)
    cases hv
    exact kk v h1 H1 locs1 cells1 slots1 hf1 hI1
  | inr y =>
    refine g_run hI l1 (hr _ h1 e1 l1 l2) (fun v' H1 locs1 cells1 slots1 hv hI1 => by cases hv) (fun ci x H1 locs1 cells1 slots1 r ce hv hr9 hI1 hce hcv hcl => ?_)
    cases hv
    exact kx ci x h1 H1 locs1 cells1 slots1 r ce hf1 hr9 hI1 hce hcv hcl
theorem g_cBQ (hI : gI G h0 h H locs cells slots) {f : gM (Option Nat)} {K : (Option Nat) → gM β} (hf : (gB f K).1 h = some q) {a : Array Value}
    (hr : ∀ (v : (Option Nat)) (h1 : g_H), f.1 h = some (v, h1) → g_le h h1 → g_le h1 q.2 → vx_Run p l e R s m args below meth c H locs cells slots (g_nx h1 - g_nx h) (g_us h1 - g_us h) (F0 m pc ls st0) rest (g_Qc G (.inl (g_wQ v)) h1 a) (g_XC G (.inl (g_wQ v)) h1) (g_A G))
    (kk : ∀ (v : (Option Nat)) (h1 : g_H) (H1 : Heap) (locs1 : List Loc) (cells1 slots1 : Nat), (K v).1 h1 = some q → gI G h0 h1 H1 locs1 cells1 slots1 → W p l e R s m args below meth c H1 locs1 cells1 slots1 Q (F0 m (pc + 3) ls (va_rf v :: rest))) : W p l e R s m args below meth c H locs cells slots Q (F0 m pc ls st0) := by
  obtain ⟨v, h1, e1, hf1, l1, l2⟩ := gB_b hf
  refine g_run hI l1 (hr v h1 e1 l1 l2) (fun v' H1 locs1 cells1 slots1 hv hI1 => ?_) (fun ci x H1 locs1 cells1 slots1 r ce hv => by cases hv)
  cases hv
  exact kk v h1 H1 locs1 cells1 slots1 hf1 hI1
theorem g_cTQ {γ : Type} {w2 : γ → Option Value} {q : (γ ⊕ gE) × g_H} (X : gX G l own cc nL ret hh nm p s m args meth c) (hI : gI G h0 h H locs cells slots) (hout : ∀ x ∈ tableOf hh, covers x pc = false) {f : gM ((Option Nat) ⊕ gE)} {K : (Option Nat) → gM (γ ⊕ gE)} (hf : (gT f K).1 h = some q) {a : Array Value}
    (hr : ∀ (v : (Option Nat) ⊕ gE) (h1 : g_H), f.1 h = some (v, h1) → g_le h h1 → g_le h1 q.2 → vx_Run p l e R s m args below meth c H locs cells slots (g_nx h1 - g_nx h) (g_us h1 - g_us h) (F0 m pc ls st0) rest (g_Qc G (g_w g_wQ v) h1 a) (g_XC G (g_w g_wQ v) h1) (g_A G))
    (kk : ∀ (v : (Option Nat)) (h1 : g_H) (H1 : Heap) (locs1 : List Loc) (cells1 slots1 : Nat), (K v).1 h1 = some q → gI G h0 h1 H1 locs1 cells1 slots1 → W p l e R s m args below meth c H1 locs1 cells1 slots1 (gQ G below args s h0 q.2 (g_w w2 q.1)) (F0 m (pc + 3) ls (va_rf v :: rest))) : W p l e R s m args below meth c H locs cells slots (gQ G below args s h0 q.2 (g_w w2 q.1)) (F0 m pc ls st0) := by
  obtain ⟨v, h1, e1, hf1, l1, l2⟩ := gB_b hf
  cases v with
  | inl v =>
    refine g_run hI l1 (hr _ h1 e1 l1 l2) (fun v' H1 locs1 cells1 slots1 hv hI1 => ?_) (fun ci x H1 locs1 cells1 slots1 r ce hv => by cases hv)
    cases hv
    exact kk v h1 H1 locs1 cells1 slots1 hf1 hI1
  | inr y =>
    cases gRet_e hf1
    refine g_run hI l1 (hr _ h1 e1 l1 l2) (fun v' H1 locs1 cells1 slots1 hv hI1 => by cases hv) (fun ci x H1 locs1 cells1 slots1 r ce hv hr9 hI1 hce hcv hcl => ?_)
    cases hv
    exact g_out X hout hr9 hI1 hce hcv hcl
theorem g_cHQ (hI : gI G h0 h H locs cells slots) {f : gM ((Option Nat) ⊕ gE)} {K : ((Option Nat) ⊕ gE) → gM β} (hf : (gB f K).1 h = some q) {a : Array Value}
    (hr : ∀ (v : (Option Nat) ⊕ gE) (h1 : g_H), f.1 h = some (v, h1) → g_le h h1 → g_le h1 q.2 → vx_Run p l e R s m args below meth c H locs cells slots (g_nx h1 - g_nx h) (g_us h1 - g_us h) (F0 m pc ls st0) rest (g_Qc G (g_w g_wQ v) h1 a) (g_XC G (g_w g_wQ v) h1) (g_A G))
    (kk : ∀ (v : (Option Nat)) (h1 : g_H) (H1 : Heap) (locs1 : List Loc) (cells1 slots1 : Nat), (K (.inl v)).1 h1 = some q → gI G h0 h1 H1 locs1 cells1 slots1 → W p l e R s m args below meth c H1 locs1 cells1 slots1 Q (F0 m (pc + 3) ls (va_rf v :: rest)))
    (kx : ∀ (ci x : Nat) (h1 : g_H) (H1 : Heap) (locs1 : List Loc) (cells1 slots1 : Nat) (r : vw_C) (ce : Cell), (K (.inr (ci, x))).1 h1 = some q → g_cl[ci]? = some r → gI G h0 h1 H1 locs1 cells1 slots1 → H1[x]? = some ce → ce.vm = .none → s.vm.findClass r.1 = some ce.cls → vx_W p l e R s m args below meth c H1 locs1 cells1 slots1 Q (F0 m pc ls rest) x) : W p l e R s m args below meth c H locs cells slots Q (F0 m pc ls st0) := by
  obtain ⟨v, h1, e1, hf1, l1, l2⟩ := gB_b hf
  cases v with
  | inl v =>
    refine g_run hI l1 (hr _ h1 e1 l1 l2) (fun v' H1 locs1 cells1 slots1 hv hI1 => ?_) (fun ci x H1 locs1 cells1 slots1 r ce hv => by cases hv)
    cases hv
    exact kk v h1 H1 locs1 cells1 slots1 hf1 hI1
  | inr y =>
    refine g_run hI l1 (hr _ h1 e1 l1 l2) (fun v' H1 locs1 cells1 slots1 hv hI1 => by cases hv) (fun ci x H1 locs1 cells1 slots1 r ce hv hr9 hI1 hce hcv hcl => ?_)
    cases hv
    exact kx ci x h1 H1 locs1 cells1 slots1 r ce hf1 hr9 hI1 hce hcv hcl
theorem g_cBU (hI : gI G h0 h H locs cells slots) {f : gM Unit} {K : Unit → gM β} (hf : (gB f K).1 h = some q) {a : Array Value}
    (hr : ∀ (v : Unit) (h1 : g_H), f.1 h = some (v, h1) → g_le h h1 → g_le h1 q.2 → vx_Run p l e R s m args below meth c H locs cells slots (g_nx h1 - g_nx h) (g_us h1 - g_us h) (F0 m pc ls st0) rest (g_Qc G (.inl (g_wU v)) h1 a) (g_XC G (.inl (g_wU v)) h1) (g_A G))
    (kk : ∀ (v : Unit) (h1 : g_H) (H1 : Heap) (locs1 : List Loc) (cells1 slots1 : Nat), (K v).1 h1 = some q → gI G h0 h1 H1 locs1 cells1 slots1 → W p l e R s m args below meth c H1 locs1 cells1 slots1 Q (F0 m (pc + 3) ls rest)) : W p l e R s m args below meth c H locs cells slots Q (F0 m pc ls st0) := by
  obtain ⟨v, h1, e1, hf1, l1, l2⟩ := gB_b hf
  refine g_run hI l1 (hr v h1 e1 l1 l2) (fun v' H1 locs1 cells1 slots1 hv hI1 => ?_) (fun ci x H1 locs1 cells1 slots1 r ce hv => by cases hv)
  cases hv
  exact kk v h1 H1 locs1 cells1 slots1 hf1 hI1
theorem g_cTU {γ : Type} {w2 : γ → Option Value} {q : (γ ⊕ gE) × g_H} (X : gX G l own cc nL ret hh nm p s m args meth c) (hI : gI G h0 h H locs cells slots) (hout : ∀ x ∈ tableOf hh, covers x pc = false) {f : gM (Unit ⊕ gE)} {K : Unit → gM (γ ⊕ gE)} (hf : (gT f K).1 h = some q) {a : Array Value}
    (hr : ∀ (v : Unit ⊕ gE) (h1 : g_H), f.1 h = some (v, h1) → g_le h h1 → g_le h1 q.2 → vx_Run p l e R s m args below meth c H locs cells slots (g_nx h1 - g_nx h) (g_us h1 - g_us h) (F0 m pc ls st0) rest (g_Qc G (g_w g_wU v) h1 a) (g_XC G (g_w g_wU v) h1) (g_A G))
    (kk : ∀ (v : Unit) (h1 : g_H) (H1 : Heap) (locs1 : List Loc) (cells1 slots1 : Nat), (K v).1 h1 = some q → gI G h0 h1 H1 locs1 cells1 slots1 → W p l e R s m args below meth c H1 locs1 cells1 slots1 (gQ G below args s h0 q.2 (g_w w2 q.1)) (F0 m (pc + 3) ls rest)) : W p l e R s m args below meth c H locs cells slots (gQ G below args s h0 q.2 (g_w w2 q.1)) (F0 m pc ls st0) := by
  obtain ⟨v, h1, e1, hf1, l1, l2⟩ := gB_b hf
  cases v with
  | inl v =>
    refine g_run hI l1 (hr _ h1 e1 l1 l2) (fun v' H1 locs1 cells1 slots1 hv hI1 => ?_) (fun ci x H1 locs1 cells1 slots1 r ce hv => by cases hv)
    cases hv
    exact kk v h1 H1 locs1 cells1 slots1 hf1 hI1
  | inr y =>
    cases gRet_e hf1
    refine g_run hI l1 (hr _ h1 e1 l1 l2) (fun v' H1 locs1 cells1 slots1 hv hI1 => by cases hv) (fun ci x H1 locs1 cells1 slots1 r ce hv hr9 hI1 hce hcv hcl => ?_)
    cases hv
    exact g_out X hout hr9 hI1 hce hcv hcl
theorem g_cHU (hI : gI G h0 h H locs cells slots) {f : gM (Unit ⊕ gE)} {K : (Unit ⊕ gE) → gM β} (hf : (gB f K).1 h = some q) {a : Array Value}
    (hr : ∀ (v : Unit ⊕ gE) (h1 : g_H), f.1 h = some (v, h1) → g_le h h1 → g_le h1 q.2 → vx_Run p l e R s m args below meth c H locs cells slots (g_nx h1 - g_nx h) (g_us h1 - g_us h) (F0 m pc ls st0) rest (g_Qc G (g_w g_wU v) h1 a) (g_XC G (g_w g_wU v) h1) (g_A G))
    (kk : ∀ (v : Unit) (h1 : g_H) (H1 : Heap) (locs1 : List Loc) (cells1 slots1 : Nat), (K (.inl v)).1 h1 = some q → gI G h0 h1 H1 locs1 cells1 slots1 → W p l e R s m args below meth c H1 locs1 cells1 slots1 Q (F0 m (pc + 3) ls rest))
    (kx : ∀ (ci x : Nat) (h1 : g_H) (H1 : Heap) (locs1 : List Loc) (cells1 slots1 : Nat) (r : vw_C) (ce : Cell), (K (.inr (ci, x))).1 h1 = some q → g_cl[ci]? = some r → gI G h0 h1 H1 locs1 cells1 slots1 → H1[x]? = some ce → ce.vm = .none → s.vm.findClass r.1 = some ce.cls → vx_W p l e R s m args below meth c H1 locs1 cells1 slots1 Q (F0 m pc ls rest) x) : W p l e R s m args below meth c H locs cells slots Q (F0 m pc ls st0) := by
  obtain ⟨v, h1, e1, hf1, l1, l2⟩ := gB_b hf
  cases v with
  | inl v =>
    refine g_run hI l1 (hr _ h1 e1 l1 l2) (fun v' H1 locs1 cells1 slots1 hv hI1 => ?_) (fun ci x H1 locs1 cells1 slots1 r ce hv => by cases hv)
    cases hv
    exact kk v h1 H1 locs1 cells1 slots1 hf1 hI1
  | inr y =>
    refine g_run hI l1 (hr _ h1 e1 l1 l2) (fun v' H1 locs1 cells1 slots1 hv hI1 => by cases hv) (fun ci x H1 locs1 cells1 slots1 r ce hv hr9 hI1 hce hcv hcl => ?_)
    cases hv
    exact kx ci x h1 H1 locs1 cells1 slots1 r ce hf1 hr9 hI1 hce hcv hcl
theorem g_cBI5 (hI : gI G h0 h H locs cells slots) {f : gM Int32} {K : Int32 → gM β} (hf : (gB f K).1 h = some q) {a : Array Value}
    (hr : ∀ (v : Int32) (h1 : g_H), f.1 h = some (v, h1) → g_le h h1 → g_le h1 q.2 → vx_Run5 p l e R s m args below meth c H locs cells slots (g_nx h1 - g_nx h) (g_us h1 - g_us h) (F0 m pc ls st0) rest (g_Qc G (.inl (g_wI v)) h1 a) (g_XC G (.inl (g_wI v)) h1) (g_A G))
    (kk : ∀ (v : Int32) (h1 : g_H) (H1 : Heap) (locs1 : List Loc) (cells1 slots1 : Nat), (K v).1 h1 = some q → gI G h0 h1 H1 locs1 cells1 slots1 → W p l e R s m args below meth c H1 locs1 cells1 slots1 Q (F0 m (pc + 5) ls (.int v :: rest))) : W p l e R s m args below meth c H locs cells slots Q (F0 m pc ls st0) := by
  obtain ⟨v, h1, e1, hf1, l1, l2⟩ := gB_b hf
  refine g_run5 hI l1 (hr v h1 e1 l1 l2) (fun v' H1 locs1 cells1 slots1 hv hI1 => ?_) (fun ci x H1 locs1 cells1 slots1 r ce hv => by cases hv)
  cases hv
  exact kk v h1 H1 locs1 cells1 slots1 hf1 hI1
theorem g_rV (X : gX G l own cc nL ret hh nm p s m args meth c) (hI : gI G h0 h H locs cells slots) {h1 h2 : g_H} (hle : g_le h h1) (hle2 : g_le h1 h2) (hRc : g_nx h2 - g_nx h0 ≤ R.cells ∧ g_us h2 - g_us h0 ≤ R.slots) {y : MethodName} {bytes : ByteArray} {maxL : Nat} {rt : Option FieldType} {F' L' b : Nat} {As : List Value} {res : g_Rs} (hM : gMet G l y (Cond.code y bytes maxL rt) F' L' (.ref b :: As) h res h1) {n : Nat} (hy : gYd y n) {ci : Nat} {r : vw_C} (hs : g_sh h b = some (.inr ci)) (hr : g_cl[ci]? = some r) (hC : y.cls = r.1) {index : Nat} (q1 : Cond.methodLink own index y ∈ lw_all) (q2 : Cond.instanceMethod y ∈ lw_all) (q3 : Cond.selects r.1 y y ∈ lw_all) (q4 : Cond.initialized r.1 ∈ lw_all) (q5 : Cond.code y bytes maxL rt ∈ lw_all) (hn : As.length = n) (hF : F' + 1 ≤ R.frames) (hL : 8 + (maxL + 11) + L' ≤ R.locals) (hsz : ls.size = nL) (hst : st0 = As.reverse ++ .ref b :: rest) (hW : (rest.map fun v => v.category).sum ≤ 8) (hdg : decode cc pc = .ok (.invokevirtual index, 3)) : vx_Run p l e R s m args below meth c H locs cells slots (g_nx h1 - g_nx h) (g_us h1 - g_us h) (F0 m pc ls st0) rest (g_Qc G res h1 (Value.ref b :: As).toArray) (g_XC G res h1) (g_A G) :=
  vx_runV ⟨X.1, X.2.1, X.2.2.1, X.2.2.2.1, X.2.2.2.2.1⟩ hM (cwV n X.2.2.2.2.1 (lw_V q1 q2 q3 q4 q5) rfl rfl rfl ⟨hC, hy.1.1, hy.1.2, hy.2⟩ ⟨hF, hL⟩) ⟨g_blind, g_any X hI.1 hs hr, fun U hU hW9 => ⟨rfl, by rw [hU]; exact hI.1, X.2.2.2.2.2.1.warm hW9⟩⟩ rfl hn hsz hst (lv_room hW) hdg (g_fit hI hle hle2 hRc)
theorem g_rVX (X : gX G l own cc nL ret hh nm p s m args meth c) (hI : gI G h0 h H locs cells slots) {h1 h2 : g_H} (hle : g_le h h1) (hle2 : g_le h1 h2) (hRc : g_nx h2 - g_nx h0 ≤ R.cells ∧ g_us h2 - g_us h0 ≤ R.slots) {y : MethodName} {bytes : ByteArray} {maxL : Nat} {rt : Option FieldType} {h9 : List (Nat × Nat × Nat × Nat)} {F' L' b : Nat} {As : List Value} {res : g_Rs} (hM : gMet G l y (Cond.codeWith y bytes maxL rt h9) F' L' (.ref b :: As) h res h1) {n : Nat} (hy : gYd y n) {ci : Nat} {r : vw_C} (hs : g_sh h b = some (.inr ci)) (hr : g_cl[ci]? = some r) (hC : y.cls = r.1) {index : Nat} (q1 : Cond.methodLink own index y ∈ lw_all) (q2 : Cond.instanceMethod y ∈ lw_all) (q3 : Cond.selects r.1 y y ∈ lw_all) (q4 : Cond.initialized r.1 ∈ lw_all) (q5 : Cond.codeWith y bytes maxL rt h9 ∈ lw_all) (hn : As.length = n) (hF : F' + 1 ≤ R.frames) (hL : 8 + (maxL + 11) + L' ≤ R.locals) (hsz : ls.size = nL) (hst : st0 = As.reverse ++ .ref b :: rest) (hW : (rest.map fun v => v.category).sum ≤ 8) (hdg : decode cc pc = .ok (.invokevirtual index, 3)) : vx_Run p l e R s m args below meth c H locs cells slots (g_nx h1 - g_nx h) (g_us h1 - g_us h) (F0 m pc ls st0) rest (g_Qc G res h1 (Value.ref b :: As).toArray) (g_XC G res h1) (g_A G) :=
  vx_runVX ⟨X.1, X.2.1, X.2.2.1, X.2.2.2.1, X.2.2.2.2.1⟩ hM (vx_cwVW n X.2.2.2.2.1 (lw_VW q1 q2 q3 q4 q5) rfl rfl rfl ⟨hC, hy.1.1, hy.1.2, hy.2⟩ ⟨hF, hL⟩) ⟨g_blind, g_any X hI.1 hs hr, fun U hU hW9 => ⟨rfl, by rw [hU]; exact hI.1, X.2.2.2.2.2.1.warm hW9⟩⟩ rfl hn hsz hst (lv_room hW) hdg (g_fit hI hle hle2 hRc)
theorem g_rS (X : gX G l own cc nL ret hh nm p s m args meth c) (hI : gI G h0 h H locs cells slots) {h1 h2 : g_H} (hle : g_le h h1) (hle2 : g_le h1 h2) (hRc : g_nx h2 - g_nx h0 ≤ R.cells ∧ g_us h2 - g_us h0 ≤ R.slots) {y : MethodName} {bytes : ByteArray} {maxL : Nat} {rt : Option FieldType} {F' L' b : Nat} {As : List Value} {res : g_Rs} (hM : gMet G l y (Cond.code y bytes maxL rt) F' L' As h res h1) {n : Nat} (hy : gYd y n) {index : Nat} (q1 : Cond.methodLink own index y ∈ lw_all) (q2 : Cond.static y ∈ lw_all) (q4 : Cond.initialized y.cls ∈ lw_all) (q5 : Cond.code y bytes maxL rt ∈ lw_all) (hn : As.length = n) (hF : F' + 1 ≤ R.frames) (hL : 8 + (maxL + 11) + L' ≤ R.locals) (hsz : ls.size = nL) (hst : st0 = As.reverse ++ rest) (hW : (rest.map fun v => v.category).sum ≤ 8) (hdg : decode cc pc = .ok (.invokestatic index, 3)) : vx_Run p l e R s m args below meth c H locs cells slots (g_nx h1 - g_nx h) (g_us h1 - g_us h) (F0 m pc ls st0) rest (g_Qc G res h1 As.toArray) (g_XC G res h1) (g_A G) :=
  vx_runS ⟨X.1, X.2.1, X.2.2.1, X.2.2.2.1, X.2.2.2.2.1⟩ hM (va_cwS n X.2.2.2.2.1 (lw_S q1 q2 q4 q5) rfl rfl rfl ⟨hy.1.1, hy.1.2, hy.2⟩ ⟨hF, hL⟩) ⟨g_blind, fun U hU hW9 => ⟨rfl, by rw [hU]; exact hI.1, X.2.2.2.2.2.1.warm hW9⟩⟩ rfl hn hsz hst (lv_room hW) hdg (g_fit hI hle hle2 hRc)
theorem g_rSX (X : gX G l own cc nL ret hh nm p s m args meth c) (hI : gI G h0 h H locs cells slots) {h1 h2 : g_H} (hle : g_le h h1) (hle2 : g_le h1 h2) (hRc : g_nx h2 - g_nx h0 ≤ R.cells ∧ g_us h2 - g_us h0 ≤ R.slots) {y : MethodName} {bytes : ByteArray} {maxL : Nat} {rt : Option FieldType} {h9 : List (Nat × Nat × Nat × Nat)} {F' L' b : Nat} {As : List Value} {res : g_Rs} (hM : gMet G l y (Cond.codeWith y bytes maxL rt h9) F' L' As h res h1) {n : Nat} (hy : gYd y n) {index : Nat} (q1 : Cond.methodLink own index y ∈ lw_all) (q2 : Cond.static y ∈ lw_all) (q4 : Cond.initialized y.cls ∈ lw_all) (q5 : Cond.codeWith y bytes maxL rt h9 ∈ lw_all) (hn : As.length = n) (hF : F' + 1 ≤ R.frames) (hL : 8 + (maxL + 11) + L' ≤ R.locals) (hsz : ls.size = nL) (hst : st0 = As.reverse ++ rest) (hW : (rest.map fun v => v.category).sum ≤ 8) (hdg : decode cc pc = .ok (.invokestatic index, 3)) : vx_Run p l e R s m args below meth c H locs cells slots (g_nx h1 - g_nx h) (g_us h1 - g_us h) (F0 m pc ls st0) rest (g_Qc G res h1 As.toArray) (g_XC G res h1) (g_A G) :=
  vx_runSX ⟨X.1, X.2.1, X.2.2.1, X.2.2.2.1, X.2.2.2.2.1⟩ hM (vx_cwSW n X.2.2.2.2.1 (lw_SW q1 q2 q4 q5) rfl rfl rfl ⟨hy.1.1, hy.1.2, hy.2⟩ ⟨hF, hL⟩) ⟨g_blind, fun U hU hW9 => ⟨rfl, by rw [hU]; exact hI.1, X.2.2.2.2.2.1.warm hW9⟩⟩ rfl hn hsz hst (lv_room hW) hdg (g_fit hI hle hle2 hRc)
theorem g_rI (X : gX G l own cc nL ret hh nm p s m args meth c) (hI : gI G h0 h H locs cells slots) {h1 h2 : g_H} (hle : g_le h h1) (hle2 : g_le h1 h2) (hRc : g_nx h2 - g_nx h0 ≤ R.cells ∧ g_us h2 - g_us h0 ≤ R.slots) {y : MethodName} {bytes : ByteArray} {maxL : Nat} {rt : Option FieldType} {F' L' b : Nat} {As : List Value} {res : g_Rs} (hM : gMet G l y (Cond.code y bytes maxL rt) F' L' (.ref b :: As) h res h1) {n : Nat} (hy : gYd y n) (hrt : rt = none) (hin : y.name = "<init>") {index : Nat} (q1 : Cond.methodLink own index y ∈ lw_all) (q2 : Cond.instanceMethod y ∈ lw_all) (q4 : Cond.initialized y.cls ∈ lw_all) (q5 : Cond.code y bytes maxL rt ∈ lw_all) (hn : As.length = n) (hF : F' + 1 ≤ R.frames) (hL : 8 + (maxL + 11) + L' ≤ R.locals) (hsz : ls.size = nL) (hst : st0 = As.reverse ++ .ref b :: rest) (hW : (rest.map fun v => v.category).sum ≤ 8) (hdg : decode cc pc = .ok (.invokespecial index, 3)) : vx_Run p l e R s m args below meth c H locs cells slots (g_nx h1 - g_nx h) (g_us h1 - g_us h) (F0 m pc ls st0) rest (g_Qc G res h1 (Value.ref b :: As).toArray) (g_XC G res h1) (g_A G) := by
  subst hrt
  exact vx_runI ⟨X.1, X.2.1, X.2.2.1, X.2.2.2.1, X.2.2.2.2.1⟩ hM (cwI n X.2.2.2.2.1 (lw_meth q5) rfl rfl rfl (X.2.2.2.2.1 _ q4) (X.2.2.2.2.1 _ q1) (X.2.2.2.2.1 _ q2) hin ⟨hy.1.1, hy.1.2, hy.2⟩ ⟨hF, hL⟩) ⟨g_blind, fun U hU hW9 => ⟨rfl, by rw [hU]; exact hI.1, X.2.2.2.2.2.1.warm hW9⟩⟩ rfl hn hsz hst (lv_room hW) hdg (g_fit hI hle hle2 hRc)
theorem g_rIN (X : gX G l own cc nL ret hh nm p s m args meth c) (hI : gI G h0 h H locs cells slots) {h1 h2 : g_H} (hle : g_le h h1) (hle2 : g_le h1 h2) (hRc : g_nx h2 - g_nx h0 ≤ R.cells ∧ g_us h2 - g_us h0 ≤ R.slots) {y : MethodName} {bytes : ByteArray} {maxL : Nat} {rt : Option FieldType} {F' L' b : Nat} {As : List Value} {res : g_Rs} (hM : gMet G l y (Cond.code y bytes maxL rt) F' L' (.ref b :: As) h res h1) {n : Nat} (hy : gYd y n) (hrt : rt = none) (hin : y.name = "<init>") {index : Nat} {host : String} (q1 : Cond.methodLinkNest own index y host ∈ lw_tbl) (q2 : Cond.instanceMethod y ∈ lw_all) (q4 : Cond.initialized y.cls ∈ lw_all) (q5 : Cond.code y bytes maxL rt ∈ lw_all) (hn : As.length = n) (hF : F' + 1 ≤ R.frames) (hL : 8 + (maxL + 11) + L' ≤ R.locals) (hsz : ls.size = nL) (hst : st0 = As.reverse ++ .ref b :: rest) (hW : (rest.map fun v => v.category).sum ≤ 8) (hdg : decode cc pc = .ok (.invokespecial index, 3)) : vx_Run p l e R s m args below meth c H locs cells slots (g_nx h1 - g_nx h) (g_us h1 - g_us h) (F0 m pc ls st0) rest (g_Qc G res h1 (Value.ref b :: As).toArray) (g_XC G res h1) (g_A G) := by
  subst hrt
  exact vx_runIN ⟨X.1, X.2.1, X.2.2.1, X.2.2.2.1, X.2.2.2.2.1⟩ hM ⟨va_cnB n X.2.2.2.2.1 (lw_meth q5) rfl rfl rfl (X.2.2.2.2.2.1.2.1 _ q1 rfl) (X.2.2.2.2.1 _ q4) ⟨hy.1.1, hy.1.2, hy.2⟩ ⟨hF, hL⟩, hin, X.2.2.2.2.1 _ q2⟩ ⟨g_blind, fun U hU hW9 => ⟨rfl, by rw [hU]; exact hI.1, X.2.2.2.2.2.1.warm hW9⟩⟩ rfl hn hsz hst (lv_room hW) hdg (g_fit hI hle hle2 hRc)
theorem g_rU (X : gX G l own cc nL ret hh nm p s m args meth c) (hI : gI G h0 h H locs cells slots) {h1 h2 : g_H} (hle : g_le h h1) (hle2 : g_le h1 h2) (hRc : g_nx h2 - g_nx h0 ≤ R.cells ∧ g_us h2 - g_us h0 ≤ R.slots) {y : MethodName} {bytes : ByteArray} {maxL : Nat} {rt : Option FieldType} {F' L' b : Nat} {As : List Value} {res : g_Rs} (hM : gMet G l y (Cond.code y bytes maxL rt) F' L' (.ref b :: As) h res h1) {n : Nat} {x : MethodName} {owner : String} (hy : gYd x n) (ho : owner ≠ "java/lang/invoke/MethodHandle" ∧ owner ≠ "java/lang/invoke/VarHandle") {ci : Nat} {r : vw_C} (hs : g_sh h b = some (.inr ci)) (hr : g_cl[ci]? = some r) {index : Nat} (q1 : Cond.methodLink own index x ∈ lw_all) (q6 : Cond.sameMethod x.cls owner x.name x.desc ∈ lw_all) (q7 : Cond.instanceMethod ⟨owner, x.name, x.desc⟩ ∈ lw_all) {by9 : ByteArray} {ml9 : Nat} {rt9 : Option FieldType} (q8 : Cond.code ⟨owner, x.name, x.desc⟩ by9 ml9 rt9 ∈ lw_all) (q2 : Cond.instanceMethod y ∈ lw_all) (q3 : Cond.selects r.1 x y ∈ lw_all) (q4 : Cond.initialized y.cls ∈ lw_all) (q5 : Cond.code y bytes maxL rt ∈ lw_all) (hn : As.length = n) (hF : F' + 1 ≤ R.frames) (hL : 8 + (maxL + 11) + L' ≤ R.locals) (hsz : ls.size = nL) (hst : st0 = As.reverse ++ .ref b :: rest) (hW : (rest.map fun v => v.category).sum ≤ 8) (hdg : decode cc pc = .ok (.invokevirtual index, 3)) : vx_Run p l e R s m args below meth c H locs cells slots (g_nx h1 - g_nx h) (g_us h1 - g_us h) (F0 m pc ls st0) rest (g_Qc G res h1 (Value.ref b :: As).toArray) (g_XC G res h1) (g_A G) := by
  have ht := X.2.2.2.2.1
  refine vx_runU (C := r.1) (owner := owner) (x := x) (n := n) ⟨X.1, X.2.1, X.2.2.1, X.2.2.2.1, X.2.2.2.2.1⟩ hM ⟨⟨rfl, rfl, hF, hL, pay_in ht (lw_meth q5), List.mem_cons_self⟩, ht _ q5, ht _ q4, ho, fun sig h => ?_, ht _ q1, ht _ q6, va_Decl.of (ht _ q7) (ht _ q8), ht _ q3, ht _ q2⟩ ⟨g_blind, g_any X hI.1 hs hr, fun U hU hW9 => ⟨rfl, by rw [hU]; exact hI.1, X.2.2.2.2.2.1.warm hW9⟩⟩ rfl hn hsz hst (lv_room hW) hdg (g_fit hI hle hle2 hRc)
  have h2 := hy.2
  rw [h] at h2
  exact (Option.some.inj h2).symm
theorem g_rF (X : gX G l own cc nL ret hh nm p s m args meth c) (hI : gI G h0 h H locs cells slots) {h1 h2 : g_H} (hle : g_le h h1) (hle2 : g_le h1 h2) (hRc : g_nx h2 - g_nx h0 ≤ R.cells ∧ g_us h2 - g_us h0 ≤ R.slots) {y : MethodName} {bytes : ByteArray} {maxL : Nat} {rt : Option FieldType} {F' L' b : Nat} {As : List Value} {res : g_Rs} (hM : gMet G l y (Cond.code y bytes maxL rt) F' L' (.ref b :: As) h res h1) {n : Nat} (hy : gYd g_hx n) {ci : Nat} {r : vw_C} (hs : g_sh h b = some (.inr ci)) (hr : g_cl[ci]? = some r) (hyy : y = ⟨r.1, "holds", "([I)Z"⟩) (hfw : r.1 ∈ g_fw) {index count : Nat} (q1 : Cond.methodLink own index g_hx ∈ lw_all) (q2 : Cond.instanceMethod y ∈ lw_all) (q3 : Cond.selects r.1 g_hx y ∈ lw_all) (q4 : Cond.initialized y.cls ∈ lw_all) (q5 : Cond.code y bytes maxL rt ∈ lw_all) (hn : As.length = n) (hF : F' + 1 ≤ R.frames) (hL : 8 + (maxL + 11) + L' ≤ R.locals) (hsz : ls.size = nL) (hst : st0 = As.reverse ++ .ref b :: rest) (hW : (rest.map fun v => v.category).sum ≤ 8) (hdg : decode cc pc = .ok (.invokeinterface index count, 5)) : vx_Run5 p l e R s m args below meth c H locs cells slots (g_nx h1 - g_nx h) (g_us h1 - g_us h) (F0 m pc ls st0) rest (g_Qc G res h1 (Value.ref b :: As).toArray) (g_XC G res h1) (g_A G) := by
  subst hyy
  refine vx_runF (C := r.1) (x := g_hx) (n := n) (X.2.2.2.2.2.1.1.1 _ _ hr).2 ⟨X.1, X.2.1, X.2.2.1, X.2.2.2.1, X.2.2.2.2.1⟩ hM (va_cwF n X.2.2.2.2.1 (lw_app (c := Cond.code ⟨r.1, "holds", "([I)Z"⟩ bytes maxL rt :: lw_all) ?_ (lw_meth q5)) rfl rfl rfl (X.2.2.2.2.2.1.2.2.2.2.1 _ hfw) ⟨hy.1.1, hy.1.2, hy.2⟩ ⟨hF, hL⟩) ⟨g_blind, g_any X hI.1 hs hr, fun U hU hW9 => ⟨rfl, by rw [hU]; exact hI.1, X.2.2.2.2.2.1.warm hW9⟩⟩ rfl hn hsz hst (lv_room hW) hdg (g_fit hI hle hle2 hRc)
  intro w hw
  simp only [List.mem_cons, List.not_mem_nil, or_false] at hw
  rcases hw with e | e | e | e
  · rw [e]; exact q1
  · rw [e]; exact q3
  · rw [e]; exact q2
  · rw [e]; exact q4
theorem g_retI (X : gX G l own cc nL (some .int) hh nm p s m args meth c) (hI : gI G h0 h H locs cells slots) {v : Int32} {res : g_Rs} (hres : res = .inl (some (.int v))) (hdg : decode cc pc = .ok (.ireturn, 1)) : W p l e R s m args below meth c H locs cells slots (gQ G below args s h0 h res) (F0 m pc ls [.int v]) := by
  have e1 := hI.2.2.2.1
  have e2 := hI.2.2.2.2
  subst e1
  subst e2
  exact vx_ret (W.iret X.1 X.2.1 X.2.2.2.2.2.2.1 (fun t ht hW => ⟨_, hres, rfl, by rw [ht]; exact hI.1⟩) hI.2.1 hdg (hlocks := X.2.2.2.2.2.2.2.1))
theorem g_retZ (X : gX G l own cc nL (some .boolean) hh nm p s m args meth c) (hI : gI G h0 h H locs cells slots) {v : Int32} (hv : v = 0 ∨ v = 1) {res : g_Rs} (hres : res = .inl (some (.int v))) (hdg : decode cc pc = .ok (.ireturn, 1)) : W p l e R s m args below meth c H locs cells slots (gQ G below args s h0 h res) (F0 m pc ls [.int v]) := by
  have e1 := hI.2.2.2.1
  have e2 := hI.2.2.2.2
  subst e1
  subst e2
  exact vx_ret (W.zret X.1 X.2.1 X.2.2.2.2.2.2.1 (g_z01 hv).1 (fun t ht hW => ⟨_, hres, rfl, by rw [ht]; exact hI.1⟩) hI.2.1 hdg (hlocks := X.2.2.2.2.2.2.2.1))
theorem g_retN {ty : FieldType} (X : gX G l own cc nL (some ty) hh nm p s m args meth c) (hI : gI G h0 h H locs cells slots) {v : Int32} (hv : narrow ty (.int v) = .int v) {res : g_Rs} (hres : res = .inl (some (.int v))) (hdg : decode cc pc = .ok (.ireturn, 1)) : W p l e R s m args below meth c H locs cells slots (gQ G below args s h0 h res) (F0 m pc ls [.int v]) := by
  have e1 := hI.2.2.2.1
  have e2 := hI.2.2.2.2
  subst e1
  subst e2
  exact vx_ret (W.zret X.1 X.2.1 X.2.2.2.2.2.2.1 hv (fun t ht hW => ⟨_, hres, rfl, by rw [ht]; exact hI.1⟩) hI.2.1 hdg (hlocks := X.2.2.2.2.2.2.2.1))
theorem g_retU (X : gX G l own cc nL (none) hh nm p s m args meth c) (hI : gI G h0 h H locs cells slots)  {res : g_Rs} (hres : res = .inl (none)) (hdg : decode cc pc = .ok (.return_, 1)) : W p l e R s m args below meth c H locs cells slots (gQ G below args s h0 h res) (F0 m pc ls []) := by
  have e1 := hI.2.2.2.1
  have e2 := hI.2.2.2.2
  subst e1
  subst e2
  exact vx_ret (W.vret X.1 X.2.1 X.2.2.2.2.2.2.1 (fun t ht hW => ⟨_, hres, rfl, by rw [ht]; exact hI.1⟩) hI.2.1 hdg (hlocks := X.2.2.2.2.2.2.2.1))
theorem g_retR {ty : FieldType} (X : gX G l own cc nL (some ty) hh nm p s m args meth c) (hI : gI G h0 h H locs cells slots) (hty : (∃ n, ty = .object n) ∨ ∃ t, ty = .array t) {v : Nat} {res : g_Rs} (hres : res = .inl (some (.ref v))) (hdg : decode cc pc = .ok (.areturn, 1)) : W p l e R s m args below meth c H locs cells slots (gQ G below args s h0 h res) (F0 m pc ls [.ref v]) := by
  have e1 := hI.2.2.2.1
  have e2 := hI.2.2.2.2
  subst e1
  subst e2
  exact vx_ret (W.aret X.1 X.2.1 X.2.2.2.2.2.2.1 hty (Or.inr ⟨v, rfl⟩) (fun t ht hW => ⟨_, hres, rfl, by rw [ht]; exact hI.1⟩) hI.2.1 hdg (hlocks := X.2.2.2.2.2.2.2.1))
/-- Object.<init> -/
theorem g_oinit (X : gX G l own cc nL ret hh nm p s m args meth c) {a idx : Nat} (q1 : Cond.methodLink own idx objectInit ∈ lw_all) (hsz : ls.size = nL) (hF : 1 ≤ R.frames) (hL : 8 + 12 ≤ R.locals) (hcat : (rest.map fun v => v.category).sum ≤ 8) (hdg : decode cc pc = .ok (.invokespecial idx, 3)) (kk : W p l e R s m args below meth c H locs cells slots Q (F0 m (pc + 3) ls rest)) : W p l e R s m args below meth c H locs cells slots Q (F0 m pc ls (.ref a :: rest)) := by
  refine W.objInit X.1 X.2.1 X.2.2.2.1 (X.2.2.2.2.1 _ q1) (X.2.2.2.2.1 _ q159) (X.2.2.2.2.1 _ q160) rfl (by rw [X.2.2.1]; exact hsz) rfl hdg ?_ ?_ (W.eq rfl kk)
  · omega
  · show 2 * 0 + _ + _ ≤ _
    omega
end GT
