/-! HOW THE ABSTRACT HEAP LIES IN THE MACHINE'S -/
abbrev gG : Type := va_G × (Nat → ClassId) × Heap × (Nat → Nat) × (Nat → g_S → (Nat → Int32) → (Nat → Option Nat) → Prop)
abbrev g_A (G : gG) : Nat → Prop := fun q => G.2.2.1.size ≤ q
def g_tys (d : Nat → ClassId) : List (ClassId × FieldType) := [(d 0, .int), (d 1, .byte), (d 2, .long), (d 3, .boolean), (d 4, .object RX4), (d 5, .object RX5), (d 6, .object RX14), (d 7, .object RX3), (d 8, .object RJ3)]
def g_AV (t : Nat) (iv : Nat → Int32) (rv : Nat → Option Nat) : (Nat → Int32) ⊕ (Nat → Int64) ⊕ (Nat → UInt32) ⊕ (Nat → UInt64) ⊕ (Nat → Option Nat) := match t with
  | 0 => .inl iv
  | 1 => .inl iv
  | 2 => .inr (.inl (fun j => (iv j).toInt64))
  | 3 => .inl iv
  | _ => .inr (.inr (.inr (.inr rv)))
def g_V (ci : Nat) (iv : Nat → Int32) (rv : Nat → Option Nat) (k : Nat) : Value := bif g_rt ci k then va_rf (rv k) else .int (iv k)
def g_lok (s : Option g_S) : Bool := match s with
  | some (.inr 14) => true
  | some (.inr 15) => true
  | _ => false
def g_at (G : gG) (sh : Nat → Option g_S) (a : Nat) (s : g_S) (iv : Nat → Int32) (rv : Nat → Option Nat) (H : Heap) : Prop := match s with
  | .inl (t, n) => H[a]? = some (vp_cell (G.2.1 t) (n, g_AV t iv rv)) ∧ (t = 6 → ∀ j, j < n → ∀ y, rv j = some y → g_lok (sh y) = true) ∧ t < 9
  | .inr ci => ∃ r, g_cl[ci]? = some r ∧ t_OB a (G.1.1 ci) r.2.2 (G.1.2 ci) H (g_V ci iv rv)
def g_R (G : gG) (h : g_H) (H : Heap) : Prop := g_nx h = H.size ∧ g_tx h = G.2.2.2.1 ∧ G.2.2.1.size ≤ H.size ∧ (∀ q : Nat, q < G.2.2.1.size → H[q]? = G.2.2.1[q]?) ∧ (∀ a s, g_sh h a = some s → g_old s = false → G.2.2.1.size ≤ a ∧ g_at G (g_sh h) a s (g_iv h a) (g_rv h a) H) ∧ (∀ a s, g_sh h a = some s → g_old s = true → G.2.2.2.2 a s (g_iv h a) (g_rv h a)) ∧ ∀ a s, g_sh h a = some s → a < g_nx h
theorem g_at.kept {G : gG} {sh sh1 : Nat → Option g_S} {a : Nat} {s : g_S} {iv : Nat → Int32} {rv : Nat → Option Nat} {H H1 : Heap} (h : g_at G sh a s iv rv H) (hq : H1[a]? = H[a]?) (hsh : ∀ y, g_lok (sh y) = true → g_lok (sh1 y) = true) : g_at G sh1 a s iv rv H1 := by
  rcases s with ⟨t, n⟩ | ci
  · exact ⟨hq.trans h.1, fun ht j hj y hy => hsh y (h.2.1 ht j hj y hy), h.2.2⟩
  · obtain ⟨r, h1, h2⟩ := h
    exact ⟨r, h1, h2.kept hq⟩
theorem g_R.put {G : gG} {h h1 : g_H} {H H1 : Heap} {a : Nat} {s : g_S} (hR : g_R G h H) (hsh : g_sh h1 = g_sh h) (htx : g_tx h1 = g_tx h) (hnx : g_nx h1 = g_nx h) (hs : g_sh h a = some s) (ho : g_old s = false) (hat : g_at G (g_sh h) a s (g_iv h1 a) (g_rv h1 a) H1) (hiv : ∀ b, b ≠ a → g_iv h1 b = g_iv h b ∧ g_rv h1 b = g_rv h b) (hz : H1.size = H.size) (oq : ∀ q : Nat, q ≠ a → H1[q]? = H[q]?) : g_R G h1 H1 := by
  obtain ⟨r1, r2, r3, r4, r5, r6, r7⟩ := hR
  have hB := (r5 a s hs ho).1
  refine ⟨by rw [hnx, hz]; exact r1, by rw [htx]; exact r2, by rw [hz]; exact r3, fun q hq => by rw [oq q (by omega)]; exact r4 q hq, fun b u hu ho' => ?_, fun b u hu ho' => ?_, fun b u hu => ?_⟩
  · rw [hsh] at hu ⊢
    by_cases hb : b = a
    · subst hb
      cases hs.symm.trans hu
      exact ⟨hB, hat⟩
    · obtain ⟨e1, e2⟩ := hiv b hb
      rw [e1, e2]
      exact ⟨(r5 b u hu ho').1, (r5 b u hu ho').2.kept (oq b hb) (fun _ h => h)⟩
  · rw [hsh] at hu
    by_cases hb : b = a
    · subst hb
      cases hs.symm.trans hu
      rw [ho] at ho'
      cases ho'
    · obtain ⟨e1, e2⟩ := hiv b hb
      rw [e1, e2]
      exact r6 b u hu ho'
  · rw [hsh] at hu
    rw [hnx]
    exact r7 b u hu
/-- a new cell at the end -/
theorem g_R.add {G : gG} {h : g_H} {H H1 : Heap} {s : g_S} {n : Nat} (hR : g_R G h H) (ho : g_old s = false) (hat : g_at G (fun _ => none) (g_nx h) s (fun _ => 0) (fun _ => none) H1) (hz : H1.size = H.size + 1) (oq : ∀ q : Nat, q < H.size → H1[q]? = H[q]?) : g_R G (g_add h s n) H1 := by
  obtain ⟨r1, r2, r3, r4, r5, r6, r7⟩ := hR
  have hn : ∀ b u, g_sh h b = some u → b ≠ g_nx h := fun b u hu e => by have := r7 b u hu; omega
  have hlok : ∀ y, g_lok (g_sh h y) = true → g_lok (g_sh (g_add h s n) y) = true := by
    intro y hy
    by_cases e : y = g_nx h
    · exfalso
      cases hsy : g_sh h y with
      | none => rw [hsy] at hy; cases hy
      | some u => exact hn y u hsy e
    · have e2 : g_sh (g_add h s n) y = g_sh h y := va_up_ne _ _ e
      rw [e2]; exact hy
  refine ⟨by show g_nx h + 1 = _; rw [hz, r1], r2, by rw [hz]; omega, fun q hq => by rw [oq q (by omega)]; exact r4 q hq, fun b u hu ho' => ?_, fun b u hu ho' => ?_, fun b u hu => ?_⟩
  · by_cases hb : b = g_nx h
    · subst hb
      have e1 : g_sh (g_add h s n) (g_nx h) = some s := va_up_self _ _ _
      have e2 : g_iv (g_add h s n) (g_nx h) = (fun _ => 0) := va_up_self _ _ _
      have e3 : g_rv (g_add h s n) (g_nx h) = (fun _ => none) := va_up_self _ _ _
      rw [e1] at hu
      cases hu
      rw [e2, e3]
      exact ⟨by rw [r1]; exact r3, hat.kept rfl (fun y hy => by cases hy)⟩
    · have e1 : g_sh (g_add h s n) b = g_sh h b := va_up_ne _ _ hb
      have e2 : g_iv (g_add h s n) b = g_iv h b := va_up_ne _ _ hb
      have e3 : g_rv (g_add h s n) b = g_rv h b := va_up_ne _ _ hb
      rw [e1] at hu
      rw [e2, e3]
      exact ⟨(r5 b u hu ho').1, (r5 b u hu ho').2.kept (oq b (by rw [← r1]; exact r7 b u hu)) hlok⟩
  · by_cases hb : b = g_nx h
    · subst hb
      have e1 : g_sh (g_add h s n) (g_nx h) = some s := va_up_self _ _ _
      rw [e1] at hu
      cases hu
      rw [ho] at ho'
      cases ho'
    · have e1 : g_sh (g_add h s n) b = g_sh h b := va_up_ne _ _ hb
      have e2 : g_iv (g_add h s n) b = g_iv h b := va_up_ne _ _ hb
      have e3 : g_rv (g_add h s n) b = g_rv h b := va_up_ne _ _ hb
      rw [e1] at hu
      rw [e2, e3]
      exact r6 b u hu ho'
  · show b < g_nx h + 1
    by_cases hb : b = g_nx h
    · omega
    · have e1 : g_sh (g_add h s n) b = g_sh h b := va_up_ne _ _ hb
      rw [e1] at hu
      have := r7 b u hu
      omega
/-! WHAT HOLDS OF THE TABLES ALL THROUGH -/
def g_nk (w : Cond) : Bool := match w with
  | .fieldLinkNest .. => true
  | .methodLinkNest .. => true
  | .castable .. => true
  | .declares .. => true
  | _ => false
theorem g_nkw {w : Cond} (hk : g_nk w = true) {s U : State} (hW : s.WarmedH U.vm) (h : va_Nw w s) : va_Nw w U := by
  unfold g_nk at hk
  split at hk
  · exact va_Nw.warmF hW h
  · exact va_Nw.warmM hW h
  · exact va_Nw.warmC hW h
  · exact va_Nw.warmD hW h
  · cases hk
def g_nc : List (String × String) := [(RJ9, RJ8), (RJ12, RJ10), (RJ8, RJ10), (RJ14, RJ10)]
def g_ao : List String := [RX4, RX5, RX14, RX3, RJ3]
def g_hx : MethodName := ⟨"GhostAssize$Cond", "holds", "([I)Z"⟩
def g_fw : List String := [RX9, RX10, RX12, RX13]
/-- the texts: whose entry, which, what, its number -/
def g_st : List (String × Nat × String × Nat) := gStTable
def g_dec (n : Nat) : Option Nat := match n with
  | 0 => none
  | k + 1 => some k
def gK (G : gG) (U : State) : Prop := va_K G.1 g_cl (g_tys G.2.1) U ∧ (∀ w ∈ lw_tbl, g_nk w = true → va_Nw w U) ∧ (∀ q ∈ g_nc, va_Nc q.1 q.2 U) ∧ (∀ C ∈ g_ao, va_AO C U) ∧ (∀ C ∈ g_fw, va_Fw C g_hx ⟨C, "holds", "([I)Z"⟩ U) ∧ (∀ q ∈ g_st, vk_R q.1 q.2.1 q.2.2.1 (G.2.2.2.1 q.2.2.2) U) ∧
  va_Z RJ3 "COMPACT_STRINGS" "Z" (.int 1) (g_A G) U G.2.2.1 ∧ va_Z RJ5 "SIOOBE_FORMATTER" "Ljava/util/function/BiFunction;" (va_rf (g_dec (G.2.2.2.1 102))) (g_A G) U G.2.2.1 ∧
  (va_Z Bundle.tN "UNASSIGNED_STACK" Bundle.steD (va_rf (g_dec (G.2.2.2.1 100))) (g_A G) U G.2.2.1 ∧ vx_L Bundle.tN "UNASSIGNED_STACK" Bundle.steD (g_A G) U G.2.2.1) ∧ (va_Z Bundle.tN "SUPPRESSED_SENTINEL" Bundle.listD (va_rf (g_dec (G.2.2.2.1 101))) (g_A G) U G.2.2.1 ∧ vx_L Bundle.tN "SUPPRESSED_SENTINEL" Bundle.listD (g_A G) U G.2.2.1) ∧
  (∀ a t n iv rv, G.2.2.2.2 a (.inl (t, n)) iv rv → va_T (if t = 9 then .int else .byte) a n (fun j => .int (iv j)) (g_A G) U G.2.2.1) ∧
  (∀ a ci iv rv, G.2.2.2.2 a (.inr ci) iv rv → va_O RJ3 a (g_A G) U G.2.2.1 ∧ va_OF RJ3 "coder" "B" (.int (iv 1)) a (g_A G) U G.2.2.1 ∧ ∃ y, rv 0 = some y ∧ va_OF RJ3 "value" "[B" (.ref y) a (g_A G) U G.2.2.1)
theorem gK.warm {G : gG} {s U : State} (hW : s.WarmedH U.vm) (h : gK G s) : gK G U := by
  obtain ⟨h1, h2, h3, h4, h5, h6, h7, h8, h9, h10, h11, h12⟩ := h
  have hv := hW.alike
  exact ⟨va_K.moved hv h1, fun w hw hk => g_nkw hk hW (h2 w hw hk), fun q hq => (h3 q hq).moved hv, fun C hC => (h4 C hC).moved hv, fun C hC => va_Fw.moved (by decide) hv (h5 C hC), fun q hq => vk_R.warm hW (h6 q hq),
    va_Z.moved hv h7, va_Z.moved hv h8, ⟨va_Z.moved hv h9.1, vx_L.moved hv h9.2⟩, ⟨va_Z.moved hv h10.1, vx_L.moved hv h10.2⟩, fun a t n iv rv h => va_T.moved hv (h11 a t n iv rv h), fun a ci iv rv h => by
      obtain ⟨k1, k2, y, k3, k4⟩ := h12 a ci iv rv h
      exact ⟨va_O.moved hv k1, va_OF.moved hv k2, y, k3, va_OF.moved hv k4⟩⟩
theorem gK.frame {G : gG} {U V : State} (hv : U.vm = V.vm) (h : gK G U) : gK G V := by
  have hW : U.WarmedH V.vm := by rw [← hv]; exact State.WarmedH.refl U
  exact h.warm hW
def gI (G : gG) (h0 h : g_H) (H : Heap) (locs : List Loc) (cells slots : Nat) : Prop := g_R G h H ∧ (∀ l ∈ locs, G.2.2.1.size ≤ l.base) ∧ g_le h0 h ∧ cells = g_nx h - g_nx h0 ∧ slots = g_us h - g_us h0
/-- what a body stands on -/
def gX (G : gG) (l : Launch) (own : String) (cc : ByteArray) (nL : Nat) (ret : Option FieldType) (hh : List (Nat × Nat × Nat × Nat)) (nm : String) (p : Program) (s : State) (m : MethodId) (args : Array Value) (meth : Method) (c : Code) : Prop :=
  p.tables.exec = Jvm.exec ∧ c.code = cc ∧ c.maxLocals = nL ∧ s.vm.findClass own = some m.cls ∧ (∀ w ∈ lw_all, w.before args s = true) ∧ gK G s ∧ meth.sig.returnType = ret ∧ meth.locks = false ∧ c.exceptionTable.toList = tableOf hh ∧ meth.name = nm ∧ l.stackTraces = false ∧ G.2.2.1.size ≤ s.heap.size
abbrev g_Rs : Type := Option Value ⊕ gE
def g_Pc (G : gG) (av : List Value) (h : g_H) : Array Value → State → Prop := fun v U => v = av.toArray ∧ g_R G h U.heap ∧ gK G U
def g_Qc (G : gG) (res : g_Rs) (h' : g_H) : Array Value → State → Outcome → State → Prop := fun _ _ o t => ∃ v, res = .inl v ∧ o = .returned v ∧ g_R G h' t.heap
def g_XC (G : gG) (res : g_Rs) (h' : g_H) : String → Addr → State → State → Prop := fun E q _ t => ∃ (ci : Nat) (r : vw_C), g_cl[ci]? = some r ∧ E = r.1 ∧ res = .inr (ci, q) ∧ g_R G h' t.heap
abbrev g_rm (F L : Nat) (h h' : g_H) : Room := { frames := F, cells := g_nx h' - g_nx h, slots := g_us h' - g_us h, locals := L }
/-- a method's contract: what it answers from this heap, with these arguments -/
def gMet (G : gG) (l : Launch) (y : MethodName) (w : Cond) (F L : Nat) (av : List Value) (h : g_H) (res : g_Rs) (h' : g_H) : Prop :=
  vx_Met l y (w :: lw_all) (g_rm F L h h') (g_Pc G av h) (g_Qc G res h') (g_XC G res h') (g_nx h' - g_nx h) (g_us h' - g_us h) (g_A G)
abbrev gQ (G : gG) (below : List Frame) (args : Array Value) (s : State) (h0 h' : g_H) (res : g_Rs) : State → Prop := vx_MQ below (g_Qc G res h') (g_XC G res h') args s (g_nx h' - g_nx h0) (g_us h' - g_us h0) (g_A G)
theorem g_blind {G : gG} {av : List Value} {h : g_H} : FrameBlind (g_Pc G av h) := fun a U g mk q => ⟨q.1, q.2.1, gK.frame (V := U.calling g mk a) (show U.vm = (U.calling g mk a).vm from rfl) q.2.2⟩
/-- the head of a method without handlers -/
theorem g_head {G : gG} {l : Launch} {y : MethodName} {cc : ByteArray} {nL : Nat} {ret : Option FieldType} {F L : Nat} {av : List Value} {h : g_H} {res : g_Rs} {h' : g_H} (hl : l.stackTraces = false) (hle : g_le h h') (hy : plainFor y = true) (hn : (lg_sl av).length ≤ nL)
    (body : ∀ (p : Program) (e : Env) (s : State) (m : MethodId) (below : List Frame) (meth : Method) (c : Code) (H : Heap) (locs : List Loc) (cells slots : Nat) (ls : Array Slot), gX G l y.cls cc nL ret [] y.name p s m av.toArray meth c → gI G h h H locs cells slots → lv_has ls nL (lv_args 0 av) →
      W p l e (g_rm F L h h') s m av.toArray below meth c H locs cells slots (gQ G below av.toArray s h h' res) (F0 m 0 ls [])) : gMet G l y (Cond.code y cc nL ret) F L av h res h' := by
  refine vx_ofW (cc := cc) (maxL := nL) (ret := ret) hy rfl ?_
  intro p e s m args below meth c s₁ B hml ht hv
  obtain ⟨rfl, hR, hK⟩ := hv
  have hts := atoms_spec (ws := Cond.code y cc nL ret :: lw_all) B.pre
  have hl0 := lv_entry av (n := nL) hn
  rw [lg_entry_eq]
  generalize (lg_sl av ++ List.replicate (nL - (lg_sl av).length) Slot.unset).toArray = ls at hl0 ⊢
  refine body p e s m below meth c s.heap [] 0 0 ls ⟨B.exec, B.bytes, hml, findClass_of_methodNamed B.named, fun w h => hts w (List.mem_cons_of_mem _ h), hK, B.returns, B.notSynchronized, ?_, (name_of_methodNamed B.named B.method).1, hl, hR.2.2.1⟩ ⟨hR, (fun _ h => by cases h), g_le.rf _, by omega, by omega⟩ hl0
  cases hx : c.exceptionTable.toList with
  | nil => rfl
  | cons a t => exact (ht a (by rw [hx]; exact List.mem_cons_self)).elim
/-- .. with handlers -/
theorem g_headW {G : gG} {l : Launch} {y : MethodName} {cc : ByteArray} {nL : Nat} {ret : Option FieldType} {hh : List (Nat × Nat × Nat × Nat)} {F L : Nat} {av : List Value} {h : g_H} {res : g_Rs} {h' : g_H} (hl : l.stackTraces = false) (hle : g_le h h') (hy : plainFor y = true) (hn : (lg_sl av).length ≤ nL)
    (body : ∀ (p : Program) (e : Env) (s : State) (m : MethodId) (below : List Frame) (meth : Method) (c : Code) (H : Heap) (locs : List Loc) (cells slots : Nat) (ls : Array Slot), gX G l y.cls cc nL ret hh y.name p s m av.toArray meth c → gI G h h H locs cells slots → lv_has ls nL (lv_args 0 av) →
      W p l e (g_rm F L h h') s m av.toArray below meth c H locs cells slots (gQ G below av.toArray s h h' res) (F0 m 0 ls [])) : gMet G l y (Cond.codeWith y cc nL ret hh) F L av h res h' := by
  refine vx_ofWH (cc := cc) (maxL := nL) (ret := ret) (hh := hh) hy rfl ?_
  intro p e s m args below meth c s₁ B hml hv
  obtain ⟨rfl, hR, hK⟩ := hv
  have hts := atoms_spec (ws := Cond.codeWith y cc nL ret hh :: lw_all) B.pre
  have hl0 := lv_entry av (n := nL) hn
  rw [lg_entry_eq]
  generalize (lg_sl av ++ List.replicate (nL - (lg_sl av).length) Slot.unset).toArray = ls at hl0 ⊢
  exact body p e s m below meth c s.heap [] 0 0 ls ⟨B.exec, B.bytes, hml, findClass_of_methodNamed B.named, fun w h => hts w (List.mem_cons_of_mem _ h), hK, B.returns, B.notSynchronized, vx_table (x := y) B (hts _ List.mem_cons_self), (name_of_methodNamed B.named B.method).1, hl, hR.2.2.1⟩ ⟨hR, (fun _ h => by cases h), g_le.rf _, by omega, by omega⟩ hl0
/-! INSTRUCTIONS -/
theorem g_ixS {h : g_H} {a t : Nat} {i : Int32} (e : g_ix h a t i = true) : ∃ n, g_sh h a = some (.inl (t, n)) ∧ vp_in i n := by
  unfold g_ix at e
  split at e
  · rename_i t' n hs
    simp only [Bool.and_eq_true, decide_eq_true_eq, Bool.not_eq_true', Bool.or_eq_false_iff, decide_eq_false_iff_not] at e
    obtain ⟨rfl, h1, h2⟩ := e
    exact ⟨n, hs, fun z => z.elim h1 h2⟩
  · cases e
section GR
variable {p : Program} {l : Launch} {e : Env} {R : Room} {s : State} {m : MethodId} {args : Array Value} {below : List Frame} {meth : Method} {c : Code} {H : Heap} {locs : List Loc} {cells slots : Nat} {Q : State → Prop}
variable {G : gG} {h0 h : g_H} {own : String} {cc : ByteArray} {nL : Nat} {ret : Option FieldType} {hh : List (Nat × Nat × Nat × Nat)} {nm : String} {pc : Nat} {ls : Array Slot} {rest : List Value} {β : Type} {q : β × g_H}
/-- an object in the heap: its cell -/
theorem g_obj (hR : g_R G h H) {a ci k : Nat} (hs : g_sh h a = some (.inr ci)) (ho : g_old (.inr ci) = false) {r : vw_C} (hr : g_cl[ci]? = some r) (hk : k < r.2.2) : G.2.2.1.size ≤ a ∧ ∃ cell : Cell, H[a]? = some cell ∧ cell.cls = G.1.1 ci ∧ cell.vm = .none ∧ ∀ k, k < r.2.2 → cell.slots[G.1.2 ci k]? = some (g_V ci (g_iv h a) (g_rv h a) k) := by
  obtain ⟨hB, r', hr', cell, q1, q2, q3, q4⟩ := hR.2.2.2.2.1 a _ hs ho
  cases hr.symm.trans hr'
  exact ⟨hB, cell, q1, q2, q3, q4⟩
theorem g_Vi {ci k : Nat} {iv : Nat → Int32} {rv : Nat → Option Nat} {ty : FieldType} (h1 : g_rt ci k = g_isref ty) (h2 : g_isref ty = false) : g_V ci iv rv k = .int (iv k) := by
  unfold g_V
  rw [h1, h2]
  rfl
theorem g_Vr {ci k : Nat} {iv : Nat → Int32} {rv : Nat → Option Nat} {ty : FieldType} (h1 : g_rt ci k = g_isref ty) (h2 : g_isref ty = true) : g_V ci iv rv k = va_rf (rv k) := by
  unfold g_V
  rw [h1, h2]
  rfl
/-- any field's value, read by a name of the class or of a nest mate -/
theorem g_getV (X : gX G l own cc nL ret hh nm p s m args meth c) (hR : g_R G h H) {a ci k : Nat} (hs : g_sh h a = some (.inr ci)) {r : vw_C} {ty : FieldType} {fin : Bool} (fd : gFd ci k r ty fin) (ho : g_old (.inr ci) = false) {index : Nat} (hlink : Cond.fieldLink own index (r.2.1 k).1 (r.2.1 k).2.1 (r.2.1 k).2.2.1 ∈ lw_all) (hdg : decode cc pc = .ok (.getfield index, 3))
    (kk : W p l e R s m args below meth c H locs cells slots Q (F0 m (pc + 3) ls (g_V ci (g_iv h a) (g_rv h a) k :: rest))) : W p l e R s m args below meth c H locs cells slots Q (F0 m pc ls (.ref a :: rest)) := by
  obtain ⟨hx, hb, -, hown, hts, hK, -⟩ := X
  obtain ⟨f1, f2, f3, -, -, -, -, -⟩ := fd
  obtain ⟨-, cell, q1, q2, q3, q4⟩ := g_obj hR hs ho f1 f2
  obtain ⟨hS, hfc, kC, hkC, hkind⟩ := hK.1.1 ci _ f1
  obtain ⟨cf, kf, fi, f, hi, hsl⟩ := hS k f2
  refine W.getf hx hb hown (hts _ hlink) hi (u_facts hfc hkC (u_lays hts f3 f2) hi).1 q1 (by rw [q3]; exact fun h => by cases h) (v := g_V ci (g_iv h a) (g_rv h a) k) ?_ rfl rfl hdg kk
  rw [hsl]
  exact q4 k f2
theorem g_getVN (X : gX G l own cc nL ret hh nm p s m args meth c) (hR : g_R G h H) {a ci k : Nat} (hs : g_sh h a = some (.inr ci)) {r : vw_C} {ty : FieldType} {fin : Bool} (fd : gFd ci k r ty fin) (ho : g_old (.inr ci) = false) {index : Nat} {host : String} (hlink : Cond.fieldLinkNest own index (r.2.1 k).1 (r.2.1 k).2.1 (r.2.1 k).2.2.1 host ∈ lw_tbl) (hdg : decode cc pc = .ok (.getfield index, 3))
    (kk : W p l e R s m args below meth c H locs cells slots Q (F0 m (pc + 3) ls (g_V ci (g_iv h a) (g_rv h a) k :: rest))) : W p l e R s m args below meth c H locs cells slots Q (F0 m pc ls (.ref a :: rest)) := by
  obtain ⟨hx, hb, -, hown, hts, hK, -⟩ := X
  obtain ⟨f1, f2, f3, -, -, -, -, -⟩ := fd
  obtain ⟨-, cell, q1, q2, q3, q4⟩ := g_obj hR hs ho f1 f2
  obtain ⟨hS, hfc, kC, hkC, hkind⟩ := hK.1.1 ci _ f1
  obtain ⟨cf, kf, fi, f, hi, hsl⟩ := hS k f2
  refine va_Wgetf hx hb hown (va_Nw.use rfl (hK.2.1 _ hlink rfl)) hi (u_facts hfc hkC (u_lays hts f3 f2) hi).1 q1 (by rw [q3]; exact fun h => by cases h) (v := g_V ci (g_iv h a) (g_rv h a) k) ?_ rfl rfl hdg kk
  rw [hsl]
  exact q4 k f2
theorem g_fi (X : gX G l own cc nL ret hh nm p s m args meth c) (hI : gI G h0 h H locs cells slots) {a ci k : Nat} {K : Int32 → gM β} (hf : (gB (gFI a ci k) K).1 h = some q) {r : vw_C} {ty : FieldType} {fin : Bool} (fd : gFd ci k r ty fin) {index : Nat} (hlink : Cond.fieldLink own index (r.2.1 k).1 (r.2.1 k).2.1 (r.2.1 k).2.2.1 ∈ lw_all) (ho : g_old (.inr ci) = false) (ht : g_isref ty = false) (hdg : decode cc pc = .ok (.getfield index, 3))
    (kk : ∀ v : Int32, (K v).1 h = some q → W p l e R s m args below meth c H locs cells slots Q (F0 m (pc + 3) ls (.int v :: rest))) : W p l e R s m args below meth c H locs cells slots Q (F0 m pc ls (.ref a :: rest)) := by
  obtain ⟨v, hv, hf⟩ := gB_rd hf
  by_cases hs : g_sh h a = some (.inr ci)
  · rw [if_pos hs] at hv
    refine g_getV X hI.1 hs fd ho hlink hdg ?_
    rw [g_Vi fd.2.2.2.2.2.2.2 ht, Option.some.inj hv]
    exact kk v hf
  · rw [if_neg hs] at hv
    cases hv
theorem g_fiN (X : gX G l own cc nL ret hh nm p s m args meth c) (hI : gI G h0 h H locs cells slots) {a ci k : Nat} {K : Int32 → gM β} (hf : (gB (gFI a ci k) K).1 h = some q) {r : vw_C} {ty : FieldType} {fin : Bool} (fd : gFd ci k r ty fin) {index : Nat} {host : String} (hlink : Cond.fieldLinkNest own index (r.2.1 k).1 (r.2.1 k).2.1 (r.2.1 k).2.2.1 host ∈ lw_tbl) (ho : g_old (.inr ci) = false) (ht : g_isref ty = false) (hdg : decode cc pc = .ok (.getfield index, 3))
    (kk : ∀ v : Int32, (K v).1 h = some q → W p l e R s m args below meth c H locs cells slots Q (F0 m (pc + 3) ls (.int v :: rest))) : W p l e R s m args below meth c H locs cells slots Q (F0 m pc ls (.ref a :: rest)) := by
  obtain ⟨v, hv, hf⟩ := gB_rd hf
  by_cases hs : g_sh h a = some (.inr ci)
  · rw [if_pos hs] at hv
    refine g_getVN X hI.1 hs fd ho hlink hdg ?_
    rw [g_Vi fd.2.2.2.2.2.2.2 ht, Option.some.inj hv]
    exact kk v hf
  · rw [if_neg hs] at hv
    cases hv
theorem g_fr (X : gX G l own cc nL ret hh nm p s m args meth c) (hI : gI G h0 h H locs cells slots) {a ci k : Nat} {K : Nat → gM β} (hf : (gB (gFR a ci k) K).1 h = some q) {r : vw_C} {ty : FieldType} {fin : Bool} (fd : gFd ci k r ty fin) {index : Nat} (hlink : Cond.fieldLink own index (r.2.1 k).1 (r.2.1 k).2.1 (r.2.1 k).2.2.1 ∈ lw_all) (ho : g_old (.inr ci) = false) (ht : g_isref ty = true) (hdg : decode cc pc = .ok (.getfield index, 3))
    (kk : ∀ v : Nat, (K v).1 h = some q → W p l e R s m args below meth c H locs cells slots Q (F0 m (pc + 3) ls (.ref v :: rest))) : W p l e R s m args below meth c H locs cells slots Q (F0 m pc ls (.ref a :: rest)) := by
  obtain ⟨v, hv, hf⟩ := gB_rd hf
  by_cases hs : g_sh h a = some (.inr ci)
  · rw [if_pos hs] at hv
    refine g_getV X hI.1 hs fd ho hlink hdg ?_
    rw [g_Vr fd.2.2.2.2.2.2.2 ht, hv]
    exact kk v hf
  · rw [if_neg hs] at hv
    cases hv
theorem g_frN (X : gX G l own cc nL ret hh nm p s m args meth c) (hI : gI G h0 h H locs cells slots) {a ci k : Nat} {K : Nat → gM β} (hf : (gB (gFR a ci k) K).1 h = some q) {r : vw_C} {ty : FieldType} {fin : Bool} (fd : gFd ci k r ty fin) {index : Nat} {host : String} (hlink : Cond.fieldLinkNest own index (r.2.1 k).1 (r.2.1 k).2.1 (r.2.1 k).2.2.1 host ∈ lw_tbl) (ho : g_old (.inr ci) = false) (ht : g_isref ty = true) (hdg : decode cc pc = .ok (.getfield index, 3))
    (kk : ∀ v : Nat, (K v).1 h = some q → W p l e R s m args below meth c H locs cells slots Q (F0 m (pc + 3) ls (.ref v :: rest))) : W p l e R s m args below meth c H locs cells slots Q (F0 m pc ls (.ref a :: rest)) := by
  obtain ⟨v, hv, hf⟩ := gB_rd hf
  by_cases hs : g_sh h a = some (.inr ci)
  · rw [if_pos hs] at hv
    refine g_getVN X hI.1 hs fd ho hlink hdg ?_
    rw [g_Vr fd.2.2.2.2.2.2.2 ht, hv]
    exact kk v hf
  · rw [if_neg hs] at hv
    cases hv
theorem g_fq (X : gX G l own cc nL ret hh nm p s m args meth c) (hI : gI G h0 h H locs cells slots) {a ci k : Nat} {K : Option Nat → gM β} (hf : (gB (gFQ a ci k) K).1 h = some q) {r : vw_C} {ty : FieldType} {fin : Bool} (fd : gFd ci k r ty fin) {index : Nat} (hlink : Cond.fieldLink own index (r.2.1 k).1 (r.2.1 k).2.1 (r.2.1 k).2.2.1 ∈ lw_all) (ho : g_old (.inr ci) = false) (ht : g_isref ty = true) (hdg : decode cc pc = .ok (.getfield index, 3))
    (kk : ∀ v : Option Nat, (K v).1 h = some q → W p l e R s m args below meth c H locs cells slots Q (F0 m (pc + 3) ls (va_rf v :: rest))) : W p l e R s m args below meth c H locs cells slots Q (F0 m pc ls (.ref a :: rest)) := by
  obtain ⟨v, hv, hf⟩ := gB_rd hf
  by_cases hs : g_sh h a = some (.inr ci)
  · rw [if_pos hs] at hv
    refine g_getV X hI.1 hs fd ho hlink hdg ?_
    rw [g_Vr fd.2.2.2.2.2.2.2 ht, Option.some.inj hv]
    exact kk v hf
  · rw [if_neg hs] at hv
    cases hv
theorem g_fqN (X : gX G l own cc nL ret hh nm p s m args meth c) (hI : gI G h0 h H locs cells slots) {a ci k : Nat} {K : Option Nat → gM β} (hf : (gB (gFQ a ci k) K).1 h = some q) {r : vw_C} {ty : FieldType} {fin : Bool} (fd : gFd ci k r ty fin) {index : Nat} {host : String} (hlink : Cond.fieldLinkNest own index (r.2.1 k).1 (r.2.1 k).2.1 (r.2.1 k).2.2.1 host ∈ lw_tbl) (ho : g_old (.inr ci) = false) (ht : g_isref ty = true) (hdg : decode cc pc = .ok (.getfield index, 3))
    (kk : ∀ v : Option Nat, (K v).1 h = some q → W p l e R s m args below meth c H locs cells slots Q (F0 m (pc + 3) ls (va_rf v :: rest))) : W p l e R s m args below meth c H locs cells slots Q (F0 m pc ls (.ref a :: rest)) := by
  obtain ⟨v, hv, hf⟩ := gB_rd hf
  by_cases hs : g_sh h a = some (.inr ci)
  · rw [if_pos hs] at hv
    refine g_getVN X hI.1 hs fd ho hlink hdg ?_
    rw [g_Vr fd.2.2.2.2.2.2.2 ht, Option.some.inj hv]
    exact kk v hf
  · rw [if_neg hs] at hv
    cases hv
/-- behind a store into an object -/
theorem g_putI (hI : gI G h0 h H locs cells slots) {a ci k : Nat} (hs : g_sh h a = some (.inr ci)) (ho : g_old (.inr ci) = false) {r : vw_C} (hr : g_cl[ci]? = some r) (hk : k < r.2.2) (hap : ∀ x y, x < r.2.2 → y < r.2.2 → x ≠ y → (G.1.2 ci) x ≠ (G.1.2 ci) y) {v : Value} {iv1 : Nat → Int32} {rv1 : Nat → Option Nat} (hV : ∀ j, updV (g_V ci (g_iv h a) (g_rv h a)) k v j = g_V ci iv1 rv1 j) {h1 : g_H} (e1 : g_sh h1 = g_sh h) (e2 : g_tx h1 = g_tx h) (e3 : g_nx h1 = g_nx h) (e3' : g_us h1 = g_us h) (e4 : g_iv h1 a = iv1) (e5 : g_rv h1 a = rv1) (e6 : ∀ b, b ≠ a → g_iv h1 b = g_iv h b ∧ g_rv h1 b = g_rv h b) {cell : Cell} (q2 : cell.cls = G.1.1 ci) (q3 : cell.vm = .none) (q4 : ∀ k, k < r.2.2 → cell.slots[G.1.2 ci k]? = some (g_V ci (g_iv h a) (g_rv h a) k)) {H1 : Heap} (z1 : H1[a]? = some (cell.setSlot (G.1.2 ci k) v)) (z2 : H1.size = H.size) (z3 : ∀ q : Nat, q ≠ a → H1[q]? = H[q]?) {i : Nat} : gI G h0 h1 H1 (locs ++ [⟨a, i⟩]) cells slots := by
  obtain ⟨hR, hL, hle, hc, hsl⟩ := hI
  refine ⟨hR.put e1 e2 e3 hs ho ⟨r, hr, t_OB.to (V := updV (g_V ci (g_iv h a) (g_rv h a)) k v) ⟨_, z1, q2, q3, t_set q4 hap hk v⟩ (fun j _ => by rw [e4, e5]; exact hV j)⟩ e6 z2 z3, fun x hx => ?_, ⟨by rw [e3]; exact hle.1, by rw [e3']; exact hle.2⟩, by rw [e3]; exact hc, by rw [e3']; exact hsl⟩
  rcases List.mem_append.mp hx with h9 | h9
  · exact hL x h9
  · rw [List.mem_singleton.mp h9]
    exact (hR.2.2.2.2.1 a _ hs ho).1
theorem g_updI {ci k : Nat} {iv : Nat → Int32} {rv : Nat → Option Nat} {ty : FieldType} (h1 : g_rt ci k = g_isref ty) (h2 : g_isref ty = false) (x : Int32) (j : Nat) : updV (g_V ci iv rv) k (.int x) j = g_V ci (va_up iv k x) rv j := by
  by_cases hj : j = k
  · subst hj
    rw [g_Vi h1 h2]
    simp [updV, va_up]
  · simp [updV, va_up, hj, g_V]
theorem g_updQ {ci k : Nat} {iv : Nat → Int32} {rv : Nat → Option Nat} {ty : FieldType} (h1 : g_rt ci k = g_isref ty) (h2 : g_isref ty = true) (x : Option Nat) (j : Nat) : updV (g_V ci iv rv) k (va_rf x) j = g_V ci iv (va_up rv k x) j := by
  by_cases hj : j = k
  · subst hj
    rw [g_Vr h1 h2]
    simp [updV, va_up]
  · simp [updV, va_up, hj, g_V]
/-- a store by its own link, not final; by a nest mate's; of a final field in the constructor -/
theorem g_putV (X : gX G l own cc nL ret hh nm p s m args meth c) (hI : gI G h0 h H locs cells slots) {a ci k : Nat} (hs : g_sh h a = some (.inr ci)) {r : vw_C} {ty : FieldType} (fd : gFd ci k r ty false) (ho : g_old (.inr ci) = false) {v : Value} (hn : narrow ty v = v) (hfit : fits ty v = true) {index : Nat} (hlink : Cond.fieldLink own index (r.2.1 k).1 (r.2.1 k).2.1 (r.2.1 k).2.2.1 ∈ lw_all) {iv1 : Nat → Int32} {rv1 : Nat → Option Nat} (hV : ∀ j, updV (g_V ci (g_iv h a) (g_rv h a)) k v j = g_V ci iv1 rv1 j) {h1 : g_H} (e1 : g_sh h1 = g_sh h) (e2 : g_tx h1 = g_tx h) (e3 : g_nx h1 = g_nx h) (e3' : g_us h1 = g_us h) (e4 : g_iv h1 a = iv1) (e5 : g_rv h1 a = rv1) (e6 : ∀ b, b ≠ a → g_iv h1 b = g_iv h b ∧ g_rv h1 b = g_rv h b) (hdg : decode cc pc = .ok (.putfield index, 3))
    (kk : ∀ (H1 : Heap) (locs1 : List Loc), gI G h0 h1 H1 locs1 cells slots → W p l e R s m args below meth c H1 locs1 cells slots Q (F0 m (pc + 3) ls rest)) : W p l e R s m args below meth c H locs cells slots Q (F0 m pc ls (v :: .ref a :: rest)) := by
  obtain ⟨hx, hb, -, hown, hts, hK, -⟩ := X
  obtain ⟨f1, f2, f3, ⟨ty0, f4⟩, f5, f6, f7, f8⟩ := fd
  obtain ⟨-, cell, q1, q2, q3, q4⟩ := g_obj hI.1 hs ho f1 f2
  have hap := va_apart (own := own) hts f3 ty0 f4 f5 hK.1 f1
  obtain ⟨hS, hfc, kC, hkC, hkind⟩ := hK.1.1 ci _ f1
  obtain ⟨cf, kf, fi, f, hi, hsl⟩ := hS k f2
  have hlay := hts _ (f3 _ (u_in_lay f2))
  unfold u_lay at hlay
  rw [if_neg (by rw [f7]; decide)] at hlay
  have hst := (u_facts hfc hkC (u_lays hts f3 f2) hi).1
  have h6 := u_store hfc hkC hkind hlay hi f6 hn hfit
  refine W.putK hx hb (f := f) ⟨hown, hts _ hlink, ⟨_, _, _, hi⟩, hst⟩ (by rw [q2]; exact h6) q1 q3 (by rw [hsl]; exact k2_hasslot (q4 k f2)) rfl rfl hdg fun H' z1 z2 z3 => ?_
  rw [hsl] at z1
  exact kk H' _ (g_putI hI hs ho f1 f2 hap hV e1 e2 e3 e3' e4 e5 e6 q2 q3 q4 z1 z2 z3)
theorem g_putVN (X : gX G l own cc nL ret hh nm p s m args meth c) (hI : gI G h0 h H locs cells slots) {a ci k : Nat} (hs : g_sh h a = some (.inr ci)) {r : vw_C} {ty : FieldType} (fd : gFd ci k r ty false) (ho : g_old (.inr ci) = false) {v : Value} (hn : narrow ty v = v) (hfit : fits ty v = true) {index : Nat} {host : String} (hlink : Cond.fieldLinkNest own index (r.2.1 k).1 (r.2.1 k).2.1 (r.2.1 k).2.2.1 host ∈ lw_tbl) {iv1 : Nat → Int32} {rv1 : Nat → Option Nat} (hV : ∀ j, updV (g_V ci (g_iv h a) (g_rv h a)) k v j = g_V ci iv1 rv1 j) {h1 : g_H} (e1 : g_sh h1 = g_sh h) (e2 : g_tx h1 = g_tx h) (e3 : g_nx h1 = g_nx h) (e3' : g_us h1 = g_us h) (e4 : g_iv h1 a = iv1) (e5 : g_rv h1 a = rv1) (e6 : ∀ b, b ≠ a → g_iv h1 b = g_iv h b ∧ g_rv h1 b = g_rv h b) (hdg : decode cc pc = .ok (.putfield index, 3))
    (kk : ∀ (H1 : Heap) (locs1 : List Loc), gI G h0 h1 H1 locs1 cells slots → W p l e R s m args below meth c H1 locs1 cells slots Q (F0 m (pc + 3) ls rest)) : W p l e R s m args below meth c H locs cells slots Q (F0 m pc ls (v :: .ref a :: rest)) := by
  obtain ⟨hx, hb, -, hown, hts, hK, -⟩ := X
  obtain ⟨f1, f2, f3, ⟨ty0, f4⟩, f5, f6, f7, f8⟩ := fd
  obtain ⟨-, cell, q1, q2, q3, q4⟩ := g_obj hI.1 hs ho f1 f2
  have hap := va_apart (own := own) hts f3 ty0 f4 f5 hK.1 f1
  obtain ⟨hS, hfc, kC, hkC, hkind⟩ := hK.1.1 ci _ f1
  obtain ⟨cf, kf, fi, f, hi, hsl⟩ := hS k f2
  have hlay := hts _ (f3 _ (u_in_lay f2))
  unfold u_lay at hlay
  rw [if_neg (by rw [f7]; decide)] at hlay
  have hst := (u_facts hfc hkC (u_lays hts f3 f2) hi).1
  have h6 := u_store hfc hkC hkind hlay hi f6 hn hfit
  refine va_WputK hx hb (f := f) hown (va_Nw.use rfl (hK.2.1 _ hlink rfl)) hi hst (by rw [q2]; exact h6) q1 q3 (by rw [hsl]; exact k2_hasslot (q4 k f2)) rfl rfl hdg fun H' z1 z2 z3 => ?_
  rw [hsl] at z1
  exact kk H' _ (g_putI hI hs ho f1 f2 hap hV e1 e2 e3 e3' e4 e5 e6 q2 q3 q4 z1 z2 z3)
theorem g_putVF (X : gX G l own cc nL ret hh "<init>" p s m args meth c) (hI : gI G h0 h H locs cells slots) {a ci k : Nat} (hs : g_sh h a = some (.inr ci)) {r : vw_C} {ty : FieldType} (fd : gFd ci k r ty true) (ho : g_old (.inr ci) = false) (hdecl : (r.2.1 k).1 = own) {v : Value} (hn : narrow ty v = v) (hfit : fits ty v = true) {index : Nat} (hlink : Cond.fieldLink own index (r.2.1 k).1 (r.2.1 k).2.1 (r.2.1 k).2.2.1 ∈ lw_all) {iv1 : Nat → Int32} {rv1 : Nat → Option Nat} (hV : ∀ j, updV (g_V ci (g_iv h a) (g_rv h a)) k v j = g_V ci iv1 rv1 j) {h1 : g_H} (e1 : g_sh h1 = g_sh h) (e2 : g_tx h1 = g_tx h) (e3 : g_nx h1 = g_nx h) (e3' : g_us h1 = g_us h) (e4 : g_iv h1 a = iv1) (e5 : g_rv h1 a = rv1) (e6 : ∀ b, b ≠ a → g_iv h1 b = g_iv h b ∧ g_rv h1 b = g_rv h b) (hdg : decode cc pc = .ok (.putfield index, 3))
    (kk : ∀ (H1 : Heap) (locs1 : List Loc), gI G h0 h1 H1 locs1 cells slots → W p l e R s m args below meth c H1 locs1 cells slots Q (F0 m (pc + 3) ls rest)) : W p l e R s m args below meth c H locs cells slots Q (F0 m pc ls (v :: .ref a :: rest)) := by
  obtain ⟨hx, hb, -, hown, hts, hK, -, -, -, hnm, -⟩ := X
  obtain ⟨f1, f2, f3, ⟨ty0, f4⟩, f5, f6, f7, f8⟩ := fd
  obtain ⟨-, cell, q1, q2, q3, q4⟩ := g_obj hI.1 hs ho f1 f2
  have hap := va_apart (own := own) hts f3 ty0 f4 f5 hK.1 f1
  obtain ⟨hS, hfc, kC, hkC, hkind⟩ := hK.1.1 ci _ f1
  obtain ⟨cf, kf, fi, f, hi, hsl⟩ := hS k f2
  have hlay := hts _ (f3 _ (u_in_lay f2))
  unfold u_lay at hlay
  rw [if_pos f7] at hlay
  have hst := (u_facts hfc hkC (u_lays hts f3 f2) hi).1
  have hcf : m.cls = cf := by
    obtain ⟨_, _, c', _, _, _, -, -, hf', -, -, -, hown2, -⟩ := Cond.laysFinal_spec hlay
    have e1 : c' = cf := by have := hi.symm.trans hf'; simp at this; exact this.1.symm
    rw [hdecl] at hown2
    rw [← e1]; exact Option.some.inj (hown.symm.trans hown2)
  have h6 := u_fits hfc hkC hkind (Or.inr hlay) hi f6 hn hfit
  refine W.putFinK hx hb hown (hts _ hlink) hi hst hcf hnm (by rw [q2]; exact h6) q1 q3 (by rw [hsl]; exact k2_hasslot (q4 k f2)) rfl rfl hdg fun H' z1 z2 z3 => ?_
  rw [hsl] at z1
  exact kk H' _ (g_putI hI hs ho f1 f2 hap hV e1 e2 e3 e3' e4 e5 e6 q2 q3 q4 z1 z2 z3)
theorem g_pi (X : gX G l own cc nL ret hh nm p s m args meth c) (hI : gI G h0 h H locs cells slots) {a ci k : Nat} {x : Int32} {K : Unit → gM β} (hf : (gB (gPI a ci k x) K).1 h = some q) {r : vw_C} (fd : gFd ci k r .int false) {index : Nat} (hlink : Cond.fieldLink own index (r.2.1 k).1 (r.2.1 k).2.1 (r.2.1 k).2.2.1 ∈ lw_all) (ho : g_old (.inr ci) = false) (hdg : decode cc pc = .ok (.putfield index, 3))
    (kk : ∀ (h1 : g_H) (H1 : Heap) (locs1 : List Loc), (K ()).1 h1 = some q → gI G h0 h1 H1 locs1 cells slots → W p l e R s m args below meth c H1 locs1 cells slots Q (F0 m (pc + 3) ls rest)) : W p l e R s m args below meth c H locs cells slots Q (F0 m pc ls (.int x :: .ref a :: rest)) := by
  obtain ⟨v, hv, hf⟩ := gB_wr hf
  by_cases hs : g_sh h a = some (.inr ci)
  · rw [if_pos hs] at hv
    cases hv
    exact g_putV X hI hs fd ho rfl rfl hlink (g_updI fd.2.2.2.2.2.2.2 rfl x) (h1 := (g_u2 h.1 a k x, h.2)) rfl rfl rfl rfl (g_u2_self _ _ _ _) rfl (fun b hb => ⟨g_u2_ne _ _ _ hb, rfl⟩) hdg (fun H1 locs1 hI => kk _ H1 locs1 hf hI)
  · rw [if_neg hs] at hv
    cases hv
theorem g_piN (X : gX G l own cc nL ret hh nm p s m args meth c) (hI : gI G h0 h H locs cells slots) {a ci k : Nat} {x : Int32} {K : Unit → gM β} (hf : (gB (gPI a ci k x) K).1 h = some q) {r : vw_C} (fd : gFd ci k r .int false) {index : Nat} {host : String} (hlink : Cond.fieldLinkNest own index (r.2.1 k).1 (r.2.1 k).2.1 (r.2.1 k).2.2.1 host ∈ lw_tbl) (ho : g_old (.inr ci) = false) (hdg : decode cc pc = .ok (.putfield index, 3))
    (kk : ∀ (h1 : g_H) (H1 : Heap) (locs1 : List Loc), (K ()).1 h1 = some q → gI G h0 h1 H1 locs1 cells slots → W p l e R s m args below meth c H1 locs1 cells slots Q (F0 m (pc + 3) ls rest)) : W p l e R s m args below meth c H locs cells slots Q (F0 m pc ls (.int x :: .ref a :: rest)) := by
  obtain ⟨v, hv, hf⟩ := gB_wr hf
  by_cases hs : g_sh h a = some (.inr ci)
  · rw [if_pos hs] at hv
    cases hv
    exact g_putVN X hI hs fd ho rfl rfl hlink (g_updI fd.2.2.2.2.2.2.2 rfl x) (h1 := (g_u2 h.1 a k x, h.2)) rfl rfl rfl rfl (g_u2_self _ _ _ _) rfl (fun b hb => ⟨g_u2_ne _ _ _ hb, rfl⟩) hdg (fun H1 locs1 hI => kk _ H1 locs1 hf hI)
  · rw [if_neg hs] at hv
    cases hv
theorem g_piF (X : gX G l own cc nL ret hh "<init>" p s m args meth c) (hI : gI G h0 h H locs cells slots) {a ci k : Nat} {x : Int32} {K : Unit → gM β} (hf : (gB (gPI a ci k x) K).1 h = some q) {r : vw_C} (fd : gFd ci k r .int true) {index : Nat} (hlink : Cond.fieldLink own index (r.2.1 k).1 (r.2.1 k).2.1 (r.2.1 k).2.2.1 ∈ lw_all) (ho : g_old (.inr ci) = false) (hd : (r.2.1 k).1 = own) (hdg : decode cc pc = .ok (.putfield index, 3))
    (kk : ∀ (h1 : g_H) (H1 : Heap) (locs1 : List Loc), (K ()).1 h1 = some q → gI G h0 h1 H1 locs1 cells slots → W p l e R s m args below meth c H1 locs1 cells slots Q (F0 m (pc + 3) ls rest)) : W p l e R s m args below meth c H locs cells slots Q (F0 m pc ls (.int x :: .ref a :: rest)) := by
  obtain ⟨v, hv, hf⟩ := gB_wr hf
  by_cases hs : g_sh h a = some (.inr ci)
  · rw [if_pos hs] at hv
    cases hv
    exact g_putVF X hI hs fd ho hd rfl rfl hlink (g_updI fd.2.2.2.2.2.2.2 rfl x) (h1 := (g_u2 h.1 a k x, h.2)) rfl rfl rfl rfl (g_u2_self _ _ _ _) rfl (fun b hb => ⟨g_u2_ne _ _ _ hb, rfl⟩) hdg (fun H1 locs1 hI => kk _ H1 locs1 hf hI)
  · rw [if_neg hs] at hv
    cases hv
theorem g_z01 {x : Int32} (h : x = 0 ∨ x = 1) : narrow .boolean (.int x) = .int x ∧ fits .boolean (.int x) = true := by
  rcases h with rfl | rfl <;> exact ⟨by decide, by decide⟩
theorem g_pz (X : gX G l own cc nL ret hh nm p s m args meth c) (hI : gI G h0 h H locs cells slots) {a ci k : Nat} {x : Int32} {K : Unit → gM β} (hf : (gB (gPZ a ci k x) K).1 h = some q) {r : vw_C} (fd : gFd ci k r .boolean false) {index : Nat} (hlink : Cond.fieldLink own index (r.2.1 k).1 (r.2.1 k).2.1 (r.2.1 k).2.2.1 ∈ lw_all) (ho : g_old (.inr ci) = false) (hdg : decode cc pc = .ok (.putfield index, 3))
    (kk : ∀ (h1 : g_H) (H1 : Heap) (locs1 : List Loc), (K ()).1 h1 = some q → gI G h0 h1 H1 locs1 cells slots → W p l e R s m args below meth c H1 locs1 cells slots Q (F0 m (pc + 3) ls rest)) : W p l e R s m args below meth c H locs cells slots Q (F0 m pc ls (.int x :: .ref a :: rest)) := by
  obtain ⟨v, hv, hf⟩ := gB_wr hf
  by_cases hs : g_sh h a = some (.inr ci) ∧ (x = 0 ∨ x = 1)
  · rw [if_pos hs] at hv
    cases hv
    obtain ⟨n1, n2⟩ := g_z01 hs.2
    exact g_putV X hI hs.1 fd ho n1 n2 hlink (g_updI fd.2.2.2.2.2.2.2 rfl x) (h1 := (g_u2 h.1 a k x, h.2)) rfl rfl rfl rfl (g_u2_self _ _ _ _) rfl (fun b hb => ⟨g_u2_ne _ _ _ hb, rfl⟩) hdg (fun H1 locs1 hI => kk _ H1 locs1 hf hI)
  · rw [if_neg hs] at hv
    cases hv
theorem g_pzF (X : gX G l own cc nL ret hh "<init>" p s m args meth c) (hI : gI G h0 h H locs cells slots) {a ci k : Nat} {x : Int32} {K : Unit → gM β} (hf : (gB (gPZ a ci k x) K).1 h = some q) {r : vw_C} (fd : gFd ci k r .boolean true) {index : Nat} (hlink : Cond.fieldLink own index (r.2.1 k).1 (r.2.1 k).2.1 (r.2.1 k).2.2.1 ∈ lw_all) (ho : g_old (.inr ci) = false) (hd : (r.2.1 k).1 = own) (hdg : decode cc pc = .ok (.putfield index, 3))
    (kk : ∀ (h1 : g_H) (H1 : Heap) (locs1 : List Loc), (K ()).1 h1 = some q → gI G h0 h1 H1 locs1 cells slots → W p l e R s m args below meth c H1 locs1 cells slots Q (F0 m (pc + 3) ls rest)) : W p l e R s m args below meth c H locs cells slots Q (F0 m pc ls (.int x :: .ref a :: rest)) := by
  obtain ⟨v, hv, hf⟩ := gB_wr hf
  by_cases hs : g_sh h a = some (.inr ci) ∧ (x = 0 ∨ x = 1)
  · rw [if_pos hs] at hv
    cases hv
    obtain ⟨n1, n2⟩ := g_z01 hs.2
    exact g_putVF X hI hs.1 fd ho hd n1 n2 hlink (g_updI fd.2.2.2.2.2.2.2 rfl x) (h1 := (g_u2 h.1 a k x, h.2)) rfl rfl rfl rfl (g_u2_self _ _ _ _) rfl (fun b hb => ⟨g_u2_ne _ _ _ hb, rfl⟩) hdg (fun H1 locs1 hI => kk _ H1 locs1 hf hI)
  · rw [if_neg hs] at hv
    cases hv
theorem g_nq {ty : FieldType} (h : g_isref ty = true) (x : Option Nat) : narrow ty (va_rf x) = va_rf x ∧ fits ty (va_rf x) = true := by
  cases ty <;> first | (cases x <;> exact ⟨rfl, rfl⟩) | cases h
theorem g_pq (X : gX G l own cc nL ret hh nm p s m args meth c) (hI : gI G h0 h H locs cells slots) {a ci k : Nat} {x : Option Nat} {K : Unit → gM β} (hf : (gB (gPQ a ci k x) K).1 h = some q) {r : vw_C} {ty : FieldType} (fd : gFd ci k r ty false) {index : Nat} (hlink : Cond.fieldLink own index (r.2.1 k).1 (r.2.1 k).2.1 (r.2.1 k).2.2.1 ∈ lw_all) (ho : g_old (.inr ci) = false) (ht : g_isref ty = true) {xv : Value} (hx : va_rf x = xv) (hdg : decode cc pc = .ok (.putfield index, 3))
    (kk : ∀ (h1 : g_H) (H1 : Heap) (locs1 : List Loc), (K ()).1 h1 = some q → gI G h0 h1 H1 locs1 cells slots → W p l e R s m args below meth c H1 locs1 cells slots Q (F0 m (pc + 3) ls rest)) : W p l e R s m args below meth c H locs cells slots Q (F0 m pc ls (xv :: .ref a :: rest)) := by
  obtain ⟨v, hv, hf⟩ := gB_wq hf
  subst hx
  by_cases hs : g_sh h a = some (.inr ci)
  · rw [if_pos hs] at hv
    cases hv
    obtain ⟨n1, n2⟩ := g_nq ht x
    exact g_putV X hI hs fd ho n1 n2 hlink (g_updQ fd.2.2.2.2.2.2.2 ht x) (h1 := (h.1, h.2.1, g_u2 (g_rv h) a k x, h.2.2.2)) rfl rfl rfl rfl rfl (g_u2_self _ _ _ _) (fun b hb => ⟨rfl, g_u2_ne _ _ _ hb⟩) hdg (fun H1 locs1 hI => kk _ H1 locs1 hf hI)
  · rw [if_neg hs] at hv
    cases hv
theorem g_pqN (X : gX G l own cc nL ret hh nm p s m args meth c) (hI : gI G h0 h H locs cells slots) {a ci k : Nat} {x : Option Nat} {K : Unit → gM β} (hf : (gB (gPQ a ci k x) K).1 h = some q) {r : vw_C} {ty : FieldType} (fd : gFd ci k r ty false) {index : Nat} {host : String} (hlink : Cond.fieldLinkNest own index (r.2.1 k).1 (r.2.1 k).2.1 (r.2.1 k).2.2.1 host ∈ lw_tbl) (ho : g_old (.inr ci) = false) (ht : g_isref ty = true) {xv : Value} (hx : va_rf x = xv) (hdg : decode cc pc = .ok (.putfield index, 3))
    (kk : ∀ (h1 : g_H) (H1 : Heap) (locs1 : List Loc), (K ()).1 h1 = some q → gI G h0 h1 H1 locs1 cells slots → W p l e R s m args below meth c H1 locs1 cells slots Q (F0 m (pc + 3) ls rest)) : W p l e R s m args below meth c H locs cells slots Q (F0 m pc ls (xv :: .ref a :: rest)) := by
  obtain ⟨v, hv, hf⟩ := gB_wq hf
  subst hx
  by_cases hs : g_sh h a = some (.inr ci)
  · rw [if_pos hs] at hv
    cases hv
    obtain ⟨n1, n2⟩ := g_nq ht x
    exact g_putVN X hI hs fd ho n1 n2 hlink (g_updQ fd.2.2.2.2.2.2.2 ht x) (h1 := (h.1, h.2.1, g_u2 (g_rv h) a k x, h.2.2.2)) rfl rfl rfl rfl rfl (g_u2_self _ _ _ _) (fun b hb => ⟨rfl, g_u2_ne _ _ _ hb⟩) hdg (fun H1 locs1 hI => kk _ H1 locs1 hf hI)
  · rw [if_neg hs] at hv
    cases hv
theorem g_pqF (X : gX G l own cc nL ret hh "<init>" p s m args meth c) (hI : gI G h0 h H locs cells slots) {a ci k : Nat} {x : Option Nat} {K : Unit → gM β} (hf : (gB (gPQ a ci k x) K).1 h = some q) {r : vw_C} {ty : FieldType} (fd : gFd ci k r ty true) {index : Nat} (hlink : Cond.fieldLink own index (r.2.1 k).1 (r.2.1 k).2.1 (r.2.1 k).2.2.1 ∈ lw_all) (ho : g_old (.inr ci) = false) (ht : g_isref ty = true) {xv : Value} (hx : va_rf x = xv) (hd : (r.2.1 k).1 = own) (hdg : decode cc pc = .ok (.putfield index, 3))
    (kk : ∀ (h1 : g_H) (H1 : Heap) (locs1 : List Loc), (K ()).1 h1 = some q → gI G h0 h1 H1 locs1 cells slots → W p l e R s m args below meth c H1 locs1 cells slots Q (F0 m (pc + 3) ls rest)) : W p l e R s m args below meth c H locs cells slots Q (F0 m pc ls (xv :: .ref a :: rest)) := by
  obtain ⟨v, hv, hf⟩ := gB_wq hf
  subst hx
  by_cases hs : g_sh h a = some (.inr ci)
  · rw [if_pos hs] at hv
    cases hv
    obtain ⟨n1, n2⟩ := g_nq ht x
    exact g_putVF X hI hs fd ho hd n1 n2 hlink (g_updQ fd.2.2.2.2.2.2.2 ht x) (h1 := (h.1, h.2.1, g_u2 (g_rv h) a k x, h.2.2.2)) rfl rfl rfl rfl rfl (g_u2_self _ _ _ _) (fun b hb => ⟨rfl, g_u2_ne _ _ _ hb⟩) hdg (fun H1 locs1 hI => kk _ H1 locs1 hf hI)
  · rw [if_neg hs] at hv
    cases hv
end GR
