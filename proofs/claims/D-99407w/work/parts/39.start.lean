/-! THE START: the tables' facts at the law's entry, and the abstract heap of it -/
def g_byt : List (List Int32) := [[112, 114, 111, 112], [115, 108, 111, 116], [106, 101, 114, 107], [119, 111, 114, 110], [116, 101, 110, 115, 101], [110, 101, 114, 118, 101], [107, 110, 111, 119, 115], [103, 117, 105, 108, 116, 121], [97, 116], [97, 99, 99, 117, 115, 101, 100], [100, 105, 100], [99, 97, 108, 109], [101, 99, 104, 111], [100, 97, 121], [102, 114, 105, 103, 104, 116], [101, 97, 115, 101], [119, 101, 97, 114], [105, 102], [110, 111, 116], [97, 110, 100], [111, 114], [112, 114, 111, 112], [106, 101, 114, 107], [97, 116], [119, 111, 114, 110], [97, 99, 99, 117, 115, 101, 100], [110, 101, 114, 118, 101], [100, 105, 100], [107, 110, 111, 119, 115], [99, 97, 108, 109], [101, 99, 104, 111], [100, 97, 121], [102, 114, 105, 103, 104, 116], [101, 97, 115, 101], [119, 101, 97, 114], [105, 102], [110, 111, 116], [103, 117, 105, 108, 116, 121], [115, 108, 111, 116], [116, 101, 110, 115, 101], [97, 110, 100], [111, 114]]
def g_len : List Nat := [4, 4, 4, 4, 5, 5, 5, 6, 2, 7, 3, 4, 4, 3, 6, 4, 4, 2, 3, 3, 2, 4, 4, 2, 4, 7, 5, 3, 5, 4, 4, 3, 6, 4, 4, 2, 3, 6, 4, 5, 3, 2]
def g_pos : List Nat := [220, 228, 236, 244, 252, 261, 270, 279, 289, 295, 306, 313, 321, 329, 336, 346, 354, 362, 368, 375, 382, 388, 397, 406, 413, 422, 434, 444, 452, 462, 471, 480, 488, 499, 508, 517, 524, 532, 543, 552, 562, 570]
def g_fl : List Cond := flatC (Jvm.Cond.and given_1 narrow_1)
def g_tm (i : Nat) : Term := .string (gStTable.getD i ("", 0, "", 0)).1 (gStTable.getD i ("", 0, "", 0)).2.1
/-- what the law's heap holds at its start: the script, the texts, nothing behind them -/
def g_St (h0 : g_H) (b L : Nat) : Prop := g_sh h0 b = some (.inl (9, L)) ∧ (∀ i : Nat, i < 42 → g_sh h0 (g_tx h0 i) = some (.inr 16) ∧ g_iv h0 (g_tx h0 i) 1 = 0 ∧ ∃ v : Nat, g_rv h0 (g_tx h0 i) 0 = some v ∧ g_sh h0 v = some (.inl (10, g_len.getD i 0)) ∧ ∀ j : Nat, j < g_len.getD i 0 → g_iv h0 v j = (g_byt.getD i []).getD j 0) ∧ ∀ (a : Nat) (s : g_S), g_sh h0 a = some s → a < g_nx h0
/-- THE PLAIN LAW -/
def g_Pure : Prop := ∀ (h0 : g_H) (b L : Nat), L ≤ 384 → g_St h0 b L → ∃ h' : g_H, (f_L_law b).1 h0 = some (1, h') ∧ g_nx h' - g_nx h0 ≤ 603072 ∧ g_us h' - g_us h0 ≤ 7190634

theorem g_hsOf {b : Nat} {s : State} (hg : (Jvm.Cond.and given_1 narrow_1).before #[Value.ref b] s = true) : ∀ w ∈ flatC (Jvm.Cond.and given_1 narrow_1), w.before #[Value.ref b] s = true := flat_of_before _ hg
set_option maxRecDepth 100000 in
theorem g_ip1 : ∀ i : Nat, i < 42 → g_fl[g_pos.getD i 0]? = some (Cond.exactly (g_tm i) "java/lang/String") := by decide +kernel
theorem g_in1 : ∀ i : Nat, i < 42 → (Cond.exactly (g_tm i) "java/lang/String") ∈ flatC (Jvm.Cond.and given_1 narrow_1) := fun i hi => List.mem_of_getElem? (g_ip1 i hi)
set_option maxRecDepth 100000 in
theorem g_ip2 : ∀ i : Nat, i < 42 → g_fl[g_pos.getD i 0 + 1]? = some (Cond.eq (.field (g_tm i) "java/lang/String" "coder" "B") (.int 0)) := by decide +kernel
theorem g_in2 : ∀ i : Nat, i < 42 → (Cond.eq (.field (g_tm i) "java/lang/String" "coder" "B") (.int 0)) ∈ flatC (Jvm.Cond.and given_1 narrow_1) := fun i hi => List.mem_of_getElem? (g_ip2 i hi)
set_option maxRecDepth 100000 in
theorem g_ip3 : ∀ i : Nat, i < 42 → g_fl[g_pos.getD i 0 + 2]? = some (Cond.arrayOf (.field (g_tm i) "java/lang/String" "value" "[B") .byte) := by decide +kernel
theorem g_in3 : ∀ i : Nat, i < 42 → (Cond.arrayOf (.field (g_tm i) "java/lang/String" "value" "[B") .byte) ∈ flatC (Jvm.Cond.and given_1 narrow_1) := fun i hi => List.mem_of_getElem? (g_ip3 i hi)
set_option maxRecDepth 100000 in
theorem g_ip4 : ∀ i : Nat, i < 42 → g_fl[g_pos.getD i 0 + 3]? = some (Cond.eq (.length (.field (g_tm i) "java/lang/String" "value" "[B")) (.int (Int32.ofNat (g_len.getD i 0)))) := by decide +kernel
theorem g_in4 : ∀ i : Nat, i < 42 → (Cond.eq (.length (.field (g_tm i) "java/lang/String" "value" "[B")) (.int (Int32.ofNat (g_len.getD i 0)))) ∈ flatC (Jvm.Cond.and given_1 narrow_1) := fun i hi => List.mem_of_getElem? (g_ip4 i hi)
set_option maxRecDepth 100000 in
theorem g_ip5 : ∀ i : Nat, i < 42 → ∀ j : Nat, j < g_len.getD i 0 → g_fl[g_pos.getD i 0 + 4 + j]? = some (Cond.eq (.elem (.field (g_tm i) "java/lang/String" "value" "[B") (.int (Int32.ofNat j))) (.int ((g_byt.getD i []).getD j 0))) := by decide +kernel
theorem g_in5 : ∀ i : Nat, i < 42 → ∀ j : Nat, j < g_len.getD i 0 → (Cond.eq (.elem (.field (g_tm i) "java/lang/String" "value" "[B") (.int (Int32.ofNat j))) (.int ((g_byt.getD i []).getD j 0))) ∈ flatC (Jvm.Cond.and given_1 narrow_1) := fun i hi j hj => List.mem_of_getElem? (g_ip5 i hi j hj)
theorem g_in6 : ∀ i : Nat, i < 42 → g_len.getD i 0 < 2 ^ 31 := by decide +kernel
theorem g_texts {args : Array Value} {s : State} {A : Nat → Prop} (hs : ∀ w ∈ flatC (Jvm.Cond.and given_1 narrow_1), w.before args s = true) (hA : ∀ a : Nat, a < s.heap.size → ¬ A a) : ∃ ad : Nat → Nat × Nat, ∀ i : Nat, i < 42 → (g_tm i).eval args s none [] s = some (.ref (ad i).1) ∧ va_O "java/lang/String" (ad i).1 A s s.heap ∧ va_OF "java/lang/String" "coder" "B" (.int 0) (ad i).1 A s s.heap ∧ va_OF "java/lang/String" "value" "[B" (.ref (ad i).2) (ad i).1 A s s.heap ∧ va_T .byte (ad i).2 (g_len.getD i 0) (fun j => .int ((g_byt.getD i []).getD j 0)) A s s.heap := by
  have h0 : ∀ i : Nat, ∃ q : Nat × Nat, i < 42 → (g_tm i).eval args s none [] s = some (.ref q.1) ∧ va_O "java/lang/String" q.1 A s s.heap ∧ va_OF "java/lang/String" "coder" "B" (.int 0) q.1 A s s.heap ∧ va_OF "java/lang/String" "value" "[B" (.ref q.2) q.1 A s s.heap ∧ va_T .byte q.2 (g_len.getD i 0) (fun j => .int ((g_byt.getD i []).getD j 0)) A s s.heap := by
    intro i
    by_cases hi : i < 42
    · obtain ⟨a, c, cA, kA, q1, q2, q3, q4, q5, q6, -⟩ := Cond.exactly_spec (args := args) (first := s) (o := none) (s := s) (idx := []) (t := g_tm i) (cls := "java/lang/String") (hs _ (g_in1 i hi))
      obtain ⟨t, ht, hT⟩ := va_Tof (f := fun j => .int ((g_byt.getD i []).getD j 0)) (A := A) (g_in6 i hi) (hs _ (g_in3 i hi)) (va_eqt (hs _ (g_in4 i hi))) (fun j hj => va_eqt (hs _ (g_in5 i hi j hj))) hA
      exact ⟨(a, t), fun _ => ⟨q1, ⟨cA, q3, q5, by rw [q6]; exact q2, hA a (Array.getElem?_eq_some_iff.mp q3).1⟩, vk_OFof q1 (va_eqt (hs _ (g_in2 i hi))) hA, vk_OFof q1 ht hA, hT⟩⟩
    · exact ⟨(0, 0), fun h => absurd h hi⟩
  exact Classical.axiomOfChoice h0
theorem g_kn0 {s : State} {args : Array Value} {C : String} {n : Nat} (hts : ∀ w ∈ lw_all, w.before args s = true) (h : Cond.instantiable C n ∈ lw_all) : ∃ (cC : ClassId) (iS : Nat → Nat), u_Kn s C g_T0 0 cC iS := u_known (ws := lw_all) hts (fun w hw => by cases hw) (hts _ h)
theorem g_kns {s : State} {args : Array Value} (hts : ∀ w ∈ lw_all, w.before args s = true) : ∃ (dC : Nat → ClassId) (dI : Nat → Nat → Nat), ∀ (k : Nat) (q : vw_C), g_cl[k]? = some q → u_Kn s q.1 q.2.1 q.2.2 (dC k) (dI k) := by
  have h : ∀ q ∈ g_cl, ∃ (cC : ClassId) (iS : Nat → Nat), u_Kn s q.1 q.2.1 q.2.2 cC iS := by
    unfold g_cl
    refine List.forall_mem_cons.mpr ⟨u_known (ws := lw_all) hts cX1.2.1 (hts _ cX1.2.2.2.2.2.2.1), List.forall_mem_cons.mpr ⟨u_known (ws := lw_all) hts cX2.2.1 (hts _ cX2.2.2.2.2.2.2.1), List.forall_mem_cons.mpr ⟨u_known (ws := lw_all) hts cX3.2.1 (hts _ cX3.2.2.2.2.2.2.1), List.forall_mem_cons.mpr ⟨u_known (ws := lw_all) hts cX4.2.1 (hts _ cX4.2.2.2.2.2.2.1), List.forall_mem_cons.mpr ⟨u_known (ws := lw_all) hts cX5.2.1 (hts _ cX5.2.2.2.2.2.2.1), List.forall_mem_cons.mpr ⟨u_known (ws := lw_all) hts cX6.2.1 (hts _ cX6.2.2.2.2.2.2.1), List.forall_mem_cons.mpr ⟨u_known (ws := lw_all) hts cX7.2.1 (hts _ cX7.2.2.2.2.2.2.1), List.forall_mem_cons.mpr ⟨u_known (ws := lw_all) hts cX8.2.1 (hts _ cX8.2.2.2.2.2.2.1), List.forall_mem_cons.mpr ⟨u_known (ws := lw_all) hts cX9.2.1 (hts _ cX9.2.2.2.2.2.2.1), List.forall_mem_cons.mpr ⟨u_known (ws := lw_all) hts cX10.2.1 (hts _ cX10.2.2.2.2.2.2.1), List.forall_mem_cons.mpr ⟨u_known (ws := lw_all) hts cX11.2.1 (hts _ cX11.2.2.2.2.2.2.1), List.forall_mem_cons.mpr ⟨u_known (ws := lw_all) hts cX12.2.1 (hts _ cX12.2.2.2.2.2.2.1), List.forall_mem_cons.mpr ⟨u_known (ws := lw_all) hts cX13.2.1 (hts _ cX13.2.2.2.2.2.2.1), List.forall_mem_cons.mpr ⟨g_kn0 hts q1216, List.forall_mem_cons.mpr ⟨u_known (ws := lw_all) hts cX15.2.1 (hts _ cX15.2.2.2.2.2.2.1), List.forall_mem_cons.mpr ⟨u_known (ws := lw_all) hts cX16.2.1 (hts _ cX16.2.2.2.2.2.2.1), List.forall_mem_cons.mpr ⟨u_known (ws := lw_all) hts in_J3 (hts _ q1125), List.forall_mem_cons.mpr ⟨g_kn0 hts q921, List.forall_mem_cons.mpr ⟨g_kn0 hts q945, List.forall_mem_cons.mpr ⟨g_kn0 hts q1143, List.forall_mem_cons.mpr ⟨g_kn0 hts q1158, fun q hq => by cases hq⟩⟩⟩⟩⟩⟩⟩⟩⟩⟩⟩⟩⟩⟩⟩⟩⟩⟩⟩⟩⟩
  have h2 : ∀ k : Nat, ∃ x : ClassId × (Nat → Nat), ∀ q : vw_C, g_cl[k]? = some q → u_Kn s q.1 q.2.1 q.2.2 x.1 x.2 := by
    intro k
    cases hk : g_cl[k]? with
    | none => exact ⟨(0, fun _ => 0), fun q hq => by cases hq⟩
    | some q =>
      obtain ⟨cC, iS, hK⟩ := h q (List.mem_of_getElem? hk)
      exact ⟨(cC, iS), fun q' hq => by cases hq; exact hK⟩
  obtain ⟨f, hf⟩ := Classical.axiomOfChoice h2
  exact ⟨fun k => (f k).1, fun k => (f k).2, hf⟩
theorem g_arrP {s : State} {args : Array Value} {ty : FieldType} (hr : ∀ C, ty ≠ .object C) (h : (Cond.arrayClass ty).before args s = true) : ∃ c : ClassId, ArrOfT s c ty ∧ va_RA s c ty := by
  obtain ⟨c, k, comp, h1, h2, h3⟩ := Cond.arrayClass_spec h
  refine ⟨c, fun n z => ⟨(fun j h => by cases h), k, h2, comp, h3⟩, ?_⟩
  cases ty with
  | object C => exact (hr C rfl).elim
  | _ => exact h1
theorem g_arrO {s : State} {args : Array Value} {C : String} (h : (Cond.arrayOver (.object C)).before args s = true) : ∃ c : ClassId, ArrOfT s c (.object C) ∧ va_RA s c (.object C) := by
  obtain ⟨comp, c, k, h1, -, h3, h4, h5⟩ := Cond.arrayOver_spec h
  exact ⟨c, fun n z => ⟨(fun j h => by cases h), k, h3, comp, h4⟩, k, comp, h3, h4, h1, h5⟩
set_option maxRecDepth 100000 in
theorem g_arrs {s : State} {args : Array Value} (hts : ∀ w ∈ lw_all, w.before args s = true) (htt : ∀ w ∈ lw_tbl, w.before args s = true) : ∃ dA : Nat → ClassId, ∀ (k : Nat) (q : ClassId × FieldType), (g_tys dA)[k]? = some q → ArrOfT s q.1 q.2 ∧ va_RA s q.1 q.2 := by
  obtain ⟨a0, h0⟩ := g_arrP (ty := .int) (fun C h => by cases h) (hts _ q221)
  obtain ⟨a1, h1⟩ := g_arrP (ty := .byte) (fun C h => by cases h) (hts _ q220)
  obtain ⟨a2, h2⟩ := g_arrP (ty := .long) (fun C h => by cases h) (hts _ q2101)
  obtain ⟨a3, h3⟩ := g_arrP (ty := .boolean) (fun C h => by cases h) (hts _ q519)
  obtain ⟨a4, h4⟩ := g_arrO (htt _ q186)
  obtain ⟨a5, h5⟩ := g_arrO (htt _ q188)
  obtain ⟨a6, h6⟩ := g_arrO (htt _ q178)
  obtain ⟨a7, h7⟩ := g_arrO (htt _ q430)
  obtain ⟨a8, h8⟩ := g_arrO (htt _ q168)
  refine ⟨fun k => [a0, a1, a2, a3, a4, a5, a6, a7, a8].getD k 0, fun k q hq => ?_⟩
  have hm : ∀ q ∈ g_tys (fun k => [a0, a1, a2, a3, a4, a5, a6, a7, a8].getD k 0), ArrOfT s q.1 q.2 ∧ va_RA s q.1 q.2 := by
    unfold g_tys
    exact List.forall_mem_cons.mpr ⟨h0, List.forall_mem_cons.mpr ⟨h1, List.forall_mem_cons.mpr ⟨h2, List.forall_mem_cons.mpr ⟨h3, List.forall_mem_cons.mpr ⟨h4, List.forall_mem_cons.mpr ⟨h5, List.forall_mem_cons.mpr ⟨h6, List.forall_mem_cons.mpr ⟨h7, List.forall_mem_cons.mpr ⟨h8, fun q hq => by cases hq⟩⟩⟩⟩⟩⟩⟩⟩⟩
  exact hm q (List.mem_of_getElem? hq)
