/-! COPIES, EXCEPTIONS, SWITCHES, REFERENCES THAT MAY BE NULL -/
theorem gN_ex : ∃ n : Nat, n = 4096 := ⟨_, rfl⟩
noncomputable def gN : Nat := Classical.choose gN_ex
theorem gN_eq : gN = 4096 := Classical.choose_spec gN_ex
def gOpt {α : Type} (r : Option Nat) (a : gM α) (b : Nat → gM α) : gM α := match r with
  | none => a
  | some v => b v
theorem g_cpS {h : g_H} {t a0 a1 : Nat} {sp dp n : Int32} (e : g_cpOk h t a0 a1 sp dp n = true) : ∃ n0 n1, g_sh h a0 = some (.inl (t, n0)) ∧ g_sh h a1 = some (.inl (t, n1)) ∧ a0 ≠ a1 ∧ ¬ sp < 0 ∧ ¬ dp < 0 ∧ ¬ n < 0 ∧ sp.toNatClampNeg + n.toNatClampNeg ≤ n0 ∧ dp.toNatClampNeg + n.toNatClampNeg ≤ n1 := by
  unfold g_cpOk at e
  split at e
  · rename_i t0 n0 t1 n1 h0 h1
    simp only [Bool.and_eq_true, decide_eq_true_eq, Bool.not_eq_true', decide_eq_false_iff_not] at e
    obtain ⟨⟨⟨⟨⟨⟨⟨rfl, rfl⟩, k3⟩, k4⟩, k5⟩, k6⟩, k7⟩, k8⟩ := e
    exact ⟨n0, n1, h0, h1, k3, k4, k5, k6, k7, k8⟩
  · cases e
theorem g_nn {z : Int32} (hz : ¬ z < 0) : z.toInt = (z.toNatClampNeg : Int) := by
  have hz0 : (0 : Int) ≤ z.toInt := by
    have := Int32.not_lt.mp hz
    simpa using Int32.le_iff_toInt_le.mp this
  show z.toInt = ((z.toInt.toNat : Nat) : Int)
  omega
section GU
variable {p : Program} {l : Launch} {e : Env} {R : Room} {s : State} {m : MethodId} {args : Array Value} {below : List Frame} {meth : Method} {c : Code} {H : Heap} {locs : List Loc} {cells slots : Nat} {Q : State → Prop}
variable {G : gG} {h0 h : g_H} {own : String} {cc : ByteArray} {nL : Nat} {ret : Option FieldType} {hh : List (Nat × Nat × Nat × Nat)} {nm : String} {pc : Nat} {ls : Array Slot} {rest : List Value} {β : Type} {q : β × g_H}
theorem g_cpI (X : gX G l own cc nL ret hh nm p s m args meth c) (hI : gI G h0 h H locs cells slots) {a0 a1 : Nat} {sp dp n : Int32} {K : Unit → gM β} (hf : (gB (gCpI a0 sp a1 dp n) K).1 h = some q) {index : Nat} (q1 : Cond.methodLink own index arraycopyName ∈ lw_all) (hsz : ls.size = nL) (hF : 1 ≤ R.frames) (hL : 8 + (nativeFrameWords "java/lang/System" "arraycopy" 5 + 11) ≤ R.locals) (hW : (rest.map fun v => v.category).sum ≤ 8) (hdg : decode cc pc = .ok (.invokestatic index, 3))
    (kk : ∀ (h1 : g_H) (H1 : Heap) (locs1 : List Loc), (K ()).1 h1 = some q → gI G h0 h1 H1 locs1 cells slots → W p l e R s m args below meth c H1 locs1 cells slots Q (F0 m (pc + 3) ls rest)) : W p l e R s m args below meth c H locs cells slots Q (F0 m pc ls (.int n :: .int dp :: .ref a1 :: .int sp :: .ref a0 :: rest)) := by
  obtain ⟨v, hv, hf1⟩ := gB_wr hf
  by_cases hx : g_cpOk h 0 a0 a1 sp dp n = true
  · rw [if_pos hx] at hv
    cases hv
    obtain ⟨n0, n1, s0, s1, hne, h1, h2, h3, h4, h5⟩ := g_cpS hx
    obtain ⟨-, hc0, -⟩ := hI.1.2.2.2.2.1 a0 _ s0 rfl
    obtain ⟨-, hc1, -⟩ := hI.1.2.2.2.2.1 a1 _ s1 rfl
    have hc0 : H[a0]? = some (vp_cell (G.2.1 0) (n0, .inl (g_iv h a0))) := hc0
    have hc1 : H[a1]? = some (vp_cell (G.2.1 0) (n1, .inl (g_iv h a1))) := hc1
    have hK := (X.2.2.2.2.2.1.1.2 0 _ rfl).1
    have hts := X.2.2.2.2.1
    intro T hT X9
    obtain ⟨-, k0, hk0, cm0, hkk0⟩ := hK n0 (fun j => .int (g_iv h a0 j))
    obtain ⟨vm', X', step⟩ := X9.arraycopy X.1 X.2.2.2.1 (hts _ q1) (hts _ q626) (hts _ q625) (hts _ q132) (src := a0) (dst := a1) (cs := vp_cell (G.2.1 0) (n0, .inl (g_iv h a0))) (cd := vp_cell (G.2.1 0) (n1, .inl (g_iv h a1))) (srcPos := sp) (destPos := dp) (n := n) (by rw [hT]; exact hc0) (by rw [hT]; exact hc1)
      (fun _ h => by cases h) (fun _ h => by cases h) (fun h => by cases h) (fun h => by cases h) hk0 hk0 hkk0 hkk0 (by simp [refKind]) h1 h2 h3
      (by rw [g_nn h1, g_nn h3]; show ¬ _ > ((arrV (G.2.1 0) n0 (fun j => .int (g_iv h a0 j))).slots.size : Int); rw [arrV_size]; omega)
      (by rw [g_nn h2, g_nn h3]; show ¬ _ > ((arrV (G.2.1 0) n1 (fun j => .int (g_iv h a1 j))).slots.size : Int); rw [arrV_size]; omega)
      (fun vm₁ _ i hi => by
        have e : (vp_cell (G.2.1 0) (n0, .inl (g_iv h a0))).slots.getD (sp.toNatClampNeg + i) .null = .int (g_iv h a0 (sp.toNatClampNeg + i)) := by
          show (arrV (G.2.1 0) n0 (fun j => .int (g_iv h a0 j))).slots.getD _ _ = _
          rw [Array.getD_eq_getD_getElem?, arrV_read _ _ (by omega)]
          rfl
        refine ⟨?_, ?_⟩
        · rw [e]
          rfl
        · rw [e]
          exact trivial)
      (g := F0 m pc ls (.int n :: .int dp :: .ref a1 :: .int sp :: .ref a0 :: rest)) rfl (by rw [X.2.2.1]; exact hsz) (rest := rest) rfl (by rw [X.2.1]; exact hdg) hF (by show 2 * 0 + _ + _ ≤ _; omega)
    have e1 : copied (vp_cell (G.2.1 0) (n0, .inl (g_iv h a0))) (vp_cell (G.2.1 0) (n1, .inl (g_iv h a1))) sp dp n = vp_cell (G.2.1 0) (n1, .inl (va_cpy (g_iv h a0) (g_iv h a1) sp.toNatClampNeg dp.toNatClampNeg n.toNatClampNeg)) := va_copied (fun z => .int z) (G.2.1 0) (G.2.1 0) (g_iv h a0) (g_iv h a1) h4
    rw [e1] at X' step
    have hl : a1 < H.size := (Array.getElem?_eq_some_iff.mp hc1).1
    have hheap : ((T.setVm vm').setCell a1 (vp_cell (G.2.1 0) (n1, .inl (va_cpy (g_iv h a0) (g_iv h a1) sp.toNatClampNeg dp.toNatClampNeg n.toNatClampNeg)))).heap = H.setIfInBounds a1 (vp_cell (G.2.1 0) (n1, .inl (va_cpy (g_iv h a0) (g_iv h a1) sp.toNatClampNeg dp.toNatClampNeg n.toNatClampNeg))) := by rw [← hT]; rfl
    have e9 : g_iv ((va_up h.1 a1 (va_cpy (h.1 a0) (h.1 a1) sp.toNatClampNeg dp.toNatClampNeg n.toNatClampNeg), h.2) : g_H) a1 = va_cpy (g_iv h a0) (g_iv h a1) sp.toNatClampNeg dp.toNatClampNeg n.toNatClampNeg := va_up_self _ _ _
    obtain ⟨t, a9, b9⟩ := kk _ _ _ hf1 (g_arrput hI s1 rfl (h1 := (va_up h.1 a1 (va_cpy (h.1 a0) (h.1 a1) sp.toNatClampNeg dp.toNatClampNeg n.toNatClampNeg), h.2)) rfl rfl rfl rfl (fun b hb => ⟨va_up_ne _ _ hb, rfl⟩) (show (H.setIfInBounds a1 _)[a1]? = some _ by rw [e9]; simp [Array.getElem?_setIfInBounds, hl]; rfl) (fun z => by cases z) (by simp) (fun q hq => by simp [Array.getElem?_setIfInBounds, Ne.symm hq]) (fun x hx => by
        obtain ⟨z, -, hz⟩ := List.mem_map.mp hx
        rw [← hz])) _ hheap X'
    exact ⟨t, step t a9, b9⟩
  · rw [if_neg hx] at hv
    cases hv
theorem g_cpQ (X : gX G l own cc nL ret hh nm p s m args meth c) (hI : gI G h0 h H locs cells slots) {a0 a1 : Nat} {sp dp n : Int32} {K : Unit → gM β} (hf : (gB (gCpQ a0 sp a1 dp n) K).1 h = some q) {index : Nat} (q1 : Cond.methodLink own index arraycopyName ∈ lw_all) (hsz : ls.size = nL) (hF : 1 ≤ R.frames) (hL : 8 + (nativeFrameWords "java/lang/System" "arraycopy" 5 + 11) ≤ R.locals) (hW : (rest.map fun v => v.category).sum ≤ 8) (hdg : decode cc pc = .ok (.invokestatic index, 3))
    (kk : ∀ (h1 : g_H) (H1 : Heap) (locs1 : List Loc), (K ()).1 h1 = some q → gI G h0 h1 H1 locs1 cells slots → W p l e R s m args below meth c H1 locs1 cells slots Q (F0 m (pc + 3) ls rest)) : W p l e R s m args below meth c H locs cells slots Q (F0 m pc ls (.int n :: .int dp :: .ref a1 :: .int sp :: .ref a0 :: rest)) := by
  obtain ⟨v, hv, hf1⟩ := gB_wq hf
  by_cases hx : g_cpOk h 6 a0 a1 sp dp n = true
  · rw [if_pos hx] at hv
    cases hv
    obtain ⟨n0, n1, s0, s1, hne, h1, h2, h3, h4, h5⟩ := g_cpS hx
    obtain ⟨-, hc0, hk0', -⟩ := hI.1.2.2.2.2.1 a0 _ s0 rfl
    obtain ⟨-, hc1, hk1', -⟩ := hI.1.2.2.2.2.1 a1 _ s1 rfl
    have hc0 : H[a0]? = some (vp_cell (G.2.1 6) (n0, .inr (.inr (.inr (.inr (g_rv h a0)))))) := hc0
    have hc1 : H[a1]? = some (vp_cell (G.2.1 6) (n1, .inr (.inr (.inr (.inr (g_rv h a1)))))) := hc1
    have hK := (X.2.2.2.2.2.1.1.2 6 _ rfl)
    have hts := X.2.2.2.2.1
    intro T hT X9
    obtain ⟨-, k0, hk0, cm0, hkk0⟩ := hK.1 n0 (fun j => va_rf (g_rv h a0 j))
    obtain ⟨vm', X', step⟩ := X9.arraycopy X.1 X.2.2.2.1 (hts _ q1) (hts _ q626) (hts _ q625) (hts _ q132) (src := a0) (dst := a1) (cs := vp_cell (G.2.1 6) (n0, .inr (.inr (.inr (.inr (g_rv h a0)))))) (cd := vp_cell (G.2.1 6) (n1, .inr (.inr (.inr (.inr (g_rv h a1)))))) (srcPos := sp) (destPos := dp) (n := n) (by rw [hT]; exact hc0) (by rw [hT]; exact hc1)
      (fun _ h => by cases h) (fun _ h => by cases h) (fun h => by cases h) (fun h => by cases h) hk0 hk0 hkk0 hkk0 rfl h1 h2 h3
      (by rw [g_nn h1, g_nn h3]; show ¬ _ > ((arrV (G.2.1 6) n0 (fun j => va_rf (g_rv h a0 j))).slots.size : Int); rw [arrV_size]; omega)
      (by rw [g_nn h2, g_nn h3]; show ¬ _ > ((arrV (G.2.1 6) n1 (fun j => va_rf (g_rv h a1 j))).slots.size : Int); rw [arrV_size]; omega)
      (fun vm₁ hal i hi => by
        have e : (vp_cell (G.2.1 6) (n0, .inr (.inr (.inr (.inr (g_rv h a0)))))).slots.getD (sp.toNatClampNeg + i) .null = va_rf (g_rv h a0 (sp.toNatClampNeg + i)) := by
          show (arrV (G.2.1 6) n0 (fun j => va_rf (g_rv h a0 j))).slots.getD _ _ = _
          rw [Array.getD_eq_getD_getElem?, arrV_read _ _ (by omega)]
          rfl
        rw [e]
        cases hy : g_rv h a0 (sp.toNatClampNeg + i) with
        | none => exact ⟨rfl, trivial⟩
        | some y =>
          have hlk := hk0' rfl _ (by omega) y hy
          have hci : ∃ ci, g_sh h y = some (.inr ci) ∧ g_in 6 ci = true := by
            unfold g_lok at hlk
            split at hlk
            · rename_i e9; exact ⟨14, e9, rfl⟩
            · rename_i e9; exact ⟨15, e9, rfl⟩
            · cases hlk
          obtain ⟨ci, hsy, hin⟩ := hci
          obtain ⟨r, hr⟩ : ∃ r, g_cl[ci]? = some r := by
            have e : ci = 14 ∨ ci = 15 := by simpa [g_in] using hin
            rcases e with rfl | rfl <;> exact ⟨_, rfl⟩
          obtain ⟨cellV, g1, g2, g3⟩ := g_any X hI.1 hsy hr
          obtain ⟨E, hE, hasg⟩ := g_inA X hin hr
          obtain ⟨kA, comp, r1, r2, r3, -⟩ := (X.2.2.2.2.2.1.1.2 6 _ hE).2
          cases hk0.symm.trans r1
          cases hkk0.symm.trans r2
          obtain ⟨kE, hkE, -⟩ := Vm.findClass_spec r3
          obtain ⟨kC, hkC, -⟩ := Vm.findClass_spec g3
          obtain ⟨kC', hkC', -⟩ := hal.2.2 _ _ hkC
          obtain ⟨kE', hkE', -⟩ := hal.2.2 _ _ hkE
          refine ⟨rfl, cellV, (show T.heap[y]? = some cellV by rw [hT]; exact g1), (fun q h => by rw [h] at g2; cases g2), ⟨kC', hkC'⟩, ?_, ?_⟩
          · exact ⟨kE', hkE'⟩
          · show vm₁.assignable _ _ = true
            rw [hal.assignable]
            exact hasg _ _ r3 g3)
      (g := F0 m pc ls (.int n :: .int dp :: .ref a1 :: .int sp :: .ref a0 :: rest)) rfl (by rw [X.2.2.1]; exact hsz) (rest := rest) rfl (by rw [X.2.1]; exact hdg) hF (by show 2 * 0 + _ + _ ≤ _; omega)
    have e1 : copied (vp_cell (G.2.1 6) (n0, .inr (.inr (.inr (.inr (g_rv h a0)))))) (vp_cell (G.2.1 6) (n1, .inr (.inr (.inr (.inr (g_rv h a1)))))) sp dp n = vp_cell (G.2.1 6) (n1, .inr (.inr (.inr (.inr (va_cpy (g_rv h a0) (g_rv h a1) sp.toNatClampNeg dp.toNatClampNeg n.toNatClampNeg))))) := by
      rw [vp_cell_q, vp_cell_q, vp_cell_q]
      exact va_copied (fun z => va_rf z) (G.2.1 6) (G.2.1 6) (g_rv h a0) (g_rv h a1) h4
    rw [e1] at X' step
    have hl : a1 < H.size := (Array.getElem?_eq_some_iff.mp hc1).1
    have hheap : ((T.setVm vm').setCell a1 (vp_cell (G.2.1 6) (n1, .inr (.inr (.inr (.inr (va_cpy (g_rv h a0) (g_rv h a1) sp.toNatClampNeg dp.toNatClampNeg n.toNatClampNeg))))))).heap = H.setIfInBounds a1 (vp_cell (G.2.1 6) (n1, .inr (.inr (.inr (.inr (va_cpy (g_rv h a0) (g_rv h a1) sp.toNatClampNeg dp.toNatClampNeg n.toNatClampNeg)))))) := by rw [← hT]; rfl
    have e9 : g_rv ((h.1, h.2.1, va_up (g_rv h) a1 (va_cpy (g_rv h a0) (g_rv h a1) sp.toNatClampNeg dp.toNatClampNeg n.toNatClampNeg), h.2.2.2) : g_H) a1 = va_cpy (g_rv h a0) (g_rv h a1) sp.toNatClampNeg dp.toNatClampNeg n.toNatClampNeg := va_up_self _ _ _
    obtain ⟨t, a9, b9⟩ := kk _ _ _ hf1 (g_arrput hI s1 rfl (h1 := (h.1, h.2.1, va_up (g_rv h) a1 (va_cpy (g_rv h a0) (g_rv h a1) sp.toNatClampNeg dp.toNatClampNeg n.toNatClampNeg), h.2.2.2)) rfl rfl rfl rfl (fun b hb => ⟨rfl, va_up_ne _ _ hb⟩) (show (H.setIfInBounds a1 _)[a1]? = some _ by rw [e9]; simp [Array.getElem?_setIfInBounds, hl]; rfl) (fun _ j hj y hy => by
        rw [e9] at hy
        unfold va_cpy at hy
        split at hy
        · exact hk0' rfl _ (by omega) y hy
        · exact hk1' rfl j hj y hy) (by simp) (fun q hq => by simp [Array.getElem?_setIfInBounds, Ne.symm hq]) (fun x hx => by
        obtain ⟨z, -, hz⟩ := List.mem_map.mp hx
        rw [← hz])) _ hheap X'
    exact ⟨t, step t a9, b9⟩
  · rw [if_neg hx] at hv
    cases hv
/-- throw of an object of ours -/
theorem g_athrow {γ : Type} {w2 : γ → Option Value} (X : gX G l own cc nL ret hh nm p s m args meth c) (hI : gI G h0 h H locs cells slots) (hout : ∀ x ∈ tableOf hh, covers x pc = false) {a ci : Nat} (hs : g_sh h a = some (.inr ci)) (ho : g_old (.inr ci) = false) {r : vw_C} (hr : g_cl[ci]? = some r) (hdg : decode cc pc = .ok (.athrow, 1)) : W p l e R s m args below meth c H locs cells slots (gQ G below args s h0 h (g_w w2 (.inr (ci, a)))) (F0 m pc ls (.ref a :: rest)) := by
  obtain ⟨-, r', hr', cell, q1, q2, q3, -⟩ := hI.1.2.2.2.2.1 a _ hs ho
  cases hr.symm.trans hr'
  refine vx_athrow X.1 X.2.1 hdg (g_out X hout hr hI q1 q3 ?_)
  rw [q2]
  exact (X.2.2.2.2.2.1.1.1 ci r hr).2.1
/-! loads and stores of a reference that may be null -/
theorem g_aloadQ (hx : p.tables.exec = Jvm.exec) (hb : c.code = cc) {i : Nat} {x : Option Nat} (hdg : decode cc pc = .ok (.aload i, 2)) (hl : ls[i]? = some (.val (va_rf x))) (k : W p l e R s m args below meth c H locs cells slots Q (F0 m (pc + 2) ls (va_rf x :: rest))) : W p l e R s m args below meth c H locs cells slots Q (F0 m pc ls rest) := by
  cases x with
  | none => exact lv_aloadN hx hb hdg hl k
  | some y => exact lv_aload hx hb hdg hl k
theorem g_aloadQ_n (hx : p.tables.exec = Jvm.exec) (hb : c.code = cc) {k9 : Fin 4} {i : Nat} {x : Option Nat} (hdg : decode cc pc = .ok (.aload_n k9, 1)) (hi : (k9 : Nat) = i) (hl : ls[i]? = some (.val (va_rf x))) (k : W p l e R s m args below meth c H locs cells slots Q (F0 m (pc + 1) ls (va_rf x :: rest))) : W p l e R s m args below meth c H locs cells slots Q (F0 m pc ls rest) := by
  cases x with
  | none => exact lv_aload_nN hx hb hdg hi hl k
  | some y => exact lv_aload_n hx hb hdg hi hl k
theorem g_astoreQ (hx : p.tables.exec = Jvm.exec) (hb : c.code = cc) {i nL : Nat} {x : Option Nat} {lv lv' : List (Nat × Value)} (hdg : decode cc pc = .ok (.astore i, 2)) (h : lv_has ls nL lv) (hn : i < nL) (hl : (i, va_rf x) :: lv.filter (fun q => !(q.1 == i) && !(q.1 + 1 == i && q.2.category == 2)) = lv') (k : ∀ ls1 : Array Slot, lv_has ls1 nL lv' → W p l e R s m args below meth c H locs cells slots Q (F0 m (pc + 2) ls1 rest)) : W p l e R s m args below meth c H locs cells slots Q (F0 m pc ls (va_rf x :: rest)) := by
  cases x with
  | none => exact lv_astoreN hx hb hdg h hn hl k
  | some y => exact lv_astore hx hb hdg h hn hl k
theorem g_astoreQ_n (hx : p.tables.exec = Jvm.exec) (hb : c.code = cc) {k9 : Fin 4} {i nL : Nat} {x : Option Nat} {lv lv' : List (Nat × Value)} (hdg : decode cc pc = .ok (.astore_n k9, 1)) (hi : (k9 : Nat) = i) (h : lv_has ls nL lv) (hn : i < nL) (hl : (i, va_rf x) :: lv.filter (fun q => !(q.1 == i) && !(q.1 + 1 == i && q.2.category == 2)) = lv') (k : ∀ ls1 : Array Slot, lv_has ls1 nL lv' → W p l e R s m args below meth c H locs cells slots Q (F0 m (pc + 1) ls1 rest)) : W p l e R s m args below meth c H locs cells slots Q (F0 m pc ls (va_rf x :: rest)) := by
  cases x with
  | none => exact lv_astore_nN hx hb hdg hi h hn hl k
  | some y => exact lv_astore_n hx hb hdg hi h hn hl k
theorem g_ifnullQ (hx : p.tables.exec = Jvm.exec) (hb : c.code = cc) {x : Option Nat} {off : Int} {tgt : Nat} {A : gM β} {B : Nat → gM β} (hf : (gOpt x A B).1 h = some q) (hdg : decode cc pc = .ok (.ifnull off, 3)) (ht : (pc : Int) + off = (tgt : Int)) (k1 : A.1 h = some q → W p l e R s m args below meth c H locs cells slots Q (F0 m tgt ls rest)) (k2 : ∀ y, x = some y → (B y).1 h = some q → W p l e R s m args below meth c H locs cells slots Q (F0 m (pc + 3) ls rest)) : W p l e R s m args below meth c H locs cells slots Q (F0 m pc ls (va_rf x :: rest)) := by
  cases x with
  | none => exact lv_ifnullN hx hb hdg ht (k1 hf)
  | some y => exact lv_ifnull hx hb hdg (k2 y rfl hf)
theorem g_ifnonnullQ (hx : p.tables.exec = Jvm.exec) (hb : c.code = cc) {x : Option Nat} {off : Int} {tgt : Nat} {A : gM β} {B : Nat → gM β} (hf : (gOpt x A B).1 h = some q) (hdg : decode cc pc = .ok (.ifnonnull off, 3)) (ht : (pc : Int) + off = (tgt : Int)) (k1 : A.1 h = some q → W p l e R s m args below meth c H locs cells slots Q (F0 m (pc + 3) ls rest)) (k2 : ∀ y, x = some y → (B y).1 h = some q → W p l e R s m args below meth c H locs cells slots Q (F0 m tgt ls rest)) : W p l e R s m args below meth c H locs cells slots Q (F0 m pc ls (va_rf x :: rest)) := by
  cases x with
  | none => exact lv_ifnonnullN hx hb hdg (k1 hf)
  | some y => exact lv_ifnonnull hx hb hdg ht (k2 y rfl hf)
/-- a switch, at a number -/
theorem g_tsIn (hx : p.tables.exec = Jvm.exec) (hb : c.code = cc) {dflt lo hi : Int} {offs : Array Int} {len : Nat} {x k : Int32} {off : Int} {tgt : Nat} (hxk : x = k) (hdg : decode cc pc = .ok (.tableswitch dflt lo hi offs, len)) (h1 : ¬ k.toInt < lo) (h2 : ¬ hi < k.toInt) (ho : offs[(k.toInt - lo).toNat]? = some off) (ht : (pc : Int) + off = (tgt : Int)) (kk : W p l e R s m args below meth c H locs cells slots Q (F0 m tgt ls rest)) : W p l e R s m args below meth c H locs cells slots Q (F0 m pc ls (.int x :: rest)) := by
  subst hxk
  exact lv_tableIn hx hb hdg h1 h2 ho ht kk
set_option maxHeartbeats 4000000 in
/-- new E(), made and kept: the exceptions of the JDK (follows vx_make0 of the kit) -/
theorem g_make {names : List String} {ik ic ci : Nat} {K : Nat → gM β} (X : gX G l own cc nL ret hh nm p s m args meth c) (hI : gI G h0 h H locs cells slots) (hf : (gB (gNew ci 6) K).1 h = some q) (hRc : g_nx q.2 - g_nx h0 ≤ R.cells ∧ g_us q.2 - g_us h0 ≤ R.slots) {cls : String} {r : vw_C} (hr : g_cl[ci]? = some r) (hrc : r.1 = cls) (hr0 : r.2.2 = 0) (ho : g_old (.inr ci) = false) (hcls : Bundle.fit cls = true) (hnames : ∀ n ∈ names, Bundle.fit n = true)
    (hk : Cond.classLink own ik cls ∈ lw_all) (hini : Cond.initialized cls ∈ lw_all) (hat : ∀ w ∈ vx_at0 own ic cls names, w.before args s = true)
    (hgood : ∀ w ∈ Cond.classLink own ik cls :: Cond.initialized cls :: vx_at0 own ic cls names, vx_ot w = true) (hsize : ls.size = nL)
    (d0 : decode cc pc = .ok (.new ik, 3)) (d3 : decode cc (pc + 3) = .ok (.dup, 1)) (d4 : decode cc (pc + 4) = .ok (.invokespecial ic, 3))
    (hRframes : names.length + 3 < R.frames) (hRlocals : 8 + (13 * (names.length + 1) + 42) ≤ R.locals) (hW : (rest.map fun v => v.category).sum ≤ 8)
    (kk : ∀ (v : Nat) (h1 : g_H) (H1 : Heap) (cells1 slots1 : Nat), (K v).1 h1 = some q → gI G h0 h1 H1 locs cells1 slots1 → W p l e R s m args below meth c H1 locs cells1 slots1 Q (F0 m (pc + 7) ls (.ref v :: rest))) :
    W p l e R s m args below meth c H locs cells slots Q (F0 m pc ls rest) := by
  obtain ⟨hf1, hle⟩ := gB_al hf
  have hfit := g_fit (R := R) (h1 := g_add h (.inr ci) 6) hI ⟨Nat.le_succ _, Nat.le_add_right _ _⟩ hle hRc
  have hfit : cells + (g_nx h + 1 - g_nx h) ≤ R.cells ∧ slots + (g_us h + 6 - g_us h) ≤ R.slots := hfit
  have hRcells : cells + 1 ≤ R.cells := by omega
  have hRslots : slots + 6 ≤ R.slots := by omega
  have hexec := X.1
  have hb := X.2.1
  have hown := X.2.2.2.1
  have hts := X.2.2.2.2.1
  have hfz : ∀ q : Nat, q < G.2.2.1.size → ¬ g_A G q → H[q]? = G.2.2.1[q]? := fun q hq _ => hI.1.2.2.2.1 q hq
  have hU := X.2.2.2.2.2.1.2.2.2.2.2.2.2.2.1
  have hN := X.2.2.2.2.2.1.2.2.2.2.2.2.2.2.2.1
  intro T hT X0
  subst hT
  have htr : e.platform.stackTraces = false := (show e.platform.stackTraces = l.stackTraces by rw [X0.admits.platform]).trans X.2.2.2.2.2.2.2.2.2.2.1
  have Y := vx_rebase X0 (R' := { frames := R.frames, locals := R.locals, cells := 1, slots := 6 }) (Nat.le_refl _) (Nat.le_refl _) hRcells hRslots
  obtain ⟨s', hA'⟩ : ∃ z, z = (T.setVm s.vm).setFrames (.invoking m args :: below) := ⟨_, rfl⟩
  rw [← hA'] at Y
  have hvm : s'.vm = s.vm := by rw [hA']; rfl
  have hhp : s'.heap = T.heap := by rw [hA']; rfl
  have hW0 : s.WarmedH s'.vm := by rw [hvm]; exact State.WarmedH.refl s
  have hat' : ∀ w ∈ vx_at0 own ic cls names, w.before args s' = true := fun w hw => vx_ot_at hW0 hvm.symm (hgood w (List.mem_cons_of_mem _ (List.mem_cons_of_mem _ hw))) (hat w hw)
  have hk' : (Cond.classLink own ik cls).before args s' = true := vx_ot_at hW0 hvm.symm (hgood _ List.mem_cons_self) (hts _ hk)
  have hini' : (Cond.initialized cls).before args s' = true := vx_ot_at hW0 hvm.symm (hgood _ (List.mem_cons_of_mem _ List.mem_cons_self)) (hts _ hini)
  have zq : ∀ {C n d : String} {v : Value}, va_Z C n d v (g_A G) s G.2.2.1 → v.isRef = true → (Cond.isRef (.static C n d)).before args s' = true := by
    intro C n d v hz hv
    have h2 : va_Z C n d v (g_A G) s' s'.heap := by rw [hhp]; exact va_Z.moved hW0.alike (hz.kept hfz)
    exact vx_isRef h2 hv
  have lq : ∀ {C n d : String}, vx_L C n d (g_A G) s G.2.2.1 → (Cond.laysStatic C n d).before args s' = true := by
    intro C n d hz
    have h2 : vx_L C n d (g_A G) s' s'.heap := by rw [hhp]; exact vx_L.moved hW0.alike (hz.kept hfz)
    exact h2.word
  have hrf : ∀ r : Option Nat, (va_rf r).isRef = true := fun r => by cases r <;> rfl
  have h9 : ∀ w ∈ Bundle.ownAtoms0 own ic cls names, w.before args s' = true := vx_own hat' (zq hU.1 (hrf _)) (zq hN.1 (hrf _)) (lq hU.2) (lq hN.2)
  have hown' : s'.vm.findClass own = some m.cls := by rw [hvm]; exact hown
  have hins : (Cond.instantiable cls 6).before args s' = true := h9 _ (by simp [Bundle.ownAtoms0])
  obtain ⟨vm₁, cX, kX, hfX, hkX, -, -, X₁, st1⟩ := Y.newCold hexec (own := own) (C := cls) (index := ik) (n := 6) hown' hk' hins hini'
    (g := F0 m pc ls rest) rfl (by rw [hb]; exact d0) (Nat.le_refl _) (Nat.le_refl _)
  generalize hT1 : (T.setVm vm₁).pushCell { cls := cX, slots := kX.instanceTypes.map defaultValue, vm := .none } = T1 at X₁ st1
  have hcat : (Value.ref T.heap.size).category = 1 := rfl
  have hcellA : T1.heap[T.heap.size]? = some (freshCell cX kX) := by rw [← hT1]; exact State.heap_pushCell_size _ _
  have d3' : decode c.code (pc + 3) = .ok (.dup, 1) := by rw [hb]; exact d3
  obtain ⟨V, ce, L, Z, hL, hlt, hcl9, hvm9, st⟩ := vx_ctorMade0 X₁ hexec htr (own := own) (cls := cls) (names := names) (ic := ic) hown' hcls hnames h9 (fun x hx => nomatch hx) hfX hkX hcellA (by rw [hhp]; exact Nat.le_refl _)
    (g := { method := m, pc := pc + 4, locals := ls, stack := .ref T.heap.size :: .ref T.heap.size :: rest, locked := none }) rfl (by rw [hsize, X.2.2.1]) (rest := rest) rfl
    (by rw [hb]; exact d4) hRframes (by simp only [List.map_cons, List.sum_cons, hcat]; omega)
  have Z0 := Stand.forget (locs := []) Z (fun y hy => by rw [hL y hy, hhp]; exact Nat.le_refl _)
  obtain ⟨f1, f2⟩ := vx_frame Z0.same
  rw [hhp] at f1 f2
  have hz2 := Z0.heapSize
  rw [hhp] at hz2
  have hh : (V.setCell T.heap.size ce).heap[T.heap.size]? = some ce := heapAt_setCell_self (s := V) ce hlt
  have hlt2 : T.heap.size < (V.setCell T.heap.size ce).heap.size := (Array.getElem?_eq_some_iff.mp hh).1
  have hcid : ce.cls = G.1.1 ci := by
    rw [hcl9]
    have h1 := (X.2.2.2.2.2.1.1.1 ci _ hr).2.1
    rw [hvm] at hfX
    rw [hrc] at h1
    exact Option.some.inj (hfX.symm.trans h1)
  subst hA'
  have X5 := vx_back9 X0 Y Z0
  have X6 : Stand p l e R s m args below meth c (V.setCell T.heap.size ce) locs (cells + 1) (slots + 6) := { X5 with same := X5.same.mono (by omega) (by omega) }
  have hn0 : T.heap.size = g_nx h := hI.1.1.symm
  have hgi : gI G h0 (g_add h (.inr ci) 6) (V.setCell T.heap.size ce).heap locs (cells + 1) (slots + 6) := by
    refine g_addI hI ho ⟨r, hr, ce, by rw [← hn0]; exact hh, hcid, hvm9, fun k hk => ?_⟩ (by omega) (fun x hx => f2 x hx (fun z hz => nomatch hz))
    rw [hr0] at hk
    exact absurd hk (Nat.not_lt_zero k)
  have kk9 := kk (g_nx h) _ _ _ _ hf1 hgi
  rw [← hn0] at kk9
  obtain ⟨t, a1, b1⟩ := kk9 _ rfl X6
  refine ⟨t, st1 _ ?_, b1⟩
  show Steps p.tables e below (T1.setTop { method := m, pc := pc + 3, locals := ls, stack := .ref T.heap.size :: rest, locked := none }) _
  jvm_step X₁.here [X₁.here.top, hexec, d3', Value.category]
  exact st _ a1
end GU
