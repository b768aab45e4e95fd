noncomputable section
/-! X8_readAtom -/
abbrev w_X8_readAtom_159 (G : gG) (l : Launch) (p : Program) (e : Env) (s : State) (m : MethodId) (args : Array Value) (below : List Frame) (meth : Method) (c : Code) (h0 : g_H) (r : Int32) (h' : g_H) (Fd Ld : Nat) (k : gM Int32) : Prop := ∀ (h : g_H) (H : Heap) (locs : List Loc) (cells slots : Nat) (ls : Array Slot), (k).1 h = some (r, h') → gI G h0 h H locs cells slots → lv_has ls 2 [] → W p l e (g_rm (Fd + 10) (Ld + 199) h0 h') s m args below meth c H locs cells slots (gQ G below args s h0 h' (.inl (g_wI r))) (F0 m 159 ls [])
abbrev w_X8_readAtom_173 (G : gG) (l : Launch) (p : Program) (e : Env) (s : State) (m : MethodId) (args : Array Value) (below : List Frame) (meth : Method) (c : Code) (h0 : g_H) (r : Int32) (h' : g_H) (Fd Ld : Nat) (k : Nat → Int32 → gM Int32) : Prop := ∀ (b0 : Nat) (u1 : Int32) (h : g_H) (H : Heap) (locs : List Loc) (cells slots : Nat) (ls : Array Slot), (k b0 u1).1 h = some (r, h') → gI G h0 h H locs cells slots → lv_has ls 2 [] → W p l e (g_rm (Fd + 10) (Ld + 199) h0 h') s m args below meth c H locs cells slots (gQ G below args s h0 h' (.inl (g_wI r))) (F0 m 173 ls [.int u1, .ref b0])
abbrev w_X8_readAtom_152 (G : gG) (l : Launch) (p : Program) (e : Env) (s : State) (m : MethodId) (args : Array Value) (below : List Frame) (meth : Method) (c : Code) (h0 : g_H) (r : Int32) (h' : g_H) (Fd Ld : Nat) (k : Nat → Int32 → gM Int32) : Prop := ∀ (a0 : Nat) (x1 : Int32) (h : g_H) (H : Heap) (locs : List Loc) (cells slots : Nat) (ls : Array Slot), (k a0 x1).1 h = some (r, h') → gI G h0 h H locs cells slots → lv_has ls 2 [(0, .ref a0), (1, .int x1)] → W p l e (g_rm (Fd + 10) (Ld + 199) h0 h') s m args below meth c H locs cells slots (gQ G below args s h0 h' (.inl (g_wI r))) (F0 m 152 ls [])
def f_X8_readAtom_159 (rX8_readCond : Nat → gM Int32) (rX8_readAllOf : Nat → gM Int32) (rX8_readAtom : Nat → gM Int32) : gM Int32 :=
    (gRet (0 : Int32))
set_option maxHeartbeats 4000000 in
set_option maxRecDepth 100000 in
theorem b_X8_readAtom_159 {G : gG} {l : Launch} {p : Program} {e : Env} {s : State} {m : MethodId} {args : Array Value} {below : List Frame} {meth : Method} {c : Code} {h0 : g_H} {r : Int32} {h' : g_H} {Fd Ld : Nat} (X : gX G l yX8_readAtom.cls cX8_readAtom 2 (some .boolean) [] yX8_readAtom.name p s m args meth c) {rX8_readCond : Nat → gM Int32} {rX8_readAllOf : Nat → gM Int32} {rX8_readAtom : Nat → gM Int32} (KX8_readCond : ∀ {a0 : Nat} {h h' : g_H} {r : Int32}, (rX8_readCond a0).1 h = some (r, h') → gMet G l yX8_readCond (Cond.code yX8_readCond cX8_readCond 1 (some .boolean)) Fd Ld [.ref a0] h (.inl (g_wI r)) h') (KX8_readAllOf : ∀ {a0 : Nat} {h h' : g_H} {r : Int32}, (rX8_readAllOf a0).1 h = some (r, h') → gMet G l yX8_readAllOf (Cond.code yX8_readAllOf cX8_readAllOf 1 (some .boolean)) Fd Ld [.ref a0] h (.inl (g_wI r)) h') (KX8_readAtom : ∀ {a0 : Nat} {h h' : g_H} {r : Int32}, (rX8_readAtom a0).1 h = some (r, h') → gMet G l yX8_readAtom (Cond.code yX8_readAtom cX8_readAtom 2 (some .boolean)) Fd Ld [.ref a0] h (.inl (g_wI r)) h') : w_X8_readAtom_159 G l p e s m args below meth c h0 r h' Fd Ld (f_X8_readAtom_159 rX8_readCond rX8_readAllOf rX8_readAtom) := by
  have hx := X.1
  have hb := X.2.1
  have hown := X.2.2.2.1
  have hts := X.2.2.2.2.1
  intro h H locs cells slots ls hf hI hl
  unfold f_X8_readAtom_159 at hf
  refine lv_iconst (v := (0 : Int32)) hx hb dX8_readAtom_159 (by decide) ?_
  cases gRet_e hf
  exact g_retZ X hI (Or.inl rfl) rfl dX8_readAtom_160
def f_X8_readAtom_173 (rX8_readCond : Nat → gM Int32) (rX8_readAllOf : Nat → gM Int32) (rX8_readAtom : Nat → gM Int32) (b0 : Nat) (u1 : Int32) : gM Int32 :=
    gB (gCk b0 7) fun _ =>
    gB (f_X8_emits b0 u1 (0 : Int32)) fun _ =>
    (gRet (1 : Int32))
set_option maxHeartbeats 4000000 in
set_option maxRecDepth 100000 in
theorem b_X8_readAtom_173 {G : gG} {l : Launch} {p : Program} {e : Env} {s : State} {m : MethodId} {args : Array Value} {below : List Frame} {meth : Method} {c : Code} {h0 : g_H} {r : Int32} {h' : g_H} {Fd Ld : Nat} (X : gX G l yX8_readAtom.cls cX8_readAtom 2 (some .boolean) [] yX8_readAtom.name p s m args meth c) {rX8_readCond : Nat → gM Int32} {rX8_readAllOf : Nat → gM Int32} {rX8_readAtom : Nat → gM Int32} (KX8_readCond : ∀ {a0 : Nat} {h h' : g_H} {r : Int32}, (rX8_readCond a0).1 h = some (r, h') → gMet G l yX8_readCond (Cond.code yX8_readCond cX8_readCond 1 (some .boolean)) Fd Ld [.ref a0] h (.inl (g_wI r)) h') (KX8_readAllOf : ∀ {a0 : Nat} {h h' : g_H} {r : Int32}, (rX8_readAllOf a0).1 h = some (r, h') → gMet G l yX8_readAllOf (Cond.code yX8_readAllOf cX8_readAllOf 1 (some .boolean)) Fd Ld [.ref a0] h (.inl (g_wI r)) h') (KX8_readAtom : ∀ {a0 : Nat} {h h' : g_H} {r : Int32}, (rX8_readAtom a0).1 h = some (r, h') → gMet G l yX8_readAtom (Cond.code yX8_readAtom cX8_readAtom 2 (some .boolean)) Fd Ld [.ref a0] h (.inl (g_wI r)) h') : w_X8_readAtom_173 G l p e s m args below meth c h0 r h' Fd Ld (f_X8_readAtom_173 rX8_readCond rX8_readAllOf rX8_readAtom) := by
  have hx := X.1
  have hb := X.2.1
  have hown := X.2.2.2.1
  have hts := X.2.2.2.2.1
  intro b0 u1 h H locs cells slots ls hf hI hl
  unfold f_X8_readAtom_173 at hf
  refine lv_iconst (v := (0 : Int32)) hx hb dX8_readAtom_173 (by decide) ?_
  obtain ⟨hs, hf⟩ := gCk_b hf
  refine g_cBU hI hf (fun v9 h9 e9 l9 l9' => g_rV X hI l9 l9' ⟨Nat.le_refl _, Nat.le_refl _⟩ (As := [.int u1, .int (0 : Int32)]) (m_X8_emits X.2.2.2.2.2.2.2.2.2.2.1 e9) ydX8_emits hs rfl rfl q1715 q1717 qs68 q131 q1718 rfl (show 1 + 1 ≤ Fd + 10 from by omega) (show 8 + (3 + 11) + 20 ≤ Ld + 199 from by omega) hl.1 rfl (Nat.le_of_ble_eq_true rfl) dX8_readAtom_174) (fun r101 h H locs cells slots hf hI => ?_)
  refine lv_iconst (v := (1 : Int32)) hx hb dX8_readAtom_177 (by decide) ?_
  cases gRet_e hf
  exact g_retZ X hI (Or.inr rfl) rfl dX8_readAtom_178
def f_X8_readAtom_152 (rX8_readCond : Nat → gM Int32) (rX8_readAllOf : Nat → gM Int32) (rX8_readAtom : Nat → gM Int32) (a0 : Nat) (x1 : Int32) : gM Int32 :=
    gB (gCk a0 7) fun _ =>
    gB (f_X8_readSum a0) fun r101 =>
    gIf (r101 = 0)
    (f_X8_readAtom_159 rX8_readCond rX8_readAllOf rX8_readAtom)
    (gIf (x1 = 0)
    (f_X8_readAtom_173 rX8_readCond rX8_readAllOf rX8_readAtom a0 (11 : Int32))
    (f_X8_readAtom_173 rX8_readCond rX8_readAllOf rX8_readAtom a0 (10 : Int32)))
set_option maxHeartbeats 4000000 in
set_option maxRecDepth 100000 in
theorem b_X8_readAtom_152 {G : gG} {l : Launch} {p : Program} {e : Env} {s : State} {m : MethodId} {args : Array Value} {below : List Frame} {meth : Method} {c : Code} {h0 : g_H} {r : Int32} {h' : g_H} {Fd Ld : Nat} (X : gX G l yX8_readAtom.cls cX8_readAtom 2 (some .boolean) [] yX8_readAtom.name p s m args meth c) {rX8_readCond : Nat → gM Int32} {rX8_readAllOf : Nat → gM Int32} {rX8_readAtom : Nat → gM Int32} (KX8_readCond : ∀ {a0 : Nat} {h h' : g_H} {r : Int32}, (rX8_readCond a0).1 h = some (r, h') → gMet G l yX8_readCond (Cond.code yX8_readCond cX8_readCond 1 (some .boolean)) Fd Ld [.ref a0] h (.inl (g_wI r)) h') (KX8_readAllOf : ∀ {a0 : Nat} {h h' : g_H} {r : Int32}, (rX8_readAllOf a0).1 h = some (r, h') → gMet G l yX8_readAllOf (Cond.code yX8_readAllOf cX8_readAllOf 1 (some .boolean)) Fd Ld [.ref a0] h (.inl (g_wI r)) h') (KX8_readAtom : ∀ {a0 : Nat} {h h' : g_H} {r : Int32}, (rX8_readAtom a0).1 h = some (r, h') → gMet G l yX8_readAtom (Cond.code yX8_readAtom cX8_readAtom 2 (some .boolean)) Fd Ld [.ref a0] h (.inl (g_wI r)) h') : w_X8_readAtom_152 G l p e s m args below meth c h0 r h' Fd Ld (f_X8_readAtom_152 rX8_readCond rX8_readAllOf rX8_readAtom) := by
  have hx := X.1
  have hb := X.2.1
  have hown := X.2.2.2.1
  have hts := X.2.2.2.2.1
  intro a0 x1 h H locs cells slots ls hf hI hl
  unfold f_X8_readAtom_152 at hf
  refine lv_aload_n hx hb dX8_readAtom_152 rfl (lv_at hl 0 rfl) ?_
  obtain ⟨hs, hf⟩ := gCk_b hf
  refine g_cBI hI hf (fun v9 h9 e9 l9 l9' => g_rV X hI l9 l9' ⟨Nat.le_refl _, Nat.le_refl _⟩ (As := []) (m_X8_readSum X.2.2.2.2.2.2.2.2.2.2.1 e9) ydX8_readSum hs rfl rfl q1724 q1726 qs70 q131 q1727 rfl (show 7 + 1 ≤ Fd + 10 from by omega) (show 8 + (1 + 11) + 149 ≤ Ld + 199 from by omega) hl.1 rfl (Nat.le_of_ble_eq_true rfl) dX8_readAtom_153) (fun r101 h H locs cells slots hf hI => ?_)
  refine lv_if_ne (tgt := 161) hx hb dX8_readAtom_156 (by decide) (fun c156 => ?_) (fun c156 => ?_)
  · have hf := g_f c156 hf
    refine lv_aload_n hx hb dX8_readAtom_161 rfl (lv_at hl 0 rfl) ?_
    refine lv_iload_n hx hb dX8_readAtom_162 rfl (lv_at hl 1 rfl) ?_
    refine lv_if_eq (tgt := 171) hx hb dX8_readAtom_163 (by decide) (fun c163 => ?_) (fun c163 => ?_)
    · have hf := g_t c163 hf
      refine lv_bipush (v := (11 : Int32)) hx hb dX8_readAtom_171 (by decide) ?_
      exact b_X8_readAtom_173 X KX8_readCond KX8_readAllOf KX8_readAtom _ _ _ _ _ _ _ _ hf hI (lv_sub hl [] rfl)
    · have hf := g_f c163 hf
      refine lv_bipush (v := (10 : Int32)) hx hb dX8_readAtom_166 (by decide) ?_
      refine lv_goto (tgt := 173) hx hb dX8_readAtom_168 (by decide) ?_
      exact b_X8_readAtom_173 X KX8_readCond KX8_readAllOf KX8_readAtom _ _ _ _ _ _ _ _ hf hI (lv_sub hl [] rfl)
  · have hf := g_t c156 hf
    exact b_X8_readAtom_159 X KX8_readCond KX8_readAllOf KX8_readAtom _ _ _ _ _ _ hf hI (lv_sub hl [] rfl)
def f_X8_readAtom (rX8_readCond : Nat → gM Int32) (rX8_readAllOf : Nat → gM Int32) (rX8_readAtom : Nat → gM Int32) (a0 : Nat) : gM Int32 :=
    gB (gCk a0 7) fun _ =>
    gB (f_X8_sign a0 (40 : Int32)) fun r1 =>
    gIf (r1 = 0)
    (gB (gTx 36) fun t2 =>
    gB (gCk a0 7) fun _ =>
    gB (f_X8_passes a0 t2) fun r3 =>
    gIf (r3 = 0)
    (gB (gCk a0 7) fun _ =>
    gB (f_X8_readTag a0) fun r4 =>
    gIf (r4 = 0)
    (gB (gCk a0 7) fun _ =>
    gB (f_X8_readSum a0) fun r5 =>
    gIf (r5 = 0)
    ((gRet (0 : Int32)))
    (gB (gCk a0 7) fun _ =>
    gB (f_X8_sign a0 (60 : Int32)) fun r6 =>
    gIf (r6 = 0)
    (gB (gCk a0 7) fun _ =>
    gB (f_X8_sign a0 (62 : Int32)) fun r7 =>
    gIf (r7 = 0)
    (f_X8_readAtom_159 rX8_readCond rX8_readAllOf rX8_readAtom)
    (f_X8_readAtom_152 rX8_readCond rX8_readAllOf rX8_readAtom a0 r6))
    (f_X8_readAtom_152 rX8_readCond rX8_readAllOf rX8_readAtom a0 r6)))
    ((gRet (1 : Int32))))
    (gB (gFI a0 7 13) fun v8 =>
    gIf (v8 = (6 : Int32))
    ((gRet (0 : Int32)))
    (gB (gFI a0 7 13) fun v9 =>
    gB (gPI a0 7 13 (v9 + (1 : Int32))) fun _ =>
    gB (gCk a0 7) fun _ =>
    gB (rX8_readAtom a0) fun r10 =>
    gIf (r10 = 0)
    ((gRet (0 : Int32)))
    (gB (gFI a0 7 13) fun v11 =>
    gB (gPI a0 7 13 (v11 - (1 : Int32))) fun _ =>
    gB (gCk a0 7) fun _ =>
    gB (f_X8_emits a0 (12 : Int32) (0 : Int32)) fun _ =>
    (gRet (1 : Int32))))))
    (gB (gFI a0 7 13) fun v13 =>
    gIf (v13 = (6 : Int32))
    ((gRet (0 : Int32)))
    (gB (gFI a0 7 13) fun v14 =>
    gB (gPI a0 7 13 (v14 + (1 : Int32))) fun _ =>
    gB (gCk a0 7) fun _ =>
    gB (rX8_readCond a0) fun r15 =>
    gIf (r15 = 0)
    ((gRet (0 : Int32)))
    (gB (gFI a0 7 13) fun v16 =>
    gB (gPI a0 7 13 (v16 - (1 : Int32))) fun _ =>
    gB (gCk a0 7) fun _ =>
    gB (f_X8_sign a0 (41 : Int32)) fun r17 =>
    gB (gGd (r17 = 0 ∨ r17 = 1)) fun _ =>
    (gRet r17))))
set_option maxHeartbeats 4000000 in
set_option maxRecDepth 100000 in
theorem m_X8_readAtom {G : gG} {l : Launch} (hfl : l.stackTraces = false) {Fd Ld : Nat} {rX8_readCond : Nat → gM Int32} {rX8_readAllOf : Nat → gM Int32} {rX8_readAtom : Nat → gM Int32} (KX8_readCond : ∀ {a0 : Nat} {h h' : g_H} {r : Int32}, (rX8_readCond a0).1 h = some (r, h') → gMet G l yX8_readCond (Cond.code yX8_readCond cX8_readCond 1 (some .boolean)) Fd Ld [.ref a0] h (.inl (g_wI r)) h') (KX8_readAllOf : ∀ {a0 : Nat} {h h' : g_H} {r : Int32}, (rX8_readAllOf a0).1 h = some (r, h') → gMet G l yX8_readAllOf (Cond.code yX8_readAllOf cX8_readAllOf 1 (some .boolean)) Fd Ld [.ref a0] h (.inl (g_wI r)) h') (KX8_readAtom : ∀ {a0 : Nat} {h h' : g_H} {r : Int32}, (rX8_readAtom a0).1 h = some (r, h') → gMet G l yX8_readAtom (Cond.code yX8_readAtom cX8_readAtom 2 (some .boolean)) Fd Ld [.ref a0] h (.inl (g_wI r)) h') {a0 : Nat} {h h' : g_H} {r : Int32} (hf : (f_X8_readAtom rX8_readCond rX8_readAllOf rX8_readAtom a0).1 h = some (r, h')) : gMet G l yX8_readAtom (Cond.code yX8_readAtom cX8_readAtom 2 (some .boolean)) (Fd + 10) (Ld + 199) [.ref a0] h (.inl (g_wI r)) h' := by
  refine g_head hfl ((f_X8_readAtom rX8_readCond rX8_readAllOf rX8_readAtom a0).2 h r h' hf) (plainFor_of_name (by decide)) (Nat.le_of_ble_eq_true rfl) (fun p e s m below meth c H locs cells slots ls X hI hl9 => ?_)
  have hl : lv_has ls 2 [(0, .ref a0)] := hl9
  have hx := X.1
  have hb := X.2.1
  have hown := X.2.2.2.1
  have hts := X.2.2.2.2.1
  unfold f_X8_readAtom at hf
  refine lv_aload_n hx hb dX8_readAtom_0 rfl (lv_at hl 0 rfl) ?_
  refine lv_bipush (v := (40 : Int32)) hx hb dX8_readAtom_1 (by decide) ?_
  obtain ⟨hs, hf⟩ := gCk_b hf
  refine g_cBI hI hf (fun v9 h9 e9 l9 l9' => g_rV X hI l9 l9' ⟨Nat.le_refl _, Nat.le_refl _⟩ (As := [.int (40 : Int32)]) (m_X8_sign X.2.2.2.2.2.2.2.2.2.2.1 e9) ydX8_sign hs rfl rfl q1710 q1712 qs67 q131 q1713 rfl (show 3 + 1 ≤ Fd + 10 from by omega) (show 8 + (2 + 11) + 62 ≤ Ld + 199 from by omega) hl.1 rfl (Nat.le_of_ble_eq_true rfl) dX8_readAtom_3) (fun r1 h H locs cells slots hf hI => ?_)
  refine lv_if_eq (tgt := 56) hx hb dX8_readAtom_6 (by decide) (fun c6 => ?_) (fun c6 => ?_)
  · have hf := g_t c6 hf
    refine lv_aload_n hx hb dX8_readAtom_56 rfl (lv_at hl 0 rfl) ?_
    refine g_ldcS (tx := "not") X hI hf (List.mem_of_getElem? (i := 36) rfl) dX8_readAtom_57 (fun t2 hf => ?_)
    obtain ⟨hs, hf⟩ := gCk_b hf
    refine g_cBI hI hf (fun v9 h9 e9 l9 l9' => g_rV X hI l9 l9' ⟨Nat.le_refl _, Nat.le_refl _⟩ (As := [.ref t2]) (m_X8_passes X.2.2.2.2.2.2.2.2.2.2.1 e9) ydX8_passes hs rfl rfl q1651 q1653 qs57 q131 q1654 rfl (show 6 + 1 ≤ Fd + 10 from by omega) (show 8 + (2 + 11) + 128 ≤ Ld + 199 from by omega) hl.1 rfl (Nat.le_of_ble_eq_true rfl) dX8_readAtom_59) (fun r3 h H locs cells slots hf hI => ?_)
    refine lv_if_eq (tgt := 114) hx hb dX8_readAtom_62 (by decide) (fun c62 => ?_) (fun c62 => ?_)
    · have hf := g_t c62 hf
      refine lv_aload_n hx hb dX8_readAtom_114 rfl (lv_at hl 0 rfl) ?_
      obtain ⟨hs, hf⟩ := gCk_b hf
      refine g_cBI hI hf (fun v9 h9 e9 l9 l9' => g_rV X hI l9 l9' ⟨Nat.le_refl _, Nat.le_refl _⟩ (As := []) (m_X8_readTag X.2.2.2.2.2.2.2.2.2.2.1 e9) ydX8_readTag hs rfl rfl q1719 q1721 qs69 q131 q1722 rfl (show 6 + 1 ≤ Fd + 10 from by omega) (show 8 + (2 + 11) + 128 ≤ Ld + 199 from by omega) hl.1 rfl (Nat.le_of_ble_eq_true rfl) dX8_readAtom_115) (fun r4 h H locs cells slots hf hI => ?_)
      refine lv_if_eq (tgt := 123) hx hb dX8_readAtom_118 (by decide) (fun c118 => ?_) (fun c118 => ?_)
      · have hf := g_t c118 hf
        refine lv_aload_n hx hb dX8_readAtom_123 rfl (lv_at hl 0 rfl) ?_
        obtain ⟨hs, hf⟩ := gCk_b hf
        refine g_cBI hI hf (fun v9 h9 e9 l9 l9' => g_rV X hI l9 l9' ⟨Nat.le_refl _, Nat.le_refl _⟩ (As := []) (m_X8_readSum X.2.2.2.2.2.2.2.2.2.2.1 e9) ydX8_readSum hs rfl rfl q1724 q1726 qs70 q131 q1727 rfl (show 7 + 1 ≤ Fd + 10 from by omega) (show 8 + (1 + 11) + 149 ≤ Ld + 199 from by omega) hl.1 rfl (Nat.le_of_ble_eq_true rfl) dX8_readAtom_124) (fun r5 h H locs cells slots hf hI => ?_)
        refine lv_if_ne (tgt := 132) hx hb dX8_readAtom_127 (by decide) (fun c127 => ?_) (fun c127 => ?_)
        · have hf := g_f c127 hf
          refine lv_aload_n hx hb dX8_readAtom_132 rfl (lv_at hl 0 rfl) ?_
          refine lv_bipush (v := (60 : Int32)) hx hb dX8_readAtom_133 (by decide) ?_
          obtain ⟨hs, hf⟩ := gCk_b hf
          refine g_cBI hI hf (fun v9 h9 e9 l9 l9' => g_rV X hI l9 l9' ⟨Nat.le_refl _, Nat.le_refl _⟩ (As := [.int (60 : Int32)]) (m_X8_sign X.2.2.2.2.2.2.2.2.2.2.1 e9) ydX8_sign hs rfl rfl q1710 q1712 qs67 q131 q1713 rfl (show 3 + 1 ≤ Fd + 10 from by omega) (show 8 + (2 + 11) + 62 ≤ Ld + 199 from by omega) hl.1 rfl (Nat.le_of_ble_eq_true rfl) dX8_readAtom_135) (fun r6 h H locs cells slots hf hI => ?_)
          refine lv_istore_n (lv' := [(1, .int r6), (0, .ref a0)]) hx hb dX8_readAtom_138 rfl hl (by decide) rfl (fun ls hl => ?_)
          refine lv_iload_n hx hb dX8_readAtom_139 rfl (lv_at hl 0 rfl) ?_
          refine lv_if_ne (tgt := 152) hx hb dX8_readAtom_140 (by decide) (fun c140 => ?_) (fun c140 => ?_)
          · have hf := g_f c140 hf
            exact b_X8_readAtom_152 X KX8_readCond KX8_readAllOf KX8_readAtom _ _ _ _ _ _ _ _ hf hI (lv_sub hl [1, 0] rfl)
          · have hf := g_t c140 hf
            refine lv_aload_n hx hb dX8_readAtom_143 rfl (lv_at hl 1 rfl) ?_
            refine lv_bipush (v := (62 : Int32)) hx hb dX8_readAtom_144 (by decide) ?_
            obtain ⟨hs, hf⟩ := gCk_b hf
            refine g_cBI hI hf (fun v9 h9 e9 l9 l9' => g_rV X hI l9 l9' ⟨Nat.le_refl _, Nat.le_refl _⟩ (As := [.int (62 : Int32)]) (m_X8_sign X.2.2.2.2.2.2.2.2.2.2.1 e9) ydX8_sign hs rfl rfl q1710 q1712 qs67 q131 q1713 rfl (show 3 + 1 ≤ Fd + 10 from by omega) (show 8 + (2 + 11) + 62 ≤ Ld + 199 from by omega) hl.1 rfl (Nat.le_of_ble_eq_true rfl) dX8_readAtom_146) (fun r7 h H locs cells slots hf hI => ?_)
            refine lv_if_eq (tgt := 159) hx hb dX8_readAtom_149 (by decide) (fun c149 => ?_) (fun c149 => ?_)
            · have hf := g_t c149 hf
              exact b_X8_readAtom_159 X KX8_readCond KX8_readAllOf KX8_readAtom _ _ _ _ _ _ hf hI (lv_sub hl [] rfl)
            · have hf := g_f c149 hf
              exact b_X8_readAtom_152 X KX8_readCond KX8_readAllOf KX8_readAtom _ _ _ _ _ _ _ _ hf hI (lv_sub hl [1, 0] rfl)
        · have hf := g_t c127 hf
          refine lv_iconst (v := (0 : Int32)) hx hb dX8_readAtom_130 (by decide) ?_
          cases gRet_e hf
          exact g_retZ X hI (Or.inl rfl) rfl dX8_readAtom_131
      · have hf := g_f c118 hf
        refine lv_iconst (v := (1 : Int32)) hx hb dX8_readAtom_121 (by decide) ?_
        cases gRet_e hf
        exact g_retZ X hI (Or.inr rfl) rfl dX8_readAtom_122
    · have hf := g_f c62 hf
      refine lv_aload_n hx hb dX8_readAtom_65 rfl (lv_at hl 0 rfl) ?_
      refine g_fi X hI hf fX8_13 q1457 rfl rfl dX8_readAtom_66 (fun v8 hf => ?_)
      refine lv_bipush (v := (6 : Int32)) hx hb dX8_readAtom_69 (by decide) ?_
      refine lv_icmp_ne (tgt := 76) hx hb dX8_readAtom_71 (by decide) (fun c71 => ?_) (fun c71 => ?_)
      · have hf := g_f c71 hf
        refine lv_aload_n hx hb dX8_readAtom_76 rfl (lv_at hl 0 rfl) ?_
        refine lv_dup hx hb dX8_readAtom_77 rfl ?_
        refine g_fi X hI hf fX8_13 q1457 rfl rfl dX8_readAtom_78 (fun v9 hf => ?_)
        refine lv_iconst (v := (1 : Int32)) hx hb dX8_readAtom_81 (by decide) ?_
        refine lv_iadd hx hb dX8_readAtom_82 ?_
        refine g_pi X hI hf fX8_13 q1457 rfl dX8_readAtom_83 (fun h H locs hf hI => ?_)
        refine lv_aload_n hx hb dX8_readAtom_86 rfl (lv_at hl 0 rfl) ?_
        obtain ⟨hs, hf⟩ := gCk_b hf
        refine g_cBI hI hf (fun v9 h9 e9 l9 l9' => g_rV X hI l9 l9' ⟨Nat.le_refl _, Nat.le_refl _⟩ (As := []) (KX8_readAtom e9) ydX8_readAtom hs rfl rfl q1706 q1708 qs66 q131 q1709 rfl (show Fd + 1 ≤ Fd + 10 from by omega) (show 8 + (2 + 11) + Ld ≤ Ld + 199 from by omega) hl.1 rfl (Nat.le_of_ble_eq_true rfl) dX8_readAtom_87) (fun r10 h H locs cells slots hf hI => ?_)
        refine lv_if_ne (tgt := 95) hx hb dX8_readAtom_90 (by decide) (fun c90 => ?_) (fun c90 => ?_)
        · have hf := g_f c90 hf
          refine lv_aload_n hx hb dX8_readAtom_95 rfl (lv_at hl 0 rfl) ?_
          refine lv_dup hx hb dX8_readAtom_96 rfl ?_
          refine g_fi X hI hf fX8_13 q1457 rfl rfl dX8_readAtom_97 (fun v11 hf => ?_)
          refine lv_iconst (v := (1 : Int32)) hx hb dX8_readAtom_100 (by decide) ?_
          refine lv_isub hx hb dX8_readAtom_101 ?_
          refine g_pi X hI hf fX8_13 q1457 rfl dX8_readAtom_102 (fun h H locs hf hI => ?_)
          refine lv_aload_n hx hb dX8_readAtom_105 rfl (lv_at hl 0 rfl) ?_
          refine lv_bipush (v := (12 : Int32)) hx hb dX8_readAtom_106 (by decide) ?_
          refine lv_iconst (v := (0 : Int32)) hx hb dX8_readAtom_108 (by decide) ?_
          obtain ⟨hs, hf⟩ := gCk_b hf
          refine g_cBU hI hf (fun v9 h9 e9 l9 l9' => g_rV X hI l9 l9' ⟨Nat.le_refl _, Nat.le_refl _⟩ (As := [.int (12 : Int32), .int (0 : Int32)]) (m_X8_emits X.2.2.2.2.2.2.2.2.2.2.1 e9) ydX8_emits hs rfl rfl q1715 q1717 qs68 q131 q1718 rfl (show 1 + 1 ≤ Fd + 10 from by omega) (show 8 + (3 + 11) + 20 ≤ Ld + 199 from by omega) hl.1 rfl (Nat.le_of_ble_eq_true rfl) dX8_readAtom_109) (fun r12 h H locs cells slots hf hI => ?_)
          refine lv_iconst (v := (1 : Int32)) hx hb dX8_readAtom_112 (by decide) ?_
          cases gRet_e hf
          exact g_retZ X hI (Or.inr rfl) rfl dX8_readAtom_113
        · have hf := g_t c90 hf
          refine lv_iconst (v := (0 : Int32)) hx hb dX8_readAtom_93 (by decide) ?_
          cases gRet_e hf
          exact g_retZ X hI (Or.inl rfl) rfl dX8_readAtom_94
      · have hf := g_t c71 hf
        refine lv_iconst (v := (0 : Int32)) hx hb dX8_readAtom_74 (by decide) ?_
        cases gRet_e hf
        exact g_retZ X hI (Or.inl rfl) rfl dX8_readAtom_75
  · have hf := g_f c6 hf
    refine lv_aload_n hx hb dX8_readAtom_9 rfl (lv_at hl 0 rfl) ?_
    refine g_fi X hI hf fX8_13 q1457 rfl rfl dX8_readAtom_10 (fun v13 hf => ?_)
    refine lv_bipush (v := (6 : Int32)) hx hb dX8_readAtom_13 (by decide) ?_
    refine lv_icmp_ne (tgt := 20) hx hb dX8_readAtom_15 (by decide) (fun c15 => ?_) (fun c15 => ?_)
    · have hf := g_f c15 hf
      refine lv_aload_n hx hb dX8_readAtom_20 rfl (lv_at hl 0 rfl) ?_
      refine lv_dup hx hb dX8_readAtom_21 rfl ?_
      refine g_fi X hI hf fX8_13 q1457 rfl rfl dX8_readAtom_22 (fun v14 hf => ?_)
      refine lv_iconst (v := (1 : Int32)) hx hb dX8_readAtom_25 (by decide) ?_
      refine lv_iadd hx hb dX8_readAtom_26 ?_
      refine g_pi X hI hf fX8_13 q1457 rfl dX8_readAtom_27 (fun h H locs hf hI => ?_)
      refine lv_aload_n hx hb dX8_readAtom_30 rfl (lv_at hl 0 rfl) ?_
      obtain ⟨hs, hf⟩ := gCk_b hf
      refine g_cBI hI hf (fun v9 h9 e9 l9 l9' => g_rV X hI l9 l9' ⟨Nat.le_refl _, Nat.le_refl _⟩ (As := []) (KX8_readCond e9) ydX8_readCond hs rfl rfl q1698 q1700 qs64 q131 q1701 rfl (show Fd + 1 ≤ Fd + 10 from by omega) (show 8 + (1 + 11) + Ld ≤ Ld + 199 from by omega) hl.1 rfl (Nat.le_of_ble_eq_true rfl) dX8_readAtom_31) (fun r15 h H locs cells slots hf hI => ?_)
      refine lv_if_ne (tgt := 39) hx hb dX8_readAtom_34 (by decide) (fun c34 => ?_) (fun c34 => ?_)
      · have hf := g_f c34 hf
        refine lv_aload_n hx hb dX8_readAtom_39 rfl (lv_at hl 0 rfl) ?_
        refine lv_dup hx hb dX8_readAtom_40 rfl ?_
        refine g_fi X hI hf fX8_13 q1457 rfl rfl dX8_readAtom_41 (fun v16 hf => ?_)
        refine lv_iconst (v := (1 : Int32)) hx hb dX8_readAtom_44 (by decide) ?_
        refine lv_isub hx hb dX8_readAtom_45 ?_
        refine g_pi X hI hf fX8_13 q1457 rfl dX8_readAtom_46 (fun h H locs hf hI => ?_)
        refine lv_aload_n hx hb dX8_readAtom_49 rfl (lv_at hl 0 rfl) ?_
        refine lv_bipush (v := (41 : Int32)) hx hb dX8_readAtom_50 (by decide) ?_
        obtain ⟨hs, hf⟩ := gCk_b hf
        refine g_cBI hI hf (fun v9 h9 e9 l9 l9' => g_rV X hI l9 l9' ⟨Nat.le_refl _, Nat.le_refl _⟩ (As := [.int (41 : Int32)]) (m_X8_sign X.2.2.2.2.2.2.2.2.2.2.1 e9) ydX8_sign hs rfl rfl q1710 q1712 qs67 q131 q1713 rfl (show 3 + 1 ≤ Fd + 10 from by omega) (show 8 + (2 + 11) + 62 ≤ Ld + 199 from by omega) hl.1 rfl (Nat.le_of_ble_eq_true rfl) dX8_readAtom_52) (fun r17 h H locs cells slots hf hI => ?_)
        obtain ⟨hz, hf⟩ := gB_gd hf
        cases gRet_e hf
        exact g_retZ X hI hz rfl dX8_readAtom_55
      · have hf := g_t c34 hf
        refine lv_iconst (v := (0 : Int32)) hx hb dX8_readAtom_37 (by decide) ?_
        cases gRet_e hf
        exact g_retZ X hI (Or.inl rfl) rfl dX8_readAtom_38
    · have hf := g_t c15 hf
      refine lv_iconst (v := (0 : Int32)) hx hb dX8_readAtom_18 (by decide) ?_
      cases gRet_e hf
      exact g_retZ X hI (Or.inl rfl) rfl dX8_readAtom_19
/-! X8_readAllOf -/
abbrev w_X8_readAllOf_25 (G : gG) (l : Launch) (p : Program) (e : Env) (s : State) (m : MethodId) (args : Array Value) (below : List Frame) (meth : Method) (c : Code) (h0 : g_H) (r : Int32) (h' : g_H) (Fd Ld : Nat) (k : gM Int32) : Prop := ∀ (h : g_H) (H : Heap) (locs : List Loc) (cells slots : Nat) (ls : Array Slot), (k).1 h = some (r, h') → gI G h0 h H locs cells slots → lv_has ls 1 [] → W p l e (g_rm (Fd + 10) (Ld + 199) h0 h') s m args below meth c H locs cells slots (gQ G below args s h0 h' (.inl (g_wI r))) (F0 m 25 ls [])
abbrev w_X8_readAllOf_37 (G : gG) (l : Launch) (p : Program) (e : Env) (s : State) (m : MethodId) (args : Array Value) (below : List Frame) (meth : Method) (c : Code) (h0 : g_H) (r : Int32) (h' : g_H) (Fd Ld : Nat) (k : gM Int32) : Prop := ∀ (h : g_H) (H : Heap) (locs : List Loc) (cells slots : Nat) (ls : Array Slot), (k).1 h = some (r, h') → gI G h0 h H locs cells slots → lv_has ls 1 [] → W p l e (g_rm (Fd + 10) (Ld + 199) h0 h') s m args below meth c H locs cells slots (gQ G below args s h0 h' (.inl (g_wI r))) (F0 m 37 ls [])
abbrev w_X8_readAllOf_9 (G : gG) (l : Launch) (p : Program) (e : Env) (s : State) (m : MethodId) (args : Array Value) (below : List Frame) (meth : Method) (c : Code) (h0 : g_H) (r : Int32) (h' : g_H) (Fd Ld : Nat) (k : Nat → gM Int32) : Prop := ∀ (a0 : Nat) (h : g_H) (H : Heap) (locs : List Loc) (cells slots : Nat) (ls : Array Slot), (k a0).1 h = some (r, h') → gI G h0 h H locs cells slots → lv_has ls 1 [(0, .ref a0)] → W p l e (g_rm (Fd + 10) (Ld + 199) h0 h') s m args below meth c H locs cells slots (gQ G below args s h0 h' (.inl (g_wI r))) (F0 m 9 ls [])
def f_X8_readAllOf_25 (rX8_readCond : Nat → gM Int32) (rX8_readAllOf : Nat → gM Int32) (rX8_readAtom : Nat → gM Int32) : gM Int32 :=
    (gRet (0 : Int32))
set_option maxHeartbeats 4000000 in
set_option maxRecDepth 100000 in
theorem b_X8_readAllOf_25 {G : gG} {l : Launch} {p : Program} {e : Env} {s : State} {m : MethodId} {args : Array Value} {below : List Frame} {meth : Method} {c : Code} {h0 : g_H} {r : Int32} {h' : g_H} {Fd Ld : Nat} (X : gX G l yX8_readAllOf.cls cX8_readAllOf 1 (some .boolean) [] yX8_readAllOf.name p s m args meth c) {rX8_readCond : Nat → gM Int32} {rX8_readAllOf : Nat → gM Int32} {rX8_readAtom : Nat → gM Int32} (KX8_readCond : ∀ {a0 : Nat} {h h' : g_H} {r : Int32}, (rX8_readCond a0).1 h = some (r, h') → gMet G l yX8_readCond (Cond.code yX8_readCond cX8_readCond 1 (some .boolean)) Fd Ld [.ref a0] h (.inl (g_wI r)) h') (KX8_readAllOf : ∀ {a0 : Nat} {h h' : g_H} {r : Int32}, (rX8_readAllOf a0).1 h = some (r, h') → gMet G l yX8_readAllOf (Cond.code yX8_readAllOf cX8_readAllOf 1 (some .boolean)) Fd Ld [.ref a0] h (.inl (g_wI r)) h') (KX8_readAtom : ∀ {a0 : Nat} {h h' : g_H} {r : Int32}, (rX8_readAtom a0).1 h = some (r, h') → gMet G l yX8_readAtom (Cond.code yX8_readAtom cX8_readAtom 2 (some .boolean)) Fd Ld [.ref a0] h (.inl (g_wI r)) h') : w_X8_readAllOf_25 G l p e s m args below meth c h0 r h' Fd Ld (f_X8_readAllOf_25 rX8_readCond rX8_readAllOf rX8_readAtom) := by
  have hx := X.1
  have hb := X.2.1
  have hown := X.2.2.2.1
  have hts := X.2.2.2.2.1
  intro h H locs cells slots ls hf hI hl
  unfold f_X8_readAllOf_25 at hf
  refine lv_iconst (v := (0 : Int32)) hx hb dX8_readAllOf_25 (by decide) ?_
  cases gRet_e hf
  exact g_retZ X hI (Or.inl rfl) rfl dX8_readAllOf_26
def f_X8_readAllOf_37 (rX8_readCond : Nat → gM Int32) (rX8_readAllOf : Nat → gM Int32) (rX8_readAtom : Nat → gM Int32) : gM Int32 :=
    (gRet (1 : Int32))
set_option maxHeartbeats 4000000 in
set_option maxRecDepth 100000 in
theorem b_X8_readAllOf_37 {G : gG} {l : Launch} {p : Program} {e : Env} {s : State} {m : MethodId} {args : Array Value} {below : List Frame} {meth : Method} {c : Code} {h0 : g_H} {r : Int32} {h' : g_H} {Fd Ld : Nat} (X : gX G l yX8_readAllOf.cls cX8_readAllOf 1 (some .boolean) [] yX8_readAllOf.name p s m args meth c) {rX8_readCond : Nat → gM Int32} {rX8_readAllOf : Nat → gM Int32} {rX8_readAtom : Nat → gM Int32} (KX8_readCond : ∀ {a0 : Nat} {h h' : g_H} {r : Int32}, (rX8_readCond a0).1 h = some (r, h') → gMet G l yX8_readCond (Cond.code yX8_readCond cX8_readCond 1 (some .boolean)) Fd Ld [.ref a0] h (.inl (g_wI r)) h') (KX8_readAllOf : ∀ {a0 : Nat} {h h' : g_H} {r : Int32}, (rX8_readAllOf a0).1 h = some (r, h') → gMet G l yX8_readAllOf (Cond.code yX8_readAllOf cX8_readAllOf 1 (some .boolean)) Fd Ld [.ref a0] h (.inl (g_wI r)) h') (KX8_readAtom : ∀ {a0 : Nat} {h h' : g_H} {r : Int32}, (rX8_readAtom a0).1 h = some (r, h') → gMet G l yX8_readAtom (Cond.code yX8_readAtom cX8_readAtom 2 (some .boolean)) Fd Ld [.ref a0] h (.inl (g_wI r)) h') : w_X8_readAllOf_37 G l p e s m args below meth c h0 r h' Fd Ld (f_X8_readAllOf_37 rX8_readCond rX8_readAllOf rX8_readAtom) := by
  have hx := X.1
  have hb := X.2.1
  have hown := X.2.2.2.1
  have hts := X.2.2.2.2.1
  intro h H locs cells slots ls hf hI hl
  unfold f_X8_readAllOf_37 at hf
  refine lv_iconst (v := (1 : Int32)) hx hb dX8_readAllOf_37 (by decide) ?_
  cases gRet_e hf
  exact g_retZ X hI (Or.inr rfl) rfl dX8_readAllOf_38
def f_X8_readAllOf_9 (rX8_readCond : Nat → gM Int32) (rX8_readAllOf : Nat → gM Int32) (rX8_readAtom : Nat → gM Int32) : Nat → Nat → gM Int32
  | 0, _ => gFail
  | n + 1, a0 =>
    gB (gTx 40) fun t101 =>
    gB (gCk a0 7) fun _ =>
    gB (f_X8_passes a0 t101) fun r102 =>
    gIf (r102 = 0)
    (f_X8_readAllOf_37 rX8_readCond rX8_readAllOf rX8_readAtom)
    (gB (gCk a0 7) fun _ =>
    gB (rX8_readAtom a0) fun r103 =>
    gIf (r103 = 0)
    (f_X8_readAllOf_25 rX8_readCond rX8_readAllOf rX8_readAtom)
    (gB (gCk a0 7) fun _ =>
    gB (f_X8_emits a0 (13 : Int32) (0 : Int32)) fun _ =>
    f_X8_readAllOf_9 rX8_readCond rX8_readAllOf rX8_readAtom n a0))
set_option maxHeartbeats 4000000 in
set_option maxRecDepth 100000 in
theorem b_X8_readAllOf_9 {G : gG} {l : Launch} {p : Program} {e : Env} {s : State} {m : MethodId} {args : Array Value} {below : List Frame} {meth : Method} {c : Code} {h0 : g_H} {r : Int32} {h' : g_H} {Fd Ld : Nat} (X : gX G l yX8_readAllOf.cls cX8_readAllOf 1 (some .boolean) [] yX8_readAllOf.name p s m args meth c) {rX8_readCond : Nat → gM Int32} {rX8_readAllOf : Nat → gM Int32} {rX8_readAtom : Nat → gM Int32} (KX8_readCond : ∀ {a0 : Nat} {h h' : g_H} {r : Int32}, (rX8_readCond a0).1 h = some (r, h') → gMet G l yX8_readCond (Cond.code yX8_readCond cX8_readCond 1 (some .boolean)) Fd Ld [.ref a0] h (.inl (g_wI r)) h') (KX8_readAllOf : ∀ {a0 : Nat} {h h' : g_H} {r : Int32}, (rX8_readAllOf a0).1 h = some (r, h') → gMet G l yX8_readAllOf (Cond.code yX8_readAllOf cX8_readAllOf 1 (some .boolean)) Fd Ld [.ref a0] h (.inl (g_wI r)) h') (KX8_readAtom : ∀ {a0 : Nat} {h h' : g_H} {r : Int32}, (rX8_readAtom a0).1 h = some (r, h') → gMet G l yX8_readAtom (Cond.code yX8_readAtom cX8_readAtom 2 (some .boolean)) Fd Ld [.ref a0] h (.inl (g_wI r)) h') : ∀ n : Nat, w_X8_readAllOf_9 G l p e s m args below meth c h0 r h' Fd Ld (f_X8_readAllOf_9 rX8_readCond rX8_readAllOf rX8_readAtom n) := by
  have hx := X.1
  have hb := X.2.1
  have hown := X.2.2.2.1
  have hts := X.2.2.2.2.1
  intro n
  induction n with
  | zero =>
    intro a0 h H locs cells slots ls hf hI hl
    exact (gFail_f hf).elim
  | succ n ih =>
    intro a0 h H locs cells slots ls hf hI hl
    rw [f_X8_readAllOf_9] at hf
    refine lv_aload_n hx hb dX8_readAllOf_9 rfl (lv_at hl 0 rfl) ?_
    refine g_ldcS (tx := "and") X hI hf (List.mem_of_getElem? (i := 40) rfl) dX8_readAllOf_10 (fun t101 hf => ?_)
    obtain ⟨hs, hf⟩ := gCk_b hf
    refine g_cBI hI hf (fun v9 h9 e9 l9 l9' => g_rV X hI l9 l9' ⟨Nat.le_refl _, Nat.le_refl _⟩ (As := [.ref t101]) (m_X8_passes X.2.2.2.2.2.2.2.2.2.2.1 e9) ydX8_passes hs rfl rfl q1651 q1653 qs57 q131 q1654 rfl (show 6 + 1 ≤ Fd + 10 from by omega) (show 8 + (2 + 11) + 128 ≤ Ld + 199 from by omega) hl.1 rfl (Nat.le_of_ble_eq_true rfl) dX8_readAllOf_12) (fun r102 h H locs cells slots hf hI => ?_)
    refine lv_if_eq (tgt := 37) hx hb dX8_readAllOf_15 (by decide) (fun c15 => ?_) (fun c15 => ?_)
    · have hf := g_t c15 hf
      exact b_X8_readAllOf_37 X KX8_readCond KX8_readAllOf KX8_readAtom _ _ _ _ _ _ hf hI (lv_sub hl [] rfl)
    · have hf := g_f c15 hf
      refine lv_aload_n hx hb dX8_readAllOf_18 rfl (lv_at hl 0 rfl) ?_
      obtain ⟨hs, hf⟩ := gCk_b hf
      refine g_cBI hI hf (fun v9 h9 e9 l9 l9' => g_rV X hI l9 l9' ⟨Nat.le_refl _, Nat.le_refl _⟩ (As := []) (KX8_readAtom e9) ydX8_readAtom hs rfl rfl q1706 q1708 qs66 q131 q1709 rfl (show Fd + 1 ≤ Fd + 10 from by omega) (show 8 + (2 + 11) + Ld ≤ Ld + 199 from by omega) hl.1 rfl (Nat.le_of_ble_eq_true rfl) dX8_readAllOf_19) (fun r103 h H locs cells slots hf hI => ?_)
      refine lv_if_ne (tgt := 27) hx hb dX8_readAllOf_22 (by decide) (fun c22 => ?_) (fun c22 => ?_)
      · have hf := g_f c22 hf
        refine lv_aload_n hx hb dX8_readAllOf_27 rfl (lv_at hl 0 rfl) ?_
        refine lv_bipush (v := (13 : Int32)) hx hb dX8_readAllOf_28 (by decide) ?_
        refine lv_iconst (v := (0 : Int32)) hx hb dX8_readAllOf_30 (by decide) ?_
        obtain ⟨hs, hf⟩ := gCk_b hf
        refine g_cBU hI hf (fun v9 h9 e9 l9 l9' => g_rV X hI l9 l9' ⟨Nat.le_refl _, Nat.le_refl _⟩ (As := [.int (13 : Int32), .int (0 : Int32)]) (m_X8_emits X.2.2.2.2.2.2.2.2.2.2.1 e9) ydX8_emits hs rfl rfl q1715 q1717 qs68 q131 q1718 rfl (show 1 + 1 ≤ Fd + 10 from by omega) (show 8 + (3 + 11) + 20 ≤ Ld + 199 from by omega) hl.1 rfl (Nat.le_of_ble_eq_true rfl) dX8_readAllOf_31) (fun r104 h H locs cells slots hf hI => ?_)
        refine lv_goto (tgt := 9) hx hb dX8_readAllOf_34 (by decide) ?_
        exact ih _ _ _ _ _ _ _ hf hI (lv_sub hl [0] rfl)
      · have hf := g_t c22 hf
        exact b_X8_readAllOf_25 X KX8_readCond KX8_readAllOf KX8_readAtom _ _ _ _ _ _ hf hI (lv_sub hl [] rfl)
def f_X8_readAllOf (rX8_readCond : Nat → gM Int32) (rX8_readAllOf : Nat → gM Int32) (rX8_readAtom : Nat → gM Int32) (a0 : Nat) : gM Int32 :=
    gB (gCk a0 7) fun _ =>
    gB (rX8_readAtom a0) fun r1 =>
    gIf (r1 = 0)
    ((gRet (0 : Int32)))
    (f_X8_readAllOf_9 rX8_readCond rX8_readAllOf rX8_readAtom gN a0)
set_option maxHeartbeats 4000000 in
set_option maxRecDepth 100000 in
theorem m_X8_readAllOf {G : gG} {l : Launch} (hfl : l.stackTraces = false) {Fd Ld : Nat} {rX8_readCond : Nat → gM Int32} {rX8_readAllOf : Nat → gM Int32} {rX8_readAtom : Nat → gM Int32} (KX8_readCond : ∀ {a0 : Nat} {h h' : g_H} {r : Int32}, (rX8_readCond a0).1 h = some (r, h') → gMet G l yX8_readCond (Cond.code yX8_readCond cX8_readCond 1 (some .boolean)) Fd Ld [.ref a0] h (.inl (g_wI r)) h') (KX8_readAllOf : ∀ {a0 : Nat} {h h' : g_H} {r : Int32}, (rX8_readAllOf a0).1 h = some (r, h') → gMet G l yX8_readAllOf (Cond.code yX8_readAllOf cX8_readAllOf 1 (some .boolean)) Fd Ld [.ref a0] h (.inl (g_wI r)) h') (KX8_readAtom : ∀ {a0 : Nat} {h h' : g_H} {r : Int32}, (rX8_readAtom a0).1 h = some (r, h') → gMet G l yX8_readAtom (Cond.code yX8_readAtom cX8_readAtom 2 (some .boolean)) Fd Ld [.ref a0] h (.inl (g_wI r)) h') {a0 : Nat} {h h' : g_H} {r : Int32} (hf : (f_X8_readAllOf rX8_readCond rX8_readAllOf rX8_readAtom a0).1 h = some (r, h')) : gMet G l yX8_readAllOf (Cond.code yX8_readAllOf cX8_readAllOf 1 (some .boolean)) (Fd + 10) (Ld + 199) [.ref a0] h (.inl (g_wI r)) h' := by
  refine g_head hfl ((f_X8_readAllOf rX8_readCond rX8_readAllOf rX8_readAtom a0).2 h r h' hf) (plainFor_of_name (by decide)) (Nat.le_of_ble_eq_true rfl) (fun p e s m below meth c H locs cells slots ls X hI hl9 => ?_)
  have hl : lv_has ls 1 [(0, .ref a0)] := hl9
  have hx := X.1
  have hb := X.2.1
  have hown := X.2.2.2.1
  have hts := X.2.2.2.2.1
  unfold f_X8_readAllOf at hf
  refine lv_aload_n hx hb dX8_readAllOf_0 rfl (lv_at hl 0 rfl) ?_
  obtain ⟨hs, hf⟩ := gCk_b hf
  refine g_cBI hI hf (fun v9 h9 e9 l9 l9' => g_rV X hI l9 l9' ⟨Nat.le_refl _, Nat.le_refl _⟩ (As := []) (KX8_readAtom e9) ydX8_readAtom hs rfl rfl q1706 q1708 qs66 q131 q1709 rfl (show Fd + 1 ≤ Fd + 10 from by omega) (show 8 + (2 + 11) + Ld ≤ Ld + 199 from by omega) hl.1 rfl (Nat.le_of_ble_eq_true rfl) dX8_readAllOf_1) (fun r1 h H locs cells slots hf hI => ?_)
  refine lv_if_ne (tgt := 9) hx hb dX8_readAllOf_4 (by decide) (fun c4 => ?_) (fun c4 => ?_)
  · have hf := g_f c4 hf
    exact b_X8_readAllOf_9 X KX8_readCond KX8_readAllOf KX8_readAtom gN _ _ _ _ _ _ _ hf hI (lv_sub hl [0] rfl)
  · have hf := g_t c4 hf
    refine lv_iconst (v := (0 : Int32)) hx hb dX8_readAllOf_7 (by decide) ?_
    cases gRet_e hf
    exact g_retZ X hI (Or.inl rfl) rfl dX8_readAllOf_8
/-! X8_readCond -/
abbrev w_X8_readCond_25 (G : gG) (l : Launch) (p : Program) (e : Env) (s : State) (m : MethodId) (args : Array Value) (below : List Frame) (meth : Method) (c : Code) (h0 : g_H) (r : Int32) (h' : g_H) (Fd Ld : Nat) (k : gM Int32) : Prop := ∀ (h : g_H) (H : Heap) (locs : List Loc) (cells slots : Nat) (ls : Array Slot), (k).1 h = some (r, h') → gI G h0 h H locs cells slots → lv_has ls 1 [] → W p l e (g_rm (Fd + 10) (Ld + 199) h0 h') s m args below meth c H locs cells slots (gQ G below args s h0 h' (.inl (g_wI r))) (F0 m 25 ls [])
abbrev w_X8_readCond_37 (G : gG) (l : Launch) (p : Program) (e : Env) (s : State) (m : MethodId) (args : Array Value) (below : List Frame) (meth : Method) (c : Code) (h0 : g_H) (r : Int32) (h' : g_H) (Fd Ld : Nat) (k : gM Int32) : Prop := ∀ (h : g_H) (H : Heap) (locs : List Loc) (cells slots : Nat) (ls : Array Slot), (k).1 h = some (r, h') → gI G h0 h H locs cells slots → lv_has ls 1 [] → W p l e (g_rm (Fd + 10) (Ld + 199) h0 h') s m args below meth c H locs cells slots (gQ G below args s h0 h' (.inl (g_wI r))) (F0 m 37 ls [])
abbrev w_X8_readCond_9 (G : gG) (l : Launch) (p : Program) (e : Env) (s : State) (m : MethodId) (args : Array Value) (below : List Frame) (meth : Method) (c : Code) (h0 : g_H) (r : Int32) (h' : g_H) (Fd Ld : Nat) (k : Nat → gM Int32) : Prop := ∀ (a0 : Nat) (h : g_H) (H : Heap) (locs : List Loc) (cells slots : Nat) (ls : Array Slot), (k a0).1 h = some (r, h') → gI G h0 h H locs cells slots → lv_has ls 1 [(0, .ref a0)] → W p l e (g_rm (Fd + 10) (Ld + 199) h0 h') s m args below meth c H locs cells slots (gQ G below args s h0 h' (.inl (g_wI r))) (F0 m 9 ls [])
def f_X8_readCond_25 (rX8_readCond : Nat → gM Int32) (rX8_readAllOf : Nat → gM Int32) (rX8_readAtom : Nat → gM Int32) : gM Int32 :=
    (gRet (0 : Int32))
set_option maxHeartbeats 4000000 in
set_option maxRecDepth 100000 in
theorem b_X8_readCond_25 {G : gG} {l : Launch} {p : Program} {e : Env} {s : State} {m : MethodId} {args : Array Value} {below : List Frame} {meth : Method} {c : Code} {h0 : g_H} {r : Int32} {h' : g_H} {Fd Ld : Nat} (X : gX G l yX8_readCond.cls cX8_readCond 1 (some .boolean) [] yX8_readCond.name p s m args meth c) {rX8_readCond : Nat → gM Int32} {rX8_readAllOf : Nat → gM Int32} {rX8_readAtom : Nat → gM Int32} (KX8_readCond : ∀ {a0 : Nat} {h h' : g_H} {r : Int32}, (rX8_readCond a0).1 h = some (r, h') → gMet G l yX8_readCond (Cond.code yX8_readCond cX8_readCond 1 (some .boolean)) Fd Ld [.ref a0] h (.inl (g_wI r)) h') (KX8_readAllOf : ∀ {a0 : Nat} {h h' : g_H} {r : Int32}, (rX8_readAllOf a0).1 h = some (r, h') → gMet G l yX8_readAllOf (Cond.code yX8_readAllOf cX8_readAllOf 1 (some .boolean)) Fd Ld [.ref a0] h (.inl (g_wI r)) h') (KX8_readAtom : ∀ {a0 : Nat} {h h' : g_H} {r : Int32}, (rX8_readAtom a0).1 h = some (r, h') → gMet G l yX8_readAtom (Cond.code yX8_readAtom cX8_readAtom 2 (some .boolean)) Fd Ld [.ref a0] h (.inl (g_wI r)) h') : w_X8_readCond_25 G l p e s m args below meth c h0 r h' Fd Ld (f_X8_readCond_25 rX8_readCond rX8_readAllOf rX8_readAtom) := by
  have hx := X.1
  have hb := X.2.1
  have hown := X.2.2.2.1
  have hts := X.2.2.2.2.1
  intro h H locs cells slots ls hf hI hl
  unfold f_X8_readCond_25 at hf
  refine lv_iconst (v := (0 : Int32)) hx hb dX8_readCond_25 (by decide) ?_
  cases gRet_e hf
  exact g_retZ X hI (Or.inl rfl) rfl dX8_readCond_26
def f_X8_readCond_37 (rX8_readCond : Nat → gM Int32) (rX8_readAllOf : Nat → gM Int32) (rX8_readAtom : Nat → gM Int32) : gM Int32 :=
    (gRet (1 : Int32))
set_option maxHeartbeats 4000000 in
set_option maxRecDepth 100000 in
theorem b_X8_readCond_37 {G : gG} {l : Launch} {p : Program} {e : Env} {s : State} {m : MethodId} {args : Array Value} {below : List Frame} {meth : Method} {c : Code} {h0 : g_H} {r : Int32} {h' : g_H} {Fd Ld : Nat} (X : gX G l yX8_readCond.cls cX8_readCond 1 (some .boolean) [] yX8_readCond.name p s m args meth c) {rX8_readCond : Nat → gM Int32} {rX8_readAllOf : Nat → gM Int32} {rX8_readAtom : Nat → gM Int32} (KX8_readCond : ∀ {a0 : Nat} {h h' : g_H} {r : Int32}, (rX8_readCond a0).1 h = some (r, h') → gMet G l yX8_readCond (Cond.code yX8_readCond cX8_readCond 1 (some .boolean)) Fd Ld [.ref a0] h (.inl (g_wI r)) h') (KX8_readAllOf : ∀ {a0 : Nat} {h h' : g_H} {r : Int32}, (rX8_readAllOf a0).1 h = some (r, h') → gMet G l yX8_readAllOf (Cond.code yX8_readAllOf cX8_readAllOf 1 (some .boolean)) Fd Ld [.ref a0] h (.inl (g_wI r)) h') (KX8_readAtom : ∀ {a0 : Nat} {h h' : g_H} {r : Int32}, (rX8_readAtom a0).1 h = some (r, h') → gMet G l yX8_readAtom (Cond.code yX8_readAtom cX8_readAtom 2 (some .boolean)) Fd Ld [.ref a0] h (.inl (g_wI r)) h') : w_X8_readCond_37 G l p e s m args below meth c h0 r h' Fd Ld (f_X8_readCond_37 rX8_readCond rX8_readAllOf rX8_readAtom) := by
  have hx := X.1
  have hb := X.2.1
  have hown := X.2.2.2.1
  have hts := X.2.2.2.2.1
  intro h H locs cells slots ls hf hI hl
  unfold f_X8_readCond_37 at hf
  refine lv_iconst (v := (1 : Int32)) hx hb dX8_readCond_37 (by decide) ?_
  cases gRet_e hf
  exact g_retZ X hI (Or.inr rfl) rfl dX8_readCond_38
def f_X8_readCond_9 (rX8_readCond : Nat → gM Int32) (rX8_readAllOf : Nat → gM Int32) (rX8_readAtom : Nat → gM Int32) : Nat → Nat → gM Int32
  | 0, _ => gFail
  | n + 1, a0 =>
    gB (gTx 41) fun t101 =>
    gB (gCk a0 7) fun _ =>
    gB (f_X8_passes a0 t101) fun r102 =>
    gIf (r102 = 0)
    (f_X8_readCond_37 rX8_readCond rX8_readAllOf rX8_readAtom)
    (gB (gCk a0 7) fun _ =>
    gB (rX8_readAllOf a0) fun r103 =>
    gIf (r103 = 0)
    (f_X8_readCond_25 rX8_readCond rX8_readAllOf rX8_readAtom)
    (gB (gCk a0 7) fun _ =>
    gB (f_X8_emits a0 (14 : Int32) (0 : Int32)) fun _ =>
    f_X8_readCond_9 rX8_readCond rX8_readAllOf rX8_readAtom n a0))
set_option maxHeartbeats 4000000 in
set_option maxRecDepth 100000 in
theorem b_X8_readCond_9 {G : gG} {l : Launch} {p : Program} {e : Env} {s : State} {m : MethodId} {args : Array Value} {below : List Frame} {meth : Method} {c : Code} {h0 : g_H} {r : Int32} {h' : g_H} {Fd Ld : Nat} (X : gX G l yX8_readCond.cls cX8_readCond 1 (some .boolean) [] yX8_readCond.name p s m args meth c) {rX8_readCond : Nat → gM Int32} {rX8_readAllOf : Nat → gM Int32} {rX8_readAtom : Nat → gM Int32} (KX8_readCond : ∀ {a0 : Nat} {h h' : g_H} {r : Int32}, (rX8_readCond a0).1 h = some (r, h') → gMet G l yX8_readCond (Cond.code yX8_readCond cX8_readCond 1 (some .boolean)) Fd Ld [.ref a0] h (.inl (g_wI r)) h') (KX8_readAllOf : ∀ {a0 : Nat} {h h' : g_H} {r : Int32}, (rX8_readAllOf a0).1 h = some (r, h') → gMet G l yX8_readAllOf (Cond.code yX8_readAllOf cX8_readAllOf 1 (some .boolean)) Fd Ld [.ref a0] h (.inl (g_wI r)) h') (KX8_readAtom : ∀ {a0 : Nat} {h h' : g_H} {r : Int32}, (rX8_readAtom a0).1 h = some (r, h') → gMet G l yX8_readAtom (Cond.code yX8_readAtom cX8_readAtom 2 (some .boolean)) Fd Ld [.ref a0] h (.inl (g_wI r)) h') : ∀ n : Nat, w_X8_readCond_9 G l p e s m args below meth c h0 r h' Fd Ld (f_X8_readCond_9 rX8_readCond rX8_readAllOf rX8_readAtom n) := by
  have hx := X.1
  have hb := X.2.1
  have hown := X.2.2.2.1
  have hts := X.2.2.2.2.1
  intro n
  induction n with
  | zero =>
    intro a0 h H locs cells slots ls hf hI hl
    exact (gFail_f hf).elim
  | succ n ih =>
    intro a0 h H locs cells slots ls hf hI hl
    rw [f_X8_readCond_9] at hf
    refine lv_aload_n hx hb dX8_readCond_9 rfl (lv_at hl 0 rfl) ?_
    refine g_ldcS (tx := "or") X hI hf (List.mem_of_getElem? (i := 41) rfl) dX8_readCond_10 (fun t101 hf => ?_)
    obtain ⟨hs, hf⟩ := gCk_b hf
    refine g_cBI hI hf (fun v9 h9 e9 l9 l9' => g_rV X hI l9 l9' ⟨Nat.le_refl _, Nat.le_refl _⟩ (As := [.ref t101]) (m_X8_passes X.2.2.2.2.2.2.2.2.2.2.1 e9) ydX8_passes hs rfl rfl q1651 q1653 qs57 q131 q1654 rfl (show 6 + 1 ≤ Fd + 10 from by omega) (show 8 + (2 + 11) + 128 ≤ Ld + 199 from by omega) hl.1 rfl (Nat.le_of_ble_eq_true rfl) dX8_readCond_12) (fun r102 h H locs cells slots hf hI => ?_)
    refine lv_if_eq (tgt := 37) hx hb dX8_readCond_15 (by decide) (fun c15 => ?_) (fun c15 => ?_)
    · have hf := g_t c15 hf
      exact b_X8_readCond_37 X KX8_readCond KX8_readAllOf KX8_readAtom _ _ _ _ _ _ hf hI (lv_sub hl [] rfl)
    · have hf := g_f c15 hf
      refine lv_aload_n hx hb dX8_readCond_18 rfl (lv_at hl 0 rfl) ?_
      obtain ⟨hs, hf⟩ := gCk_b hf
      refine g_cBI hI hf (fun v9 h9 e9 l9 l9' => g_rV X hI l9 l9' ⟨Nat.le_refl _, Nat.le_refl _⟩ (As := []) (KX8_readAllOf e9) ydX8_readAllOf hs rfl rfl q1702 q1704 qs65 q131 q1705 rfl (show Fd + 1 ≤ Fd + 10 from by omega) (show 8 + (1 + 11) + Ld ≤ Ld + 199 from by omega) hl.1 rfl (Nat.le_of_ble_eq_true rfl) dX8_readCond_19) (fun r103 h H locs cells slots hf hI => ?_)
      refine lv_if_ne (tgt := 27) hx hb dX8_readCond_22 (by decide) (fun c22 => ?_) (fun c22 => ?_)
      · have hf := g_f c22 hf
        refine lv_aload_n hx hb dX8_readCond_27 rfl (lv_at hl 0 rfl) ?_
        refine lv_bipush (v := (14 : Int32)) hx hb dX8_readCond_28 (by decide) ?_
        refine lv_iconst (v := (0 : Int32)) hx hb dX8_readCond_30 (by decide) ?_
        obtain ⟨hs, hf⟩ := gCk_b hf
        refine g_cBU hI hf (fun v9 h9 e9 l9 l9' => g_rV X hI l9 l9' ⟨Nat.le_refl _, Nat.le_refl _⟩ (As := [.int (14 : Int32), .int (0 : Int32)]) (m_X8_emits X.2.2.2.2.2.2.2.2.2.2.1 e9) ydX8_emits hs rfl rfl q1715 q1717 qs68 q131 q1718 rfl (show 1 + 1 ≤ Fd + 10 from by omega) (show 8 + (3 + 11) + 20 ≤ Ld + 199 from by omega) hl.1 rfl (Nat.le_of_ble_eq_true rfl) dX8_readCond_31) (fun r104 h H locs cells slots hf hI => ?_)
        refine lv_goto (tgt := 9) hx hb dX8_readCond_34 (by decide) ?_
        exact ih _ _ _ _ _ _ _ hf hI (lv_sub hl [0] rfl)
      · have hf := g_t c22 hf
        exact b_X8_readCond_25 X KX8_readCond KX8_readAllOf KX8_readAtom _ _ _ _ _ _ hf hI (lv_sub hl [] rfl)
def f_X8_readCond (rX8_readCond : Nat → gM Int32) (rX8_readAllOf : Nat → gM Int32) (rX8_readAtom : Nat → gM Int32) (a0 : Nat) : gM Int32 :=
    gB (gCk a0 7) fun _ =>
    gB (rX8_readAllOf a0) fun r1 =>
    gIf (r1 = 0)
    ((gRet (0 : Int32)))
    (f_X8_readCond_9 rX8_readCond rX8_readAllOf rX8_readAtom gN a0)
set_option maxHeartbeats 4000000 in
set_option maxRecDepth 100000 in
theorem m_X8_readCond {G : gG} {l : Launch} (hfl : l.stackTraces = false) {Fd Ld : Nat} {rX8_readCond : Nat → gM Int32} {rX8_readAllOf : Nat → gM Int32} {rX8_readAtom : Nat → gM Int32} (KX8_readCond : ∀ {a0 : Nat} {h h' : g_H} {r : Int32}, (rX8_readCond a0).1 h = some (r, h') → gMet G l yX8_readCond (Cond.code yX8_readCond cX8_readCond 1 (some .boolean)) Fd Ld [.ref a0] h (.inl (g_wI r)) h') (KX8_readAllOf : ∀ {a0 : Nat} {h h' : g_H} {r : Int32}, (rX8_readAllOf a0).1 h = some (r, h') → gMet G l yX8_readAllOf (Cond.code yX8_readAllOf cX8_readAllOf 1 (some .boolean)) Fd Ld [.ref a0] h (.inl (g_wI r)) h') (KX8_readAtom : ∀ {a0 : Nat} {h h' : g_H} {r : Int32}, (rX8_readAtom a0).1 h = some (r, h') → gMet G l yX8_readAtom (Cond.code yX8_readAtom cX8_readAtom 2 (some .boolean)) Fd Ld [.ref a0] h (.inl (g_wI r)) h') {a0 : Nat} {h h' : g_H} {r : Int32} (hf : (f_X8_readCond rX8_readCond rX8_readAllOf rX8_readAtom a0).1 h = some (r, h')) : gMet G l yX8_readCond (Cond.code yX8_readCond cX8_readCond 1 (some .boolean)) (Fd + 10) (Ld + 199) [.ref a0] h (.inl (g_wI r)) h' := by
  refine g_head hfl ((f_X8_readCond rX8_readCond rX8_readAllOf rX8_readAtom a0).2 h r h' hf) (plainFor_of_name (by decide)) (Nat.le_of_ble_eq_true rfl) (fun p e s m below meth c H locs cells slots ls X hI hl9 => ?_)
  have hl : lv_has ls 1 [(0, .ref a0)] := hl9
  have hx := X.1
  have hb := X.2.1
  have hown := X.2.2.2.1
  have hts := X.2.2.2.2.1
  unfold f_X8_readCond at hf
  refine lv_aload_n hx hb dX8_readCond_0 rfl (lv_at hl 0 rfl) ?_
  obtain ⟨hs, hf⟩ := gCk_b hf
  refine g_cBI hI hf (fun v9 h9 e9 l9 l9' => g_rV X hI l9 l9' ⟨Nat.le_refl _, Nat.le_refl _⟩ (As := []) (KX8_readAllOf e9) ydX8_readAllOf hs rfl rfl q1702 q1704 qs65 q131 q1705 rfl (show Fd + 1 ≤ Fd + 10 from by omega) (show 8 + (1 + 11) + Ld ≤ Ld + 199 from by omega) hl.1 rfl (Nat.le_of_ble_eq_true rfl) dX8_readCond_1) (fun r1 h H locs cells slots hf hI => ?_)
  refine lv_if_ne (tgt := 9) hx hb dX8_readCond_4 (by decide) (fun c4 => ?_) (fun c4 => ?_)
  · have hf := g_f c4 hf
    exact b_X8_readCond_9 X KX8_readCond KX8_readAllOf KX8_readAtom gN _ _ _ _ _ _ _ hf hI (lv_sub hl [0] rfl)
  · have hf := g_t c4 hf
    refine lv_iconst (v := (0 : Int32)) hx hb dX8_readCond_7 (by decide) ?_
    cases gRet_e hf
    exact g_retZ X hI (Or.inl rfl) rfl dX8_readCond_8
/-! tieB -/
def f_recB : Nat → (Nat → gM Int32) × (Nat → gM Int32) × (Nat → gM Int32)
  | 0 => (fun _ => gFail, fun _ => gFail, fun _ => gFail)
  | d + 1 => (fun a0 => f_X8_readCond (f_recB d).1 (f_recB d).2.1 (f_recB d).2.2 a0, fun a0 => f_X8_readAllOf (f_recB d).1 (f_recB d).2.1 (f_recB d).2.2 a0, fun a0 => f_X8_readAtom (f_recB d).1 (f_recB d).2.1 (f_recB d).2.2 a0)
def f_X8_readCond_r (d : Nat) : Nat → gM Int32 := (f_recB d).1
def f_X8_readAllOf_r (d : Nat) : Nat → gM Int32 := (f_recB d).2.1
def f_X8_readAtom_r (d : Nat) : Nat → gM Int32 := (f_recB d).2.2
set_option maxRecDepth 100000 in
theorem m_recB {G : gG} {l : Launch} (hfl : l.stackTraces = false) : ∀ d : Nat, (∀ {a0 : Nat} {h h' : g_H} {r : Int32}, ((f_recB d).1 a0).1 h = some (r, h') → gMet G l yX8_readCond (Cond.code yX8_readCond cX8_readCond 1 (some .boolean)) (10 * d) (199 * d) [.ref a0] h (.inl (g_wI r)) h') ∧ (∀ {a0 : Nat} {h h' : g_H} {r : Int32}, ((f_recB d).2.1 a0).1 h = some (r, h') → gMet G l yX8_readAllOf (Cond.code yX8_readAllOf cX8_readAllOf 1 (some .boolean)) (10 * d) (199 * d) [.ref a0] h (.inl (g_wI r)) h') ∧ (∀ {a0 : Nat} {h h' : g_H} {r : Int32}, ((f_recB d).2.2 a0).1 h = some (r, h') → gMet G l yX8_readAtom (Cond.code yX8_readAtom cX8_readAtom 2 (some .boolean)) (10 * d) (199 * d) [.ref a0] h (.inl (g_wI r)) h') := by
  intro d
  induction d with
  | zero =>
    refine ⟨?_, ?_, ?_⟩
    · intro _ _ _ _ hf
      exact (gFail_f hf).elim
    · intro _ _ _ _ hf
      exact (gFail_f hf).elim
    · intro _ _ _ _ hf
      exact (gFail_f hf).elim
  | succ d ih =>
    rw [show 10 * (d + 1) = 10 * d + 10 from by omega, show 199 * (d + 1) = 199 * d + 199 from by omega]
    refine ⟨?_, ?_, ?_⟩
    · intro _ _ _ _ hf
      exact m_X8_readCond hfl ih.1 ih.2.1 ih.2.2 hf
    · intro _ _ _ _ hf
      exact m_X8_readAllOf hfl ih.1 ih.2.1 ih.2.2 hf
    · intro _ _ _ _ hf
      exact m_X8_readAtom hfl ih.1 ih.2.1 ih.2.2 hf
theorem m_X8_readCond_r {G : gG} {l : Launch} (hfl : l.stackTraces = false) (d : Nat) {a0 : Nat} {h h' : g_H} {r : Int32} (hf : (f_X8_readCond_r d a0).1 h = some (r, h')) : gMet G l yX8_readCond (Cond.code yX8_readCond cX8_readCond 1 (some .boolean)) (10 * d) (199 * d) [.ref a0] h (.inl (g_wI r)) h' := (m_recB hfl d).1 hf
theorem m_X8_readAllOf_r {G : gG} {l : Launch} (hfl : l.stackTraces = false) (d : Nat) {a0 : Nat} {h h' : g_H} {r : Int32} (hf : (f_X8_readAllOf_r d a0).1 h = some (r, h')) : gMet G l yX8_readAllOf (Cond.code yX8_readAllOf cX8_readAllOf 1 (some .boolean)) (10 * d) (199 * d) [.ref a0] h (.inl (g_wI r)) h' := (m_recB hfl d).2.1 hf
theorem m_X8_readAtom_r {G : gG} {l : Launch} (hfl : l.stackTraces = false) (d : Nat) {a0 : Nat} {h h' : g_H} {r : Int32} (hf : (f_X8_readAtom_r d a0).1 h = some (r, h')) : gMet G l yX8_readAtom (Cond.code yX8_readAtom cX8_readAtom 2 (some .boolean)) (10 * d) (199 * d) [.ref a0] h (.inl (g_wI r)) h' := (m_recB hfl d).2.2 hf
/-! X8_readLawLine -/
abbrev w_X8_readLawLine_128 (G : gG) (l : Launch) (p : Program) (e : Env) (s : State) (m : MethodId) (args : Array Value) (below : List Frame) (meth : Method) (c : Code) (h0 : g_H) (r : Int32) (h' : g_H) (k : Nat → Int32 → gM Int32) : Prop := ∀ (a0 : Nat) (x2 : Int32) (h : g_H) (H : Heap) (locs : List Loc) (cells slots : Nat) (ls : Array Slot), (k a0 x2).1 h = some (r, h') → gI G h0 h H locs cells slots → lv_has ls 3 [(0, .ref a0), (2, .int x2)] → W p l e (g_rm 241 4796 h0 h') s m args below meth c H locs cells slots (gQ G below args s h0 h' (.inl (g_wI r))) (F0 m 128 ls [])
abbrev w_X8_readLawLine_53 (G : gG) (l : Launch) (p : Program) (e : Env) (s : State) (m : MethodId) (args : Array Value) (below : List Frame) (meth : Method) (c : Code) (h0 : g_H) (r : Int32) (h' : g_H) (k : Nat → Int32 → Nat → Int32 → Int32 → gM Int32) : Prop := ∀ (a0 : Nat) (x2 : Int32) (b0 : Nat) (u1 : Int32) (u2 : Int32) (h : g_H) (H : Heap) (locs : List Loc) (cells slots : Nat) (ls : Array Slot), (k a0 x2 b0 u1 u2).1 h = some (r, h') → gI G h0 h H locs cells slots → lv_has ls 3 [(0, .ref a0), (2, .int x2)] → W p l e (g_rm 241 4796 h0 h') s m args below meth c H locs cells slots (gQ G below args s h0 h' (.inl (g_wI r))) (F0 m 53 ls [.int u2, .int u1, .ref b0])
def f_X8_readLawLine_128 (a0 : Nat) (x2 : Int32) : gM Int32 :=
    gB (gFR a0 7 1) fun v101 =>
    gB (gFI a0 7 16) fun v102 =>
    gB (gSI v101 0 (x2 + (3 : Int32)) v102) fun _ =>
    (gRet (1 : Int32))
set_option maxHeartbeats 4000000 in
set_option maxRecDepth 100000 in
theorem b_X8_readLawLine_128 {G : gG} {l : Launch} {p : Program} {e : Env} {s : State} {m : MethodId} {args : Array Value} {below : List Frame} {meth : Method} {c : Code} {h0 : g_H} {r : Int32} {h' : g_H} (X : gX G l yX8_readLawLine.cls cX8_readLawLine 3 (some .boolean) [] yX8_readLawLine.name p s m args meth c) : w_X8_readLawLine_128 G l p e s m args below meth c h0 r h' (f_X8_readLawLine_128) := by
  have hx := X.1
  have hb := X.2.1
  have hown := X.2.2.2.1
  have hts := X.2.2.2.2.1
  intro a0 x2 h H locs cells slots ls hf hI hl
  unfold f_X8_readLawLine_128 at hf
  refine lv_aload_n hx hb dX8_readLawLine_128 rfl (lv_at hl 0 rfl) ?_
  refine g_fr X hI hf fX8_1 q1445 rfl rfl dX8_readLawLine_129 (fun v101 hf => ?_)
  refine lv_iload_n hx hb dX8_readLawLine_132 rfl (lv_at hl 1 rfl) ?_
  refine lv_iconst (v := (3 : Int32)) hx hb dX8_readLawLine_133 (by decide) ?_
  refine lv_iadd hx hb dX8_readLawLine_134 ?_
  refine lv_aload_n hx hb dX8_readLawLine_135 rfl (lv_at hl 0 rfl) ?_
  refine g_fi X hI hf fX8_16 q1460 rfl rfl dX8_readLawLine_136 (fun v102 hf => ?_)
  refine g_si0 X hI hf dX8_readLawLine_139 (fun h H locs hf hI => ?_)
  refine lv_iconst (v := (1 : Int32)) hx hb dX8_readLawLine_140 (by decide) ?_
  cases gRet_e hf
  exact g_retZ X hI (Or.inr rfl) rfl dX8_readLawLine_141
def f_X8_readLawLine_53 (a0 : Nat) (x2 : Int32) (b0 : Nat) (u1 : Int32) (u2 : Int32) : gM Int32 :=
    gB (gSI b0 0 u1 u2) fun _ =>
    gB (gFR a0 7 1) fun v101 =>
    gB (gAI v101 0 x2) fun v102 =>
    gIf (0 ≤ v102)
    (gB (gFR a0 7 1) fun v103 =>
    gB (gCk a0 7) fun _ =>
    gB (f_X8_number a0 (0 : Int32) (30 : Int32)) fun r104 =>
    gB (gSI v103 0 (x2 + (1 : Int32)) r104) fun _ =>
    gB (gFR a0 7 1) fun v105 =>
    gB (gAI v105 0 (x2 + (1 : Int32))) fun v106 =>
    gIf (0 ≤ v106)
    (gB (gFR a0 7 1) fun v107 =>
    gB (gFI a0 7 16) fun v108 =>
    gB (gSI v107 0 (x2 + (2 : Int32)) v108) fun _ =>
    gB (gPI a0 7 13 (0 : Int32)) fun _ =>
    gB (gTx 35) fun t109 =>
    gB (gCk a0 7) fun _ =>
    gB (f_X8_passes a0 t109) fun r110 =>
    gIf (r110 = 0)
    (f_X8_readLawLine_128 a0 x2)
    (gB (gCk a0 7) fun _ =>
    gB ((f_X8_readCond_r 24) a0) fun r111 =>
    gIf (r111 = 0)
    ((gRet (0 : Int32)))
    (f_X8_readLawLine_128 a0 x2)))
    ((gRet (0 : Int32))))
    ((gRet (0 : Int32)))
set_option maxHeartbeats 4000000 in
set_option maxRecDepth 100000 in
theorem b_X8_readLawLine_53 {G : gG} {l : Launch} {p : Program} {e : Env} {s : State} {m : MethodId} {args : Array Value} {below : List Frame} {meth : Method} {c : Code} {h0 : g_H} {r : Int32} {h' : g_H} (X : gX G l yX8_readLawLine.cls cX8_readLawLine 3 (some .boolean) [] yX8_readLawLine.name p s m args meth c) : w_X8_readLawLine_53 G l p e s m args below meth c h0 r h' (f_X8_readLawLine_53) := by
  have hx := X.1
  have hb := X.2.1
  have hown := X.2.2.2.1
  have hts := X.2.2.2.2.1
  intro a0 x2 b0 u1 u2 h H locs cells slots ls hf hI hl
  unfold f_X8_readLawLine_53 at hf
  refine g_si0 X hI hf dX8_readLawLine_53 (fun h H locs hf hI => ?_)
  refine lv_aload_n hx hb dX8_readLawLine_54 rfl (lv_at hl 0 rfl) ?_
  refine g_fr X hI hf fX8_1 q1445 rfl rfl dX8_readLawLine_55 (fun v101 hf => ?_)
  refine lv_iload_n hx hb dX8_readLawLine_58 rfl (lv_at hl 1 rfl) ?_
  refine g_ai0 X hI hf dX8_readLawLine_59 (fun v102 hf => ?_)
  refine lv_if_ge (tgt := 65) hx hb dX8_readLawLine_60 (by decide) (fun c60 => ?_) (fun c60 => ?_)
  · have hf := g_t c60 hf
    refine lv_aload_n hx hb dX8_readLawLine_65 rfl (lv_at hl 0 rfl) ?_
    refine g_fr X hI hf fX8_1 q1445 rfl rfl dX8_readLawLine_66 (fun v103 hf => ?_)
    refine lv_iload_n hx hb dX8_readLawLine_69 rfl (lv_at hl 1 rfl) ?_
    refine lv_iconst (v := (1 : Int32)) hx hb dX8_readLawLine_70 (by decide) ?_
    refine lv_iadd hx hb dX8_readLawLine_71 ?_
    refine lv_aload_n hx hb dX8_readLawLine_72 rfl (lv_at hl 0 rfl) ?_
    refine lv_iconst (v := (0 : Int32)) hx hb dX8_readLawLine_73 (by decide) ?_
    refine lv_bipush (v := (30 : Int32)) hx hb dX8_readLawLine_74 (by decide) ?_
    obtain ⟨hs, hf⟩ := gCk_b hf
    refine g_cBI hI hf (fun v9 h9 e9 l9 l9' => g_rV X hI l9 l9' ⟨Nat.le_refl _, Nat.le_refl _⟩ (As := [.int (0 : Int32), .int (30 : Int32)]) (m_X8_number X.2.2.2.2.2.2.2.2.2.2.1 e9) ydX8_number hs rfl rfl q1646 q1648 qs56 q131 q1649 rfl (Nat.le_of_ble_eq_true rfl) (Nat.le_of_ble_eq_true rfl) hl.1 rfl (Nat.le_of_ble_eq_true rfl) dX8_readLawLine_76) (fun r104 h H locs cells slots hf hI => ?_)
    refine g_si0 X hI hf dX8_readLawLine_79 (fun h H locs hf hI => ?_)
    refine lv_aload_n hx hb dX8_readLawLine_80 rfl (lv_at hl 0 rfl) ?_
    refine g_fr X hI hf fX8_1 q1445 rfl rfl dX8_readLawLine_81 (fun v105 hf => ?_)
    refine lv_iload_n hx hb dX8_readLawLine_84 rfl (lv_at hl 1 rfl) ?_
    refine lv_iconst (v := (1 : Int32)) hx hb dX8_readLawLine_85 (by decide) ?_
    refine lv_iadd hx hb dX8_readLawLine_86 ?_
    refine g_ai0 X hI hf dX8_readLawLine_87 (fun v106 hf => ?_)
    refine lv_if_ge (tgt := 93) hx hb dX8_readLawLine_88 (by decide) (fun c88 => ?_) (fun c88 => ?_)
    · have hf := g_t c88 hf
      refine lv_aload_n hx hb dX8_readLawLine_93 rfl (lv_at hl 0 rfl) ?_
      refine g_fr X hI hf fX8_1 q1445 rfl rfl dX8_readLawLine_94 (fun v107 hf => ?_)
      refine lv_iload_n hx hb dX8_readLawLine_97 rfl (lv_at hl 1 rfl) ?_
      refine lv_iconst (v := (2 : Int32)) hx hb dX8_readLawLine_98 (by decide) ?_
      refine lv_iadd hx hb dX8_readLawLine_99 ?_
      refine lv_aload_n hx hb dX8_readLawLine_100 rfl (lv_at hl 0 rfl) ?_
      refine g_fi X hI hf fX8_16 q1460 rfl rfl dX8_readLawLine_101 (fun v108 hf => ?_)
      refine g_si0 X hI hf dX8_readLawLine_104 (fun h H locs hf hI => ?_)
      refine lv_aload_n hx hb dX8_readLawLine_105 rfl (lv_at hl 0 rfl) ?_
      refine lv_iconst (v := (0 : Int32)) hx hb dX8_readLawLine_106 (by decide) ?_
      refine g_pi X hI hf fX8_13 q1457 rfl dX8_readLawLine_107 (fun h H locs hf hI => ?_)
      refine lv_aload_n hx hb dX8_readLawLine_110 rfl (lv_at hl 0 rfl) ?_
      refine g_ldcS (tx := "if") X hI hf (List.mem_of_getElem? (i := 35) rfl) dX8_readLawLine_111 (fun t109 hf => ?_)
      obtain ⟨hs, hf⟩ := gCk_b hf
      refine g_cBI hI hf (fun v9 h9 e9 l9 l9' => g_rV X hI l9 l9' ⟨Nat.le_refl _, Nat.le_refl _⟩ (As := [.ref t109]) (m_X8_passes X.2.2.2.2.2.2.2.2.2.2.1 e9) ydX8_passes hs rfl rfl q1651 q1653 qs57 q131 q1654 rfl (Nat.le_of_ble_eq_true rfl) (Nat.le_of_ble_eq_true rfl) hl.1 rfl (Nat.le_of_ble_eq_true rfl) dX8_readLawLine_113) (fun r110 h H locs cells slots hf hI => ?_)
      refine lv_if_eq (tgt := 128) hx hb dX8_readLawLine_116 (by decide) (fun c116 => ?_) (fun c116 => ?_)
      · have hf := g_t c116 hf
        exact b_X8_readLawLine_128 X _ _ _ _ _ _ _ _ hf hI (lv_sub hl [0, 1] rfl)
      · have hf := g_f c116 hf
        refine lv_aload_n hx hb dX8_readLawLine_119 rfl (lv_at hl 0 rfl) ?_
        obtain ⟨hs, hf⟩ := gCk_b hf
        refine g_cBI hI hf (fun v9 h9 e9 l9 l9' => g_rV X hI l9 l9' ⟨Nat.le_refl _, Nat.le_refl _⟩ (As := []) (m_X8_readCond_r X.2.2.2.2.2.2.2.2.2.2.1 24 e9) ydX8_readCond hs rfl rfl q1698 q1700 qs64 q131 q1701 rfl (Nat.le_of_ble_eq_true rfl) (Nat.le_of_ble_eq_true rfl) hl.1 rfl (Nat.le_of_ble_eq_true rfl) dX8_readLawLine_120) (fun r111 h H locs cells slots hf hI => ?_)
        refine lv_if_ne (tgt := 128) hx hb dX8_readLawLine_123 (by decide) (fun c123 => ?_) (fun c123 => ?_)
        · have hf := g_f c123 hf
          exact b_X8_readLawLine_128 X _ _ _ _ _ _ _ _ hf hI (lv_sub hl [0, 1] rfl)
        · have hf := g_t c123 hf
          refine lv_iconst (v := (0 : Int32)) hx hb dX8_readLawLine_126 (by decide) ?_
          cases gRet_e hf
          exact g_retZ X hI (Or.inl rfl) rfl dX8_readLawLine_127
    · have hf := g_f c88 hf
      refine lv_iconst (v := (0 : Int32)) hx hb dX8_readLawLine_91 (by decide) ?_
      cases gRet_e hf
      exact g_retZ X hI (Or.inl rfl) rfl dX8_readLawLine_92
  · have hf := g_f c60 hf
    refine lv_iconst (v := (0 : Int32)) hx hb dX8_readLawLine_63 (by decide) ?_
    cases gRet_e hf
    exact g_retZ X hI (Or.inl rfl) rfl dX8_readLawLine_64
def f_X8_readLawLine (a0 : Nat) (x1 : Int32) : gM Int32 :=
    gB (gRet ((1155 : Int32) + ((4 : Int32) * x1))) fun v1 =>
    gB (gFR a0 7 1) fun v2 =>
    gB (gTx 32) fun t3 =>
    gB (gCk a0 7) fun _ =>
    gB (f_X8_isWord a0 t3) fun r4 =>
    gIf (r4 = 0)
    (gB (gTx 33) fun t5 =>
    gB (gCk a0 7) fun _ =>
    gB (f_X8_isWord a0 t5) fun r6 =>
    gIf (r6 = 0)
    (gB (gTx 34) fun t7 =>
    gB (gCk a0 7) fun _ =>
    gB (f_X8_isWord a0 t7) fun r8 =>
    gIf (r8 = 0)
    (f_X8_readLawLine_53 a0 v1 v2 v1 (-1 : Int32))
    (f_X8_readLawLine_53 a0 v1 v2 v1 (2 : Int32)))
    (f_X8_readLawLine_53 a0 v1 v2 v1 (1 : Int32)))
    (f_X8_readLawLine_53 a0 v1 v2 v1 (0 : Int32))
set_option maxHeartbeats 4000000 in
set_option maxRecDepth 100000 in
theorem m_X8_readLawLine {G : gG} {l : Launch} (hfl : l.stackTraces = false) {a0 : Nat} {x1 : Int32} {h h' : g_H} {r : Int32} (hf : (f_X8_readLawLine a0 x1).1 h = some (r, h')) : gMet G l yX8_readLawLine (Cond.code yX8_readLawLine cX8_readLawLine 3 (some .boolean)) 241 4796 [.ref a0, .int x1] h (.inl (g_wI r)) h' := by
  refine g_head hfl ((f_X8_readLawLine a0 x1).2 h r h' hf) (plainFor_of_name (by decide)) (Nat.le_of_ble_eq_true rfl) (fun p e s m below meth c H locs cells slots ls X hI hl9 => ?_)
  have hl : lv_has ls 3 [(0, .ref a0), (1, .int x1)] := hl9
  have hx := X.1
  have hb := X.2.1
  have hown := X.2.2.2.1
  have hts := X.2.2.2.2.1
  unfold f_X8_readLawLine at hf
  refine lv_sipush (v := (1155 : Int32)) hx hb dX8_readLawLine_0 (by decide) ?_
  refine lv_iconst (v := (4 : Int32)) hx hb dX8_readLawLine_3 (by decide) ?_
  refine lv_iload_n hx hb dX8_readLawLine_4 rfl (lv_at hl 1 rfl) ?_
  refine lv_imul hx hb dX8_readLawLine_5 ?_
  refine lv_iadd hx hb dX8_readLawLine_6 ?_
  refine g_let hf (fun v1 hf => ?_)
  refine lv_istore_n (lv' := [(2, .int v1), (0, .ref a0), (1, .int x1)]) hx hb dX8_readLawLine_7 rfl hl (by decide) rfl (fun ls hl => ?_)
  refine lv_aload_n hx hb dX8_readLawLine_8 rfl (lv_at hl 1 rfl) ?_
  refine g_fr X hI hf fX8_1 q1445 rfl rfl dX8_readLawLine_9 (fun v2 hf => ?_)
  refine lv_iload_n hx hb dX8_readLawLine_12 rfl (lv_at hl 0 rfl) ?_
  refine lv_aload_n hx hb dX8_readLawLine_13 rfl (lv_at hl 1 rfl) ?_
  refine g_ldcS (tx := "fright") X hI hf (List.mem_of_getElem? (i := 32) rfl) dX8_readLawLine_14 (fun t3 hf => ?_)
  obtain ⟨hs, hf⟩ := gCk_b hf
  refine g_cBI hI hf (fun v9 h9 e9 l9 l9' => g_rV X hI l9 l9' ⟨Nat.le_refl _, Nat.le_refl _⟩ (As := [.ref t3]) (m_X8_isWord X.2.2.2.2.2.2.2.2.2.2.1 e9) ydX8_isWord hs rfl rfl q1616 q1618 qs51 q131 q1619 rfl (Nat.le_of_ble_eq_true rfl) (Nat.le_of_ble_eq_true rfl) hl.1 rfl (Nat.le_of_ble_eq_true rfl) dX8_readLawLine_16) (fun r4 h H locs cells slots hf hI => ?_)
  refine lv_if_eq (tgt := 26) hx hb dX8_readLawLine_19 (by decide) (fun c19 => ?_) (fun c19 => ?_)
  · have hf := g_t c19 hf
    refine lv_aload_n hx hb dX8_readLawLine_26 rfl (lv_at hl 1 rfl) ?_
    refine g_ldcS (tx := "ease") X hI hf (List.mem_of_getElem? (i := 33) rfl) dX8_readLawLine_27 (fun t5 hf => ?_)
    obtain ⟨hs, hf⟩ := gCk_b hf
    refine g_cBI hI hf (fun v9 h9 e9 l9 l9' => g_rV X hI l9 l9' ⟨Nat.le_refl _, Nat.le_refl _⟩ (As := [.ref t5]) (m_X8_isWord X.2.2.2.2.2.2.2.2.2.2.1 e9) ydX8_isWord hs rfl rfl q1616 q1618 qs51 q131 q1619 rfl (Nat.le_of_ble_eq_true rfl) (Nat.le_of_ble_eq_true rfl) hl.1 rfl (Nat.le_of_ble_eq_true rfl) dX8_readLawLine_29) (fun r6 h H locs cells slots hf hI => ?_)
    refine lv_if_eq (tgt := 39) hx hb dX8_readLawLine_32 (by decide) (fun c32 => ?_) (fun c32 => ?_)
    · have hf := g_t c32 hf
      refine lv_aload_n hx hb dX8_readLawLine_39 rfl (lv_at hl 1 rfl) ?_
      refine g_ldcS (tx := "wear") X hI hf (List.mem_of_getElem? (i := 34) rfl) dX8_readLawLine_40 (fun t7 hf => ?_)
      obtain ⟨hs, hf⟩ := gCk_b hf
      refine g_cBI hI hf (fun v9 h9 e9 l9 l9' => g_rV X hI l9 l9' ⟨Nat.le_refl _, Nat.le_refl _⟩ (As := [.ref t7]) (m_X8_isWord X.2.2.2.2.2.2.2.2.2.2.1 e9) ydX8_isWord hs rfl rfl q1616 q1618 qs51 q131 q1619 rfl (Nat.le_of_ble_eq_true rfl) (Nat.le_of_ble_eq_true rfl) hl.1 rfl (Nat.le_of_ble_eq_true rfl) dX8_readLawLine_42) (fun r8 h H locs cells slots hf hI => ?_)
      refine lv_if_eq (tgt := 52) hx hb dX8_readLawLine_45 (by decide) (fun c45 => ?_) (fun c45 => ?_)
      · have hf := g_t c45 hf
        refine lv_iconst (v := (-1 : Int32)) hx hb dX8_readLawLine_52 (by decide) ?_
        exact b_X8_readLawLine_53 X _ _ _ _ _ _ _ _ _ _ _ hf hI (lv_sub hl [1, 0] rfl)
      · have hf := g_f c45 hf
        refine lv_iconst (v := (2 : Int32)) hx hb dX8_readLawLine_48 (by decide) ?_
        refine lv_goto (tgt := 53) hx hb dX8_readLawLine_49 (by decide) ?_
        exact b_X8_readLawLine_53 X _ _ _ _ _ _ _ _ _ _ _ hf hI (lv_sub hl [1, 0] rfl)
    · have hf := g_f c32 hf
      refine lv_iconst (v := (1 : Int32)) hx hb dX8_readLawLine_35 (by decide) ?_
      refine lv_goto (tgt := 53) hx hb dX8_readLawLine_36 (by decide) ?_
      exact b_X8_readLawLine_53 X _ _ _ _ _ _ _ _ _ _ _ hf hI (lv_sub hl [1, 0] rfl)
  · have hf := g_f c19 hf
    refine lv_iconst (v := (0 : Int32)) hx hb dX8_readLawLine_22 (by decide) ?_
    refine lv_goto (tgt := 53) hx hb dX8_readLawLine_23 (by decide) ?_
    exact b_X8_readLawLine_53 X _ _ _ _ _ _ _ _ _ _ _ hf hI (lv_sub hl [1, 0] rfl)
/-! X8_readLine -/
abbrev w_X8_readLine_46 (G : gG) (l : Launch) (p : Program) (e : Env) (s : State) (m : MethodId) (args : Array Value) (below : List Frame) (meth : Method) (c : Code) (h0 : g_H) (r : Int32) (h' : g_H) (k : Int32 → gM Int32) : Prop := ∀ (u0 : Int32) (h : g_H) (H : Heap) (locs : List Loc) (cells slots : Nat) (ls : Array Slot), (k u0).1 h = some (r, h') → gI G h0 h H locs cells slots → lv_has ls 3 [] → W p l e (g_rm 242 4818 h0 h') s m args below meth c H locs cells slots (gQ G below args s h0 h' (.inl (g_wI r))) (F0 m 46 ls [.int u0])
abbrev w_X8_readLine_41 (G : gG) (l : Launch) (p : Program) (e : Env) (s : State) (m : MethodId) (args : Array Value) (below : List Frame) (meth : Method) (c : Code) (h0 : g_H) (r : Int32) (h' : g_H) (k : gM Int32) : Prop := ∀ (h : g_H) (H : Heap) (locs : List Loc) (cells slots : Nat) (ls : Array Slot), (k).1 h = some (r, h') → gI G h0 h H locs cells slots → lv_has ls 3 [] → W p l e (g_rm 242 4818 h0 h') s m args below meth c H locs cells slots (gQ G below args s h0 h' (.inl (g_wI r))) (F0 m 41 ls [])
abbrev w_X8_readLine_45 (G : gG) (l : Launch) (p : Program) (e : Env) (s : State) (m : MethodId) (args : Array Value) (below : List Frame) (meth : Method) (c : Code) (h0 : g_H) (r : Int32) (h' : g_H) (k : gM Int32) : Prop := ∀ (h : g_H) (H : Heap) (locs : List Loc) (cells slots : Nat) (ls : Array Slot), (k).1 h = some (r, h') → gI G h0 h H locs cells slots → lv_has ls 3 [] → W p l e (g_rm 242 4818 h0 h') s m args below meth c H locs cells slots (gQ G below args s h0 h' (.inl (g_wI r))) (F0 m 45 ls [])
abbrev w_X8_readLine_16 (G : gG) (l : Launch) (p : Program) (e : Env) (s : State) (m : MethodId) (args : Array Value) (below : List Frame) (meth : Method) (c : Code) (h0 : g_H) (r : Int32) (h' : g_H) (k : Nat → Int32 → Int32 → Int32 → Int32 → gM Int32) : Prop := ∀ (a0 : Nat) (x1 : Int32) (x2 : Int32) (u0 : Int32) (u1 : Int32) (h : g_H) (H : Heap) (locs : List Loc) (cells slots : Nat) (ls : Array Slot), (k a0 x1 x2 u0 u1).1 h = some (r, h') → gI G h0 h H locs cells slots → lv_has ls 3 [(0, .ref a0), (1, .int x1), (2, .int x2)] → W p l e (g_rm 242 4818 h0 h') s m args below meth c H locs cells slots (gQ G below args s h0 h' (.inl (g_wI r))) (F0 m 16 ls [.int u1, .int u0])
def f_X8_readLine_46 (u0 : Int32) : gM Int32 :=
    gB (gGd (u0 = 0 ∨ u0 = 1)) fun _ =>
    (gRet u0)
set_option maxHeartbeats 4000000 in
set_option maxRecDepth 100000 in
theorem b_X8_readLine_46 {G : gG} {l : Launch} {p : Program} {e : Env} {s : State} {m : MethodId} {args : Array Value} {below : List Frame} {meth : Method} {c : Code} {h0 : g_H} {r : Int32} {h' : g_H} (X : gX G l yX8_readLine.cls cX8_readLine 3 (some .boolean) [] yX8_readLine.name p s m args meth c) : w_X8_readLine_46 G l p e s m args below meth c h0 r h' (f_X8_readLine_46) := by
  have hx := X.1
  have hb := X.2.1
  have hown := X.2.2.2.1
  have hts := X.2.2.2.2.1
  intro u0 h H locs cells slots ls hf hI hl
  unfold f_X8_readLine_46 at hf
  obtain ⟨hz, hf⟩ := gB_gd hf
  cases gRet_e hf
  exact g_retZ X hI hz rfl dX8_readLine_46
def f_X8_readLine_41 : gM Int32 :=
    f_X8_readLine_46 (1 : Int32)
set_option maxHeartbeats 4000000 in
set_option maxRecDepth 100000 in
theorem b_X8_readLine_41 {G : gG} {l : Launch} {p : Program} {e : Env} {s : State} {m : MethodId} {args : Array Value} {below : List Frame} {meth : Method} {c : Code} {h0 : g_H} {r : Int32} {h' : g_H} (X : gX G l yX8_readLine.cls cX8_readLine 3 (some .boolean) [] yX8_readLine.name p s m args meth c) : w_X8_readLine_41 G l p e s m args below meth c h0 r h' (f_X8_readLine_41) := by
  have hx := X.1
  have hb := X.2.1
  have hown := X.2.2.2.1
  have hts := X.2.2.2.2.1
  intro h H locs cells slots ls hf hI hl
  unfold f_X8_readLine_41 at hf
  refine lv_iconst (v := (1 : Int32)) hx hb dX8_readLine_41 (by decide) ?_
  refine lv_goto (tgt := 46) hx hb dX8_readLine_42 (by decide) ?_
  exact b_X8_readLine_46 X _ _ _ _ _ _ _ hf hI (lv_sub hl [] rfl)
def f_X8_readLine_45 : gM Int32 :=
    f_X8_readLine_46 (0 : Int32)
set_option maxHeartbeats 4000000 in
set_option maxRecDepth 100000 in
theorem b_X8_readLine_45 {G : gG} {l : Launch} {p : Program} {e : Env} {s : State} {m : MethodId} {args : Array Value} {below : List Frame} {meth : Method} {c : Code} {h0 : g_H} {r : Int32} {h' : g_H} (X : gX G l yX8_readLine.cls cX8_readLine 3 (some .boolean) [] yX8_readLine.name p s m args meth c) : w_X8_readLine_45 G l p e s m args below meth c h0 r h' (f_X8_readLine_45) := by
  have hx := X.1
  have hb := X.2.1
  have hown := X.2.2.2.1
  have hts := X.2.2.2.2.1
  intro h H locs cells slots ls hf hI hl
  unfold f_X8_readLine_45 at hf
  refine lv_iconst (v := (0 : Int32)) hx hb dX8_readLine_45 (by decide) ?_
  exact b_X8_readLine_46 X _ _ _ _ _ _ _ hf hI (lv_sub hl [] rfl)
def f_X8_readLine_16 (a0 : Nat) (x1 : Int32) (x2 : Int32) (u0 : Int32) (u1 : Int32) : gM Int32 :=
    gIf (u1 ≤ u0)
    (f_X8_readLine_45)
    (gIf (x1 = 0)
    (gB (gCk a0 7) fun _ =>
    gB (f_X8_readLawLine a0 x2) fun r101 =>
    gIf (r101 = 0)
    (f_X8_readLine_45)
    (f_X8_readLine_41))
    (gB (gCk a0 7) fun _ =>
    gB (f_X8_readCourtLine a0) fun r102 =>
    gIf (r102 = 0)
    (f_X8_readLine_45)
    (f_X8_readLine_41)))
set_option maxHeartbeats 4000000 in
set_option maxRecDepth 100000 in
theorem b_X8_readLine_16 {G : gG} {l : Launch} {p : Program} {e : Env} {s : State} {m : MethodId} {args : Array Value} {below : List Frame} {meth : Method} {c : Code} {h0 : g_H} {r : Int32} {h' : g_H} (X : gX G l yX8_readLine.cls cX8_readLine 3 (some .boolean) [] yX8_readLine.name p s m args meth c) : w_X8_readLine_16 G l p e s m args below meth c h0 r h' (f_X8_readLine_16) := by
  have hx := X.1
  have hb := X.2.1
  have hown := X.2.2.2.1
  have hts := X.2.2.2.2.1
  intro a0 x1 x2 u0 u1 h H locs cells slots ls hf hI hl
  unfold f_X8_readLine_16 at hf
  refine lv_icmp_ge (tgt := 45) hx hb dX8_readLine_16 (by decide) (fun c16 => ?_) (fun c16 => ?_)
  · have hf := g_t c16 hf
    exact b_X8_readLine_45 X _ _ _ _ _ _ hf hI (lv_sub hl [] rfl)
  · have hf := g_f c16 hf
    refine lv_iload_n hx hb dX8_readLine_19 rfl (lv_at hl 1 rfl) ?_
    refine lv_if_eq (tgt := 33) hx hb dX8_readLine_20 (by decide) (fun c20 => ?_) (fun c20 => ?_)
    · have hf := g_t c20 hf
      refine lv_aload_n hx hb dX8_readLine_33 rfl (lv_at hl 0 rfl) ?_
      refine lv_iload_n hx hb dX8_readLine_34 rfl (lv_at hl 2 rfl) ?_
      obtain ⟨hs, hf⟩ := gCk_b hf
      refine g_cBI hI hf (fun v9 h9 e9 l9 l9' => g_rV X hI l9 l9' ⟨Nat.le_refl _, Nat.le_refl _⟩ (As := [.int x2]) (m_X8_readLawLine X.2.2.2.2.2.2.2.2.2.2.1 e9) ydX8_readLawLine hs rfl rfl q1690 q1692 qs63 q131 q1693 rfl (Nat.le_of_ble_eq_true rfl) (Nat.le_of_ble_eq_true rfl) hl.1 rfl (Nat.le_of_ble_eq_true rfl) dX8_readLine_35) (fun r101 h H locs cells slots hf hI => ?_)
      refine lv_if_eq (tgt := 45) hx hb dX8_readLine_38 (by decide) (fun c38 => ?_) (fun c38 => ?_)
      · have hf := g_t c38 hf
        exact b_X8_readLine_45 X _ _ _ _ _ _ hf hI (lv_sub hl [] rfl)
      · have hf := g_f c38 hf
        exact b_X8_readLine_41 X _ _ _ _ _ _ hf hI (lv_sub hl [] rfl)
    · have hf := g_f c20 hf
      refine lv_aload_n hx hb dX8_readLine_23 rfl (lv_at hl 0 rfl) ?_
      obtain ⟨hs, hf⟩ := gCk_b hf
      refine g_cBI hI hf (fun v9 h9 e9 l9 l9' => g_rV X hI l9 l9' ⟨Nat.le_refl _, Nat.le_refl _⟩ (As := []) (m_X8_readCourtLine X.2.2.2.2.2.2.2.2.2.2.1 e9) ydX8_readCourtLine hs rfl rfl q1611 q1613 qs50 q131 q1614 rfl (Nat.le_of_ble_eq_true rfl) (Nat.le_of_ble_eq_true rfl) hl.1 rfl (Nat.le_of_ble_eq_true rfl) dX8_readLine_24) (fun r102 h H locs cells slots hf hI => ?_)
      refine lv_if_eq (tgt := 45) hx hb dX8_readLine_27 (by decide) (fun c27 => ?_) (fun c27 => ?_)
      · have hf := g_t c27 hf
        exact b_X8_readLine_45 X _ _ _ _ _ _ hf hI (lv_sub hl [] rfl)
      · have hf := g_f c27 hf
        refine lv_goto (tgt := 41) hx hb dX8_readLine_30 (by decide) ?_
        exact b_X8_readLine_41 X _ _ _ _ _ _ hf hI (lv_sub hl [] rfl)
def f_X8_readLine (a0 : Nat) (x1 : Int32) (x2 : Int32) : gM Int32 :=
    gB (gCk a0 7) fun _ =>
    gB (f_X8_letters a0) fun _ =>
    gIf (x1 = 0)
    (f_X8_readLine_16 a0 x1 x2 x2 (12 : Int32))
    (f_X8_readLine_16 a0 x1 x2 x2 (14 : Int32))
set_option maxHeartbeats 4000000 in
set_option maxRecDepth 100000 in
theorem m_X8_readLine {G : gG} {l : Launch} (hfl : l.stackTraces = false) {a0 : Nat} {x1 : Int32} {x2 : Int32} {h h' : g_H} {r : Int32} (hf : (f_X8_readLine a0 x1 x2).1 h = some (r, h')) : gMet G l yX8_readLine (Cond.code yX8_readLine cX8_readLine 3 (some .boolean)) 242 4818 [.ref a0, .int x1, .int x2] h (.inl (g_wI r)) h' := by
  refine g_head hfl ((f_X8_readLine a0 x1 x2).2 h r h' hf) (plainFor_of_name (by decide)) (Nat.le_of_ble_eq_true rfl) (fun p e s m below meth c H locs cells slots ls X hI hl9 => ?_)
  have hl : lv_has ls 3 [(0, .ref a0), (1, .int x1), (2, .int x2)] := hl9
  have hx := X.1
  have hb := X.2.1
  have hown := X.2.2.2.1
  have hts := X.2.2.2.2.1
  unfold f_X8_readLine at hf
  refine lv_aload_n hx hb dX8_readLine_0 rfl (lv_at hl 0 rfl) ?_
  obtain ⟨hs, hf⟩ := gCk_b hf
  refine g_cBU hI hf (fun v9 h9 e9 l9 l9' => g_rV X hI l9 l9' ⟨Nat.le_refl _, Nat.le_refl _⟩ (As := []) (m_X8_letters X.2.2.2.2.2.2.2.2.2.2.1 e9) ydX8_letters hs rfl rfl q1607 q1609 qs49 q131 q1610 rfl (Nat.le_of_ble_eq_true rfl) (Nat.le_of_ble_eq_true rfl) hl.1 rfl (Nat.le_of_ble_eq_true rfl) dX8_readLine_1) (fun r1 h H locs cells slots hf hI => ?_)
  refine lv_iload_n hx hb dX8_readLine_4 rfl (lv_at hl 2 rfl) ?_
  refine lv_iload_n hx hb dX8_readLine_5 rfl (lv_at hl 1 rfl) ?_
  refine lv_if_eq (tgt := 14) hx hb dX8_readLine_6 (by decide) (fun c6 => ?_) (fun c6 => ?_)
  · have hf := g_t c6 hf
    refine lv_bipush (v := (12 : Int32)) hx hb dX8_readLine_14 (by decide) ?_
    exact b_X8_readLine_16 X _ _ _ _ _ _ _ _ _ _ _ hf hI (lv_sub hl [0, 1, 2] rfl)
  · have hf := g_f c6 hf
    refine lv_bipush (v := (14 : Int32)) hx hb dX8_readLine_9 (by decide) ?_
    refine lv_goto (tgt := 16) hx hb dX8_readLine_11 (by decide) ?_
    exact b_X8_readLine_16 X _ _ _ _ _ _ _ _ _ _ _ hf hI (lv_sub hl [0, 1, 2] rfl)
/-! X8_readAll -/
abbrev w_X8_readAll_37 (G : gG) (l : Launch) (p : Program) (e : Env) (s : State) (m : MethodId) (args : Array Value) (below : List Frame) (meth : Method) (c : Code) (h0 : g_H) (r : Int32) (h' : g_H) (k : gM Int32) : Prop := ∀ (h : g_H) (H : Heap) (locs : List Loc) (cells slots : Nat) (ls : Array Slot), (k).1 h = some (r, h') → gI G h0 h H locs cells slots → lv_has ls 3 [] → W p l e (g_rm 243 4840 h0 h') s m args below meth c H locs cells slots (gQ G below args s h0 h' (.inl (g_wI r))) (F0 m 37 ls [])
abbrev w_X8_readAll_54 (G : gG) (l : Launch) (p : Program) (e : Env) (s : State) (m : MethodId) (args : Array Value) (below : List Frame) (meth : Method) (c : Code) (h0 : g_H) (r : Int32) (h' : g_H) (k : Int32 → gM Int32) : Prop := ∀ (x2 : Int32) (h : g_H) (H : Heap) (locs : List Loc) (cells slots : Nat) (ls : Array Slot), (k x2).1 h = some (r, h') → gI G h0 h H locs cells slots → lv_has ls 3 [(2, .int x2)] → W p l e (g_rm 243 4840 h0 h') s m args below meth c H locs cells slots (gQ G below args s h0 h' (.inl (g_wI r))) (F0 m 54 ls [])
abbrev w_X8_readAll_69 (G : gG) (l : Launch) (p : Program) (e : Env) (s : State) (m : MethodId) (args : Array Value) (below : List Frame) (meth : Method) (c : Code) (h0 : g_H) (r : Int32) (h' : g_H) (k : gM Int32) : Prop := ∀ (h : g_H) (H : Heap) (locs : List Loc) (cells slots : Nat) (ls : Array Slot), (k).1 h = some (r, h') → gI G h0 h H locs cells slots → lv_has ls 3 [] → W p l e (g_rm 243 4840 h0 h') s m args below meth c H locs cells slots (gQ G below args s h0 h' (.inl (g_wI r))) (F0 m 69 ls [])
abbrev w_X8_readAll_28 (G : gG) (l : Launch) (p : Program) (e : Env) (s : State) (m : MethodId) (args : Array Value) (below : List Frame) (meth : Method) (c : Code) (h0 : g_H) (r : Int32) (h' : g_H) (k : Nat → Int32 → Int32 → gM Int32) : Prop := ∀ (a0 : Nat) (x1 : Int32) (x2 : Int32) (h : g_H) (H : Heap) (locs : List Loc) (cells slots : Nat) (ls : Array Slot), (k a0 x1 x2).1 h = some (r, h') → gI G h0 h H locs cells slots → lv_has ls 3 [(0, .ref a0), (1, .int x1), (2, .int x2)] → W p l e (g_rm 243 4840 h0 h') s m args below meth c H locs cells slots (gQ G below args s h0 h' (.inl (g_wI r))) (F0 m 28 ls [])
def f_X8_readAll_37 : gM Int32 :=
    (gRet (-1 : Int32))
set_option maxHeartbeats 4000000 in
set_option maxRecDepth 100000 in
theorem b_X8_readAll_37 {G : gG} {l : Launch} {p : Program} {e : Env} {s : State} {m : MethodId} {args : Array Value} {below : List Frame} {meth : Method} {c : Code} {h0 : g_H} {r : Int32} {h' : g_H} (X : gX G l yX8_readAll.cls cX8_readAll 3 (some .int) [] yX8_readAll.name p s m args meth c) : w_X8_readAll_37 G l p e s m args below meth c h0 r h' (f_X8_readAll_37) := by
  have hx := X.1
  have hb := X.2.1
  have hown := X.2.2.2.1
  have hts := X.2.2.2.2.1
  intro h H locs cells slots ls hf hI hl
  unfold f_X8_readAll_37 at hf
  refine lv_iconst (v := (-1 : Int32)) hx hb dX8_readAll_37 (by decide) ?_
  cases gRet_e hf
  exact g_retI X hI rfl dX8_readAll_38
def f_X8_readAll_54 (x2 : Int32) : gM Int32 :=
    (gRet (x2 + (1 : Int32)))
set_option maxHeartbeats 4000000 in
set_option maxRecDepth 100000 in
theorem b_X8_readAll_54 {G : gG} {l : Launch} {p : Program} {e : Env} {s : State} {m : MethodId} {args : Array Value} {below : List Frame} {meth : Method} {c : Code} {h0 : g_H} {r : Int32} {h' : g_H} (X : gX G l yX8_readAll.cls cX8_readAll 3 (some .int) [] yX8_readAll.name p s m args meth c) : w_X8_readAll_54 G l p e s m args below meth c h0 r h' (f_X8_readAll_54) := by
  have hx := X.1
  have hb := X.2.1
  have hown := X.2.2.2.1
  have hts := X.2.2.2.2.1
  intro x2 h H locs cells slots ls hf hI hl
  unfold f_X8_readAll_54 at hf
  refine lv_iload_n hx hb dX8_readAll_54 rfl (lv_at hl 0 rfl) ?_
  refine lv_iconst (v := (1 : Int32)) hx hb dX8_readAll_55 (by decide) ?_
  refine lv_iadd hx hb dX8_readAll_56 ?_
  cases gRet_e hf
  exact g_retI X hI rfl dX8_readAll_57
def f_X8_readAll_69 : gM Int32 :=
    (gRet (-1 : Int32))
set_option maxHeartbeats 4000000 in
set_option maxRecDepth 100000 in
theorem b_X8_readAll_69 {G : gG} {l : Launch} {p : Program} {e : Env} {s : State} {m : MethodId} {args : Array Value} {below : List Frame} {meth : Method} {c : Code} {h0 : g_H} {r : Int32} {h' : g_H} (X : gX G l yX8_readAll.cls cX8_readAll 3 (some .int) [] yX8_readAll.name p s m args meth c) : w_X8_readAll_69 G l p e s m args below meth c h0 r h' (f_X8_readAll_69) := by
  have hx := X.1
  have hb := X.2.1
  have hown := X.2.2.2.1
  have hts := X.2.2.2.2.1
  intro h H locs cells slots ls hf hI hl
  unfold f_X8_readAll_69 at hf
  refine lv_iconst (v := (-1 : Int32)) hx hb dX8_readAll_69 (by decide) ?_
  cases gRet_e hf
  exact g_retI X hI rfl dX8_readAll_70
def f_X8_readAll_28 : Nat → Nat → Int32 → Int32 → gM Int32
  | 0, _, _, _ => gFail
  | n + 1, a0, x1, x2 =>
    gB (gCk a0 7) fun _ =>
    gB (f_X8_readLine a0 x1 x2) fun r101 =>
    gIf (r101 = 0)
    (f_X8_readAll_37)
    (gB (gCk a0 7) fun _ =>
    gB (f_X8_blanks a0) fun _ =>
    gB (gFI a0 7 10) fun v103 =>
    gB (gFI a0 7 11) fun v104 =>
    gIf (v103 = v104)
    (f_X8_readAll_54 x2)
    (gB (gCk a0 7) fun _ =>
    gB (f_X8_isAt a0 (59 : Int32) (59 : Int32)) fun r105 =>
    gIf (r105 = 0)
    (f_X8_readAll_69)
    (gB (gFI a0 7 10) fun v106 =>
    gB (gPI a0 7 10 (v106 + (1 : Int32))) fun _ =>
    f_X8_readAll_28 n a0 x1 (x2 + (1 : Int32)))))
set_option maxHeartbeats 4000000 in
set_option maxRecDepth 100000 in
theorem b_X8_readAll_28 {G : gG} {l : Launch} {p : Program} {e : Env} {s : State} {m : MethodId} {args : Array Value} {below : List Frame} {meth : Method} {c : Code} {h0 : g_H} {r : Int32} {h' : g_H} (X : gX G l yX8_readAll.cls cX8_readAll 3 (some .int) [] yX8_readAll.name p s m args meth c) : ∀ n : Nat, w_X8_readAll_28 G l p e s m args below meth c h0 r h' (f_X8_readAll_28 n) := by
  have hx := X.1
  have hb := X.2.1
  have hown := X.2.2.2.1
  have hts := X.2.2.2.2.1
  intro n
  induction n with
  | zero =>
    intro a0 x1 x2 h H locs cells slots ls hf hI hl
    exact (gFail_f hf).elim
  | succ n ih =>
    intro a0 x1 x2 h H locs cells slots ls hf hI hl
    rw [f_X8_readAll_28] at hf
    refine lv_aload_n hx hb dX8_readAll_28 rfl (lv_at hl 0 rfl) ?_
    refine lv_iload_n hx hb dX8_readAll_29 rfl (lv_at hl 1 rfl) ?_
    refine lv_iload_n hx hb dX8_readAll_30 rfl (lv_at hl 2 rfl) ?_
    obtain ⟨hs, hf⟩ := gCk_b hf
    refine g_cBI hI hf (fun v9 h9 e9 l9 l9' => g_rV X hI l9 l9' ⟨Nat.le_refl _, Nat.le_refl _⟩ (As := [.int x1, .int x2]) (m_X8_readLine X.2.2.2.2.2.2.2.2.2.2.1 e9) ydX8_readLine hs rfl rfl q1603 q1605 qs48 q131 q1606 rfl (Nat.le_of_ble_eq_true rfl) (Nat.le_of_ble_eq_true rfl) hl.1 rfl (Nat.le_of_ble_eq_true rfl) dX8_readAll_31) (fun r101 h H locs cells slots hf hI => ?_)
    refine lv_if_ne (tgt := 39) hx hb dX8_readAll_34 (by decide) (fun c34 => ?_) (fun c34 => ?_)
    · have hf := g_f c34 hf
      refine lv_aload_n hx hb dX8_readAll_39 rfl (lv_at hl 0 rfl) ?_
      obtain ⟨hs, hf⟩ := gCk_b hf
      refine g_cBU hI hf (fun v9 h9 e9 l9 l9' => g_rV X hI l9 l9' ⟨Nat.le_refl _, Nat.le_refl _⟩ (As := []) (m_X8_blanks X.2.2.2.2.2.2.2.2.2.2.1 e9) ydX8_blanks hs rfl rfl q1595 q1597 qs46 q131 q1598 rfl (Nat.le_of_ble_eq_true rfl) (Nat.le_of_ble_eq_true rfl) hl.1 rfl (Nat.le_of_ble_eq_true rfl) dX8_readAll_40) (fun r102 h H locs cells slots hf hI => ?_)
      refine lv_aload_n hx hb dX8_readAll_43 rfl (lv_at hl 0 rfl) ?_
      refine g_fi X hI hf fX8_10 q1454 rfl rfl dX8_readAll_44 (fun v103 hf => ?_)
      refine lv_aload_n hx hb dX8_readAll_47 rfl (lv_at hl 0 rfl) ?_
      refine g_fi X hI hf fX8_11 q1455 rfl rfl dX8_readAll_48 (fun v104 hf => ?_)
      refine lv_icmp_ne (tgt := 58) hx hb dX8_readAll_51 (by decide) (fun c51 => ?_) (fun c51 => ?_)
      · have hf := g_f c51 hf
        refine lv_aload_n hx hb dX8_readAll_58 rfl (lv_at hl 0 rfl) ?_
        refine lv_bipush (v := (59 : Int32)) hx hb dX8_readAll_59 (by decide) ?_
        refine lv_bipush (v := (59 : Int32)) hx hb dX8_readAll_61 (by decide) ?_
        obtain ⟨hs, hf⟩ := gCk_b hf
        refine g_cBI hI hf (fun v9 h9 e9 l9 l9' => g_rV X hI l9 l9' ⟨Nat.le_refl _, Nat.le_refl _⟩ (As := [.int (59 : Int32), .int (59 : Int32)]) (m_X8_isAt X.2.2.2.2.2.2.2.2.2.2.1 e9) ydX8_isAt hs rfl rfl q1599 q1601 qs47 q131 q1602 rfl (Nat.le_of_ble_eq_true rfl) (Nat.le_of_ble_eq_true rfl) hl.1 rfl (Nat.le_of_ble_eq_true rfl) dX8_readAll_63) (fun r105 h H locs cells slots hf hI => ?_)
        refine lv_if_ne (tgt := 71) hx hb dX8_readAll_66 (by decide) (fun c66 => ?_) (fun c66 => ?_)
        · have hf := g_f c66 hf
          refine lv_aload_n hx hb dX8_readAll_71 rfl (lv_at hl 0 rfl) ?_
          refine lv_dup hx hb dX8_readAll_72 rfl ?_
          refine g_fi X hI hf fX8_10 q1454 rfl rfl dX8_readAll_73 (fun v106 hf => ?_)
          refine lv_iconst (v := (1 : Int32)) hx hb dX8_readAll_76 (by decide) ?_
          refine lv_iadd hx hb dX8_readAll_77 ?_
          refine g_pi X hI hf fX8_10 q1454 rfl dX8_readAll_78 (fun h H locs hf hI => ?_)
          refine lv_iinc (v := (x2 + (1 : Int32))) (lv' := [(2, .int (x2 + (1 : Int32))), (0, .ref a0), (1, .int x1)]) hx hb dX8_readAll_81 hl (k := 2) rfl rfl (by decide) rfl (fun ls hl => ?_)
          refine lv_goto (tgt := 28) hx hb dX8_readAll_84 (by decide) ?_
          exact ih _ _ _ _ _ _ _ _ _ hf hI (lv_sub hl [1, 2, 0] rfl)
        · have hf := g_t c66 hf
          exact b_X8_readAll_69 X _ _ _ _ _ _ hf hI (lv_sub hl [] rfl)
      · have hf := g_t c51 hf
        exact b_X8_readAll_54 X _ _ _ _ _ _ _ hf hI (lv_sub hl [2] rfl)
    · have hf := g_t c34 hf
      exact b_X8_readAll_37 X _ _ _ _ _ _ hf hI (lv_sub hl [] rfl)
def f_X8_readAll (a0 : Nat) (x1 : Int32) : gM Int32 :=
    gB (gCk a0 7) fun _ =>
    gB (f_X8_uses a0) fun _ =>
    gB (gPI a0 7 16 (0 : Int32)) fun _ =>
    gB (gCk a0 7) fun _ =>
    gB (f_X8_blanks a0) fun _ =>
    gB (gFI a0 7 10) fun v3 =>
    gB (gFI a0 7 11) fun v4 =>
    gIf (v3 = v4)
    ((gRet (0 : Int32)))
    (f_X8_readAll_28 gN a0 x1 (0 : Int32))
set_option maxHeartbeats 4000000 in
set_option maxRecDepth 100000 in
theorem m_X8_readAll {G : gG} {l : Launch} (hfl : l.stackTraces = false) {a0 : Nat} {x1 : Int32} {h h' : g_H} {r : Int32} (hf : (f_X8_readAll a0 x1).1 h = some (r, h')) : gMet G l yX8_readAll (Cond.code yX8_readAll cX8_readAll 3 (some .int)) 243 4840 [.ref a0, .int x1] h (.inl (g_wI r)) h' := by
  refine g_head hfl ((f_X8_readAll a0 x1).2 h r h' hf) (plainFor_of_name (by decide)) (Nat.le_of_ble_eq_true rfl) (fun p e s m below meth c H locs cells slots ls X hI hl9 => ?_)
  have hl : lv_has ls 3 [(0, .ref a0), (1, .int x1)] := hl9
  have hx := X.1
  have hb := X.2.1
  have hown := X.2.2.2.1
  have hts := X.2.2.2.2.1
  unfold f_X8_readAll at hf
  refine lv_aload_n hx hb dX8_readAll_0 rfl (lv_at hl 0 rfl) ?_
  obtain ⟨hs, hf⟩ := gCk_b hf
  refine g_cBU hI hf (fun v9 h9 e9 l9 l9' => g_rV X hI l9 l9' ⟨Nat.le_refl _, Nat.le_refl _⟩ (As := []) (m_X8_uses X.2.2.2.2.2.2.2.2.2.2.1 e9) ydX8_uses hs rfl rfl q1591 q1593 qs45 q131 q1594 rfl (Nat.le_of_ble_eq_true rfl) (Nat.le_of_ble_eq_true rfl) hl.1 rfl (Nat.le_of_ble_eq_true rfl) dX8_readAll_1) (fun r1 h H locs cells slots hf hI => ?_)
  refine lv_aload_n hx hb dX8_readAll_4 rfl (lv_at hl 0 rfl) ?_
  refine lv_iconst (v := (0 : Int32)) hx hb dX8_readAll_5 (by decide) ?_
  refine g_pi X hI hf fX8_16 q1460 rfl dX8_readAll_6 (fun h H locs hf hI => ?_)
  refine lv_aload_n hx hb dX8_readAll_9 rfl (lv_at hl 0 rfl) ?_
  obtain ⟨hs, hf⟩ := gCk_b hf
  refine g_cBU hI hf (fun v9 h9 e9 l9 l9' => g_rV X hI l9 l9' ⟨Nat.le_refl _, Nat.le_refl _⟩ (As := []) (m_X8_blanks X.2.2.2.2.2.2.2.2.2.2.1 e9) ydX8_blanks hs rfl rfl q1595 q1597 qs46 q131 q1598 rfl (Nat.le_of_ble_eq_true rfl) (Nat.le_of_ble_eq_true rfl) hl.1 rfl (Nat.le_of_ble_eq_true rfl) dX8_readAll_10) (fun r2 h H locs cells slots hf hI => ?_)
  refine lv_aload_n hx hb dX8_readAll_13 rfl (lv_at hl 0 rfl) ?_
  refine g_fi X hI hf fX8_10 q1454 rfl rfl dX8_readAll_14 (fun v3 hf => ?_)
  refine lv_aload_n hx hb dX8_readAll_17 rfl (lv_at hl 0 rfl) ?_
  refine g_fi X hI hf fX8_11 q1455 rfl rfl dX8_readAll_18 (fun v4 hf => ?_)
  refine lv_icmp_ne (tgt := 26) hx hb dX8_readAll_21 (by decide) (fun c21 => ?_) (fun c21 => ?_)
  · have hf := g_f c21 hf
    refine lv_iconst (v := (0 : Int32)) hx hb dX8_readAll_26 (by decide) ?_
    refine lv_istore_n (lv' := [(2, .int (0 : Int32)), (0, .ref a0), (1, .int x1)]) hx hb dX8_readAll_27 rfl hl (by decide) rfl (fun ls hl => ?_)
    exact b_X8_readAll_28 X gN _ _ _ _ _ _ _ _ _ hf hI (lv_sub hl [1, 2, 0] rfl)
  · have hf := g_t c21 hf
    refine lv_iconst (v := (0 : Int32)) hx hb dX8_readAll_24 (by decide) ?_
    cases gRet_e hf
    exact g_retI X hI rfl dX8_readAll_25
/-! X8_law -/
abbrev w_X8_law_85 (G : gG) (l : Launch) (p : Program) (e : Env) (s : State) (m : MethodId) (args : Array Value) (below : List Frame) (meth : Method) (c : Code) (h0 : g_H) (r : Int32) (h' : g_H) (k : Nat → Int32 → gM Int32) : Prop := ∀ (a0 : Nat) (x1 : Int32) (h : g_H) (H : Heap) (locs : List Loc) (cells slots : Nat) (ls : Array Slot), (k a0 x1).1 h = some (r, h') → gI G h0 h H locs cells slots → lv_has ls 3 [(0, .ref a0), (1, .int x1)] → W p l e (g_rm 244 4862 h0 h') s m args below meth c H locs cells slots (gQ G below args s h0 h' (.inl (g_wI r))) (F0 m 85 ls [])
abbrev w_X8_law_52 (G : gG) (l : Launch) (p : Program) (e : Env) (s : State) (m : MethodId) (args : Array Value) (below : List Frame) (meth : Method) (c : Code) (h0 : g_H) (r : Int32) (h' : g_H) (k : Nat → Int32 → Int32 → gM Int32) : Prop := ∀ (a0 : Nat) (x1 : Int32) (x2 : Int32) (h : g_H) (H : Heap) (locs : List Loc) (cells slots : Nat) (ls : Array Slot), (k a0 x1 x2).1 h = some (r, h') → gI G h0 h H locs cells slots → lv_has ls 3 [(0, .ref a0), (1, .int x1), (2, .int x2)] → W p l e (g_rm 244 4862 h0 h') s m args below meth c H locs cells slots (gQ G below args s h0 h' (.inl (g_wI r))) (F0 m 52 ls [])
abbrev w_X8_law_32 (G : gG) (l : Launch) (p : Program) (e : Env) (s : State) (m : MethodId) (args : Array Value) (below : List Frame) (meth : Method) (c : Code) (h0 : g_H) (r : Int32) (h' : g_H) (k : Nat → Int32 → Nat → Int32 → gM Int32) : Prop := ∀ (a0 : Nat) (x1 : Int32) (b0 : Nat) (u1 : Int32) (h : g_H) (H : Heap) (locs : List Loc) (cells slots : Nat) (ls : Array Slot), (k a0 x1 b0 u1).1 h = some (r, h') → gI G h0 h H locs cells slots → lv_has ls 3 [(0, .ref a0), (1, .int x1)] → W p l e (g_rm 244 4862 h0 h') s m args below meth c H locs cells slots (gQ G below args s h0 h' (.inl (g_wI r))) (F0 m 32 ls [.int u1, .ref b0])
abbrev w_X8_law_19 (G : gG) (l : Launch) (p : Program) (e : Env) (s : State) (m : MethodId) (args : Array Value) (below : List Frame) (meth : Method) (c : Code) (h0 : g_H) (r : Int32) (h' : g_H) (k : Nat → Int32 → Nat → Int32 → gM Int32) : Prop := ∀ (a0 : Nat) (x1 : Int32) (b0 : Nat) (u1 : Int32) (h : g_H) (H : Heap) (locs : List Loc) (cells slots : Nat) (ls : Array Slot), (k a0 x1 b0 u1).1 h = some (r, h') → gI G h0 h H locs cells slots → lv_has ls 3 [(0, .ref a0), (1, .int x1)] → W p l e (g_rm 244 4862 h0 h') s m args below meth c H locs cells slots (gQ G below args s h0 h' (.inl (g_wI r))) (F0 m 19 ls [.int u1, .ref b0])
def f_X8_law_85 (a0 : Nat) (x1 : Int32) : gM Int32 :=
    gB (gFR a0 7 1) fun v101 =>
    gB (gSI v101 0 (3 : Int32) (1 : Int32)) fun _ =>
    gB (gPI a0 7 7 (0 : Int32)) fun _ =>
    (gRet x1)
set_option maxHeartbeats 4000000 in
set_option maxRecDepth 100000 in
theorem b_X8_law_85 {G : gG} {l : Launch} {p : Program} {e : Env} {s : State} {m : MethodId} {args : Array Value} {below : List Frame} {meth : Method} {c : Code} {h0 : g_H} {r : Int32} {h' : g_H} (X : gX G l yX8_law.cls cX8_law 3 (some .int) [] yX8_law.name p s m args meth c) : w_X8_law_85 G l p e s m args below meth c h0 r h' (f_X8_law_85) := by
  have hx := X.1
  have hb := X.2.1
  have hown := X.2.2.2.1
  have hts := X.2.2.2.2.1
  intro a0 x1 h H locs cells slots ls hf hI hl
  unfold f_X8_law_85 at hf
  refine lv_aload_n hx hb dX8_law_85 rfl (lv_at hl 0 rfl) ?_
  refine g_fr X hI hf fX8_1 q1445 rfl rfl dX8_law_86 (fun v101 hf => ?_)
  refine lv_iconst (v := (3 : Int32)) hx hb dX8_law_89 (by decide) ?_
  refine lv_iconst (v := (1 : Int32)) hx hb dX8_law_90 (by decide) ?_
  refine g_si0 X hI hf dX8_law_91 (fun h H locs hf hI => ?_)
  refine lv_aload_n hx hb dX8_law_92 rfl (lv_at hl 0 rfl) ?_
  refine lv_iconst (v := (0 : Int32)) hx hb dX8_law_93 (by decide) ?_
  refine g_pi X hI hf fX8_7 q1451 rfl dX8_law_94 (fun h H locs hf hI => ?_)
  refine lv_iload_n hx hb dX8_law_97 rfl (lv_at hl 1 rfl) ?_
  cases gRet_e hf
  exact g_retI X hI rfl dX8_law_98
def f_X8_law_52 : Nat → Nat → Int32 → Int32 → gM Int32
  | 0, _, _, _ => gFail
  | n + 1, a0, x1, x2 =>
    gIf ((849 : Int32) ≤ x2)
    (f_X8_law_85 a0 x1)
    (gB (gFR a0 7 1) fun v101 =>
    gB (gFR a0 7 1) fun v102 =>
    gB (gAI v102 0 ((1154 : Int32) + x2)) fun v103 =>
    gB (gSI v101 0 ((305 : Int32) + x2) v103) fun _ =>
    f_X8_law_52 n a0 x1 (x2 + (1 : Int32)))
set_option maxHeartbeats 4000000 in
set_option maxRecDepth 100000 in
theorem b_X8_law_52 {G : gG} {l : Launch} {p : Program} {e : Env} {s : State} {m : MethodId} {args : Array Value} {below : List Frame} {meth : Method} {c : Code} {h0 : g_H} {r : Int32} {h' : g_H} (X : gX G l yX8_law.cls cX8_law 3 (some .int) [] yX8_law.name p s m args meth c) : ∀ n : Nat, w_X8_law_52 G l p e s m args below meth c h0 r h' (f_X8_law_52 n) := by
  have hx := X.1
  have hb := X.2.1
  have hown := X.2.2.2.1
  have hts := X.2.2.2.2.1
  intro n
  induction n with
  | zero =>
    intro a0 x1 x2 h H locs cells slots ls hf hI hl
    exact (gFail_f hf).elim
  | succ n ih =>
    intro a0 x1 x2 h H locs cells slots ls hf hI hl
    rw [f_X8_law_52] at hf
    refine lv_iload_n hx hb dX8_law_52 rfl (lv_at hl 2 rfl) ?_
    refine lv_sipush (v := (849 : Int32)) hx hb dX8_law_53 (by decide) ?_
    refine lv_icmp_ge (tgt := 85) hx hb dX8_law_56 (by decide) (fun c56 => ?_) (fun c56 => ?_)
    · have hf := g_t c56 hf
      exact b_X8_law_85 X _ _ _ _ _ _ _ _ hf hI (lv_sub hl [0, 1] rfl)
    · have hf := g_f c56 hf
      refine lv_aload_n hx hb dX8_law_59 rfl (lv_at hl 0 rfl) ?_
      refine g_fr X hI hf fX8_1 q1445 rfl rfl dX8_law_60 (fun v101 hf => ?_)
      refine lv_sipush (v := (305 : Int32)) hx hb dX8_law_63 (by decide) ?_
      refine lv_iload_n hx hb dX8_law_66 rfl (lv_at hl 2 rfl) ?_
      refine lv_iadd hx hb dX8_law_67 ?_
      refine lv_aload_n hx hb dX8_law_68 rfl (lv_at hl 0 rfl) ?_
      refine g_fr X hI hf fX8_1 q1445 rfl rfl dX8_law_69 (fun v102 hf => ?_)
      refine lv_sipush (v := (1154 : Int32)) hx hb dX8_law_72 (by decide) ?_
      refine lv_iload_n hx hb dX8_law_75 rfl (lv_at hl 2 rfl) ?_
      refine lv_iadd hx hb dX8_law_76 ?_
      refine g_ai0 X hI hf dX8_law_77 (fun v103 hf => ?_)
      refine g_si0 X hI hf dX8_law_78 (fun h H locs hf hI => ?_)
      refine lv_iinc (v := (x2 + (1 : Int32))) (lv' := [(2, .int (x2 + (1 : Int32))), (0, .ref a0), (1, .int x1)]) hx hb dX8_law_79 hl (k := 2) rfl rfl (by decide) rfl (fun ls hl => ?_)
      refine lv_goto (tgt := 52) hx hb dX8_law_82 (by decide) ?_
      exact ih _ _ _ _ _ _ _ _ _ hf hI (lv_sub hl [1, 2, 0] rfl)
def f_X8_law_32 (a0 : Nat) (x1 : Int32) (b0 : Nat) (u1 : Int32) : gM Int32 :=
    gB (gCk b0 7) fun _ =>
    gB (f_X8_throwsIf b0 u1 (1 : Int32)) fun r101 =>
    gIf (r101 = 0)
    (gB (gFR a0 7 1) fun v102 =>
    gB (gSI v102 0 (1154 : Int32) x1) fun _ =>
    f_X8_law_52 gN a0 x1 (0 : Int32))
    ((gRet (0 : Int32)))
set_option maxHeartbeats 4000000 in
set_option maxRecDepth 100000 in
theorem b_X8_law_32 {G : gG} {l : Launch} {p : Program} {e : Env} {s : State} {m : MethodId} {args : Array Value} {below : List Frame} {meth : Method} {c : Code} {h0 : g_H} {r : Int32} {h' : g_H} (X : gX G l yX8_law.cls cX8_law 3 (some .int) [] yX8_law.name p s m args meth c) : w_X8_law_32 G l p e s m args below meth c h0 r h' (f_X8_law_32) := by
  have hx := X.1
  have hb := X.2.1
  have hown := X.2.2.2.1
  have hts := X.2.2.2.2.1
  intro a0 x1 b0 u1 h H locs cells slots ls hf hI hl
  unfold f_X8_law_32 at hf
  refine lv_iconst (v := (1 : Int32)) hx hb dX8_law_32 (by decide) ?_
  obtain ⟨hs, hf⟩ := gCk_b hf
  refine g_cBI hI hf (fun v9 h9 e9 l9 l9' => g_rV X hI l9 l9' ⟨Nat.le_refl _, Nat.le_refl _⟩ (As := [.int u1, .int (1 : Int32)]) (m_X8_throwsIf X.2.2.2.2.2.2.2.2.2.2.1 e9) ydX8_throwsIf hs rfl rfl q1736 q1738 qs72 q131 q1739 rfl (Nat.le_of_ble_eq_true rfl) (Nat.le_of_ble_eq_true rfl) hl.1 rfl (Nat.le_of_ble_eq_true rfl) dX8_law_33) (fun r101 h H locs cells slots hf hI => ?_)
  refine lv_if_eq (tgt := 41) hx hb dX8_law_36 (by decide) (fun c36 => ?_) (fun c36 => ?_)
  · have hf := g_t c36 hf
    refine lv_aload_n hx hb dX8_law_41 rfl (lv_at hl 0 rfl) ?_
    refine g_fr X hI hf fX8_1 q1445 rfl rfl dX8_law_42 (fun v102 hf => ?_)
    refine lv_sipush (v := (1154 : Int32)) hx hb dX8_law_45 (by decide) ?_
    refine lv_iload_n hx hb dX8_law_48 rfl (lv_at hl 1 rfl) ?_
    refine g_si0 X hI hf dX8_law_49 (fun h H locs hf hI => ?_)
    refine lv_iconst (v := (0 : Int32)) hx hb dX8_law_50 (by decide) ?_
    refine lv_istore_n (lv' := [(2, .int (0 : Int32)), (0, .ref a0), (1, .int x1)]) hx hb dX8_law_51 rfl hl (by decide) rfl (fun ls hl => ?_)
    exact b_X8_law_52 X gN _ _ _ _ _ _ _ _ _ hf hI (lv_sub hl [1, 2, 0] rfl)
  · have hf := g_f c36 hf
    refine lv_iconst (v := (0 : Int32)) hx hb dX8_law_39 (by decide) ?_
    cases gRet_e hf
    exact g_retI X hI rfl dX8_law_40
def f_X8_law_19 (a0 : Nat) (x1 : Int32) (b0 : Nat) (u1 : Int32) : gM Int32 :=
    gB (gPI b0 7 14 u1) fun _ =>
    gIf (0 ≤ x1)
    (f_X8_law_32 a0 x1 a0 (0 : Int32))
    (f_X8_law_32 a0 x1 a0 (1 : Int32))
set_option maxHeartbeats 4000000 in
set_option maxRecDepth 100000 in
theorem b_X8_law_19 {G : gG} {l : Launch} {p : Program} {e : Env} {s : State} {m : MethodId} {args : Array Value} {below : List Frame} {meth : Method} {c : Code} {h0 : g_H} {r : Int32} {h' : g_H} (X : gX G l yX8_law.cls cX8_law 3 (some .int) [] yX8_law.name p s m args meth c) : w_X8_law_19 G l p e s m args below meth c h0 r h' (f_X8_law_19) := by
  have hx := X.1
  have hb := X.2.1
  have hown := X.2.2.2.1
  have hts := X.2.2.2.2.1
  intro a0 x1 b0 u1 h H locs cells slots ls hf hI hl
  unfold f_X8_law_19 at hf
  refine g_pi X hI hf fX8_14 q1458 rfl dX8_law_19 (fun h H locs hf hI => ?_)
  refine lv_aload_n hx hb dX8_law_22 rfl (lv_at hl 0 rfl) ?_
  refine lv_iload_n hx hb dX8_law_23 rfl (lv_at hl 1 rfl) ?_
  refine lv_if_ge (tgt := 31) hx hb dX8_law_24 (by decide) (fun c24 => ?_) (fun c24 => ?_)
  · have hf := g_t c24 hf
    refine lv_iconst (v := (0 : Int32)) hx hb dX8_law_31 (by decide) ?_
    exact b_X8_law_32 X _ _ _ _ _ _ _ _ _ _ hf hI (lv_sub hl [0, 1] rfl)
  · have hf := g_f c24 hf
    refine lv_iconst (v := (1 : Int32)) hx hb dX8_law_27 (by decide) ?_
    refine lv_goto (tgt := 32) hx hb dX8_law_28 (by decide) ?_
    exact b_X8_law_32 X _ _ _ _ _ _ _ _ _ _ hf hI (lv_sub hl [0, 1] rfl)
def f_X8_law (a0 : Nat) : gM Int32 :=
    gB (gCk a0 7) fun _ =>
    gB (f_X8_readAll a0 (0 : Int32)) fun r1 =>
    gIf (0 ≤ r1)
    (f_X8_law_19 a0 r1 a0 (-1 : Int32))
    (gB (gFI a0 7 12) fun v2 =>
    f_X8_law_19 a0 r1 a0 v2)
set_option maxHeartbeats 4000000 in
set_option maxRecDepth 100000 in
theorem m_X8_law {G : gG} {l : Launch} (hfl : l.stackTraces = false) {a0 : Nat} {h h' : g_H} {r : Int32} (hf : (f_X8_law a0).1 h = some (r, h')) : gMet G l yX8_law (Cond.code yX8_law cX8_law 3 (some .int)) 244 4862 [.ref a0] h (.inl (g_wI r)) h' := by
  refine g_head hfl ((f_X8_law a0).2 h r h' hf) (plainFor_of_name (by decide)) (Nat.le_of_ble_eq_true rfl) (fun p e s m below meth c H locs cells slots ls X hI hl9 => ?_)
  have hl : lv_has ls 3 [(0, .ref a0)] := hl9
  have hx := X.1
  have hb := X.2.1
  have hown := X.2.2.2.1
  have hts := X.2.2.2.2.1
  unfold f_X8_law at hf
  refine lv_aload_n hx hb dX8_law_0 rfl (lv_at hl 0 rfl) ?_
  refine lv_iconst (v := (0 : Int32)) hx hb dX8_law_1 (by decide) ?_
  obtain ⟨hs, hf⟩ := gCk_b hf
  refine g_cBI hI hf (fun v9 h9 e9 l9 l9' => g_rV X hI l9 l9' ⟨Nat.le_refl _, Nat.le_refl _⟩ (As := [.int (0 : Int32)]) (m_X8_readAll X.2.2.2.2.2.2.2.2.2.2.1 e9) ydX8_readAll hs rfl rfl q1587 q1589 qs44 q131 q1590 rfl (Nat.le_of_ble_eq_true rfl) (Nat.le_of_ble_eq_true rfl) hl.1 rfl (Nat.le_of_ble_eq_true rfl) dX8_law_2) (fun r1 h H locs cells slots hf hI => ?_)
  refine lv_istore_n (lv' := [(1, .int r1), (0, .ref a0)]) hx hb dX8_law_5 rfl hl (by decide) rfl (fun ls hl => ?_)
  refine lv_aload_n hx hb dX8_law_6 rfl (lv_at hl 1 rfl) ?_
  refine lv_iload_n hx hb dX8_law_7 rfl (lv_at hl 0 rfl) ?_
  refine lv_if_ge (tgt := 18) hx hb dX8_law_8 (by decide) (fun c8 => ?_) (fun c8 => ?_)
  · have hf := g_t c8 hf
    refine lv_iconst (v := (-1 : Int32)) hx hb dX8_law_18 (by decide) ?_
    exact b_X8_law_19 X _ _ _ _ _ _ _ _ _ _ hf hI (lv_sub hl [1, 0] rfl)
  · have hf := g_f c8 hf
    refine lv_aload_n hx hb dX8_law_11 rfl (lv_at hl 1 rfl) ?_
    refine g_fi X hI hf fX8_12 q1456 rfl rfl dX8_law_12 (fun v2 hf => ?_)
    refine lv_goto (tgt := 19) hx hb dX8_law_15 (by decide) ?_
    exact b_X8_law_19 X _ _ _ _ _ _ _ _ _ _ hf hI (lv_sub hl [1, 0] rfl)
/-! X2_letters -/
abbrev w_X2_letters_82 (G : gG) (l : Launch) (p : Program) (e : Env) (s : State) (m : MethodId) (args : Array Value) (below : List Frame) (meth : Method) (c : Code) (h0 : g_H) (r : (Int32 ⊕ gE)) (h' : g_H) (k : Nat → Int32 → Int32 → Int32 → Int32 → gM (Int32 ⊕ gE)) : Prop := ∀ (a0 : Nat) (x1 : Int32) (x2 : Int32) (x3 : Int32) (x4 : Int32) (h : g_H) (H : Heap) (locs : List Loc) (cells slots : Nat) (ls : Array Slot), (k a0 x1 x2 x3 x4).1 h = some (r, h') → gI G h0 h H locs cells slots → lv_has ls 5 [(0, .ref a0), (1, .int x1), (2, .int x2), (3, .int x3), (4, .int x4)] → W p l e (g_rm 3 61 h0 h') s m args below meth c H locs cells slots (gQ G below args s h0 h' (g_w g_wI r)) (F0 m 82 ls [])
abbrev w_X2_letters_77 (G : gG) (l : Launch) (p : Program) (e : Env) (s : State) (m : MethodId) (args : Array Value) (below : List Frame) (meth : Method) (c : Code) (h0 : g_H) (r : (Int32 ⊕ gE)) (h' : g_H) (k : Nat → Int32 → Int32 → Int32 → Int32 → gM (Int32 ⊕ gE)) : Prop := ∀ (a0 : Nat) (x1 : Int32) (x2 : Int32) (x3 : Int32) (x4 : Int32) (h : g_H) (H : Heap) (locs : List Loc) (cells slots : Nat) (ls : Array Slot), (k a0 x1 x2 x3 x4).1 h = some (r, h') → gI G h0 h H locs cells slots → lv_has ls 5 [(0, .ref a0), (1, .int x1), (2, .int x2), (3, .int x3), (4, .int x4)] → W p l e (g_rm 3 61 h0 h') s m args below meth c H locs cells slots (gQ G below args s h0 h' (g_w g_wI r)) (F0 m 77 ls [])
abbrev w_X2_letters_123 (G : gG) (l : Launch) (p : Program) (e : Env) (s : State) (m : MethodId) (args : Array Value) (below : List Frame) (meth : Method) (c : Code) (h0 : g_H) (r : (Int32 ⊕ gE)) (h' : g_H) (k : Int32 → gM (Int32 ⊕ gE)) : Prop := ∀ (x3 : Int32) (h : g_H) (H : Heap) (locs : List Loc) (cells slots : Nat) (ls : Array Slot), (k x3).1 h = some (r, h') → gI G h0 h H locs cells slots → lv_has ls 5 [(3, .int x3)] → W p l e (g_rm 3 61 h0 h') s m args below meth c H locs cells slots (gQ G below args s h0 h' (g_w g_wI r)) (F0 m 123 ls [])
abbrev w_X2_letters_118 (G : gG) (l : Launch) (p : Program) (e : Env) (s : State) (m : MethodId) (args : Array Value) (below : List Frame) (meth : Method) (c : Code) (h0 : g_H) (r : (Int32 ⊕ gE)) (h' : g_H) (k : Nat → Int32 → Int32 → gM (Int32 ⊕ gE)) : Prop := ∀ (a0 : Nat) (x2 : Int32) (x3 : Int32) (h : g_H) (H : Heap) (locs : List Loc) (cells slots : Nat) (ls : Array Slot), (k a0 x2 x3).1 h = some (r, h') → gI G h0 h H locs cells slots → lv_has ls 5 [(0, .ref a0), (2, .int x2), (3, .int x3)] → W p l e (g_rm 3 61 h0 h') s m args below meth c H locs cells slots (gQ G below args s h0 h' (g_w g_wI r)) (F0 m 118 ls [])
abbrev w_X2_letters_102 (G : gG) (l : Launch) (p : Program) (e : Env) (s : State) (m : MethodId) (args : Array Value) (below : List Frame) (meth : Method) (c : Code) (h0 : g_H) (r : (Int32 ⊕ gE)) (h' : g_H) (k : Nat → Int32 → Int32 → Int32 → gM (Int32 ⊕ gE)) : Prop := ∀ (a0 : Nat) (x1 : Int32) (x2 : Int32) (x3 : Int32) (h : g_H) (H : Heap) (locs : List Loc) (cells slots : Nat) (ls : Array Slot), (k a0 x1 x2 x3).1 h = some (r, h') → gI G h0 h H locs cells slots → lv_has ls 5 [(0, .ref a0), (1, .int x1), (2, .int x2), (3, .int x3)] → W p l e (g_rm 3 61 h0 h') s m args below meth c H locs cells slots (gQ G below args s h0 h' (g_w g_wI r)) (F0 m 102 ls [])
abbrev w_X2_letters_7 (G : gG) (l : Launch) (p : Program) (e : Env) (s : State) (m : MethodId) (args : Array Value) (below : List Frame) (meth : Method) (c : Code) (h0 : g_H) (r : (Int32 ⊕ gE)) (h' : g_H) (k : Nat → Int32 → Int32 → Int32 → gM (Int32 ⊕ gE)) : Prop := ∀ (a0 : Nat) (x1 : Int32) (x2 : Int32) (x3 : Int32) (h : g_H) (H : Heap) (locs : List Loc) (cells slots : Nat) (ls : Array Slot), (k a0 x1 x2 x3).1 h = some (r, h') → gI G h0 h H locs cells slots → lv_has ls 5 [(0, .ref a0), (1, .int x1), (2, .int x2), (3, .int x3)] → W p l e (g_rm 3 61 h0 h') s m args below meth c H locs cells slots (gQ G below args s h0 h' (g_w g_wI r)) (F0 m 7 ls [])
def f_X2_letters_82 (k7 : Nat → Int32 → Int32 → Int32 → gM (Int32 ⊕ gE)) (a0 : Nat) (x1 : Int32) (x2 : Int32) (x3 : Int32) (x4 : Int32) : gM (Int32 ⊕ gE) :=
    gB (gRet (x3 ||| ((1 : Int32) <<< (x4 &&& 31)))) fun v101 =>
    gB (gFI a0 1 8) fun v102 =>
    gB (gPI a0 1 8 (v102 + (1 : Int32))) fun _ =>
    k7 a0 x1 x2 v101
set_option maxHeartbeats 4000000 in
set_option maxRecDepth 100000 in
theorem b_X2_letters_82 {G : gG} {l : Launch} {p : Program} {e : Env} {s : State} {m : MethodId} {args : Array Value} {below : List Frame} {meth : Method} {c : Code} {h0 : g_H} {r : (Int32 ⊕ gE)} {h' : g_H} (X : gX G l yX2_letters.cls cX2_letters 5 (some .int) [] yX2_letters.name p s m args meth c) {k7 : Nat → Int32 → Int32 → Int32 → gM (Int32 ⊕ gE)} (K7 : w_X2_letters_7 G l p e s m args below meth c h0 r h' k7) : w_X2_letters_82 G l p e s m args below meth c h0 r h' (f_X2_letters_82 k7) := by
  have hx := X.1
  have hb := X.2.1
  have hown := X.2.2.2.1
  have hts := X.2.2.2.2.1
  intro a0 x1 x2 x3 x4 h H locs cells slots ls hf hI hl
  unfold f_X2_letters_82 at hf
  refine lv_iload_n hx hb dX2_letters_82 rfl (lv_at hl 3 rfl) ?_
  refine lv_iconst (v := (1 : Int32)) hx hb dX2_letters_83 (by decide) ?_
  refine lv_iload hx hb dX2_letters_84 (lv_at hl 4 rfl) ?_
  refine lv_ishl hx hb dX2_letters_86 ?_
  refine lv_ior hx hb dX2_letters_87 ?_
  refine g_let hf (fun v101 hf => ?_)
  refine lv_istore_n (lv' := [(3, .int v101), (0, .ref a0), (1, .int x1), (2, .int x2), (4, .int x4)]) hx hb dX2_letters_88 rfl hl (by decide) rfl (fun ls hl => ?_)
  refine lv_aload_n hx hb dX2_letters_89 rfl (lv_at hl 1 rfl) ?_
  refine lv_dup hx hb dX2_letters_90 rfl ?_
  refine g_fi X hI hf fX2_8 q405 rfl rfl dX2_letters_91 (fun v102 hf => ?_)
  refine lv_iconst (v := (1 : Int32)) hx hb dX2_letters_94 (by decide) ?_
  refine lv_iadd hx hb dX2_letters_95 ?_
  refine g_pi X hI hf fX2_8 q405 rfl dX2_letters_96 (fun h H locs hf hI => ?_)
  refine lv_goto (tgt := 7) hx hb dX2_letters_99 (by decide) ?_
  exact K7 _ _ _ _ _ _ _ _ _ _ hf hI (lv_sub hl [1, 2, 3, 0] rfl)
def f_X2_letters_77 (k7 : Nat → Int32 → Int32 → Int32 → gM (Int32 ⊕ gE)) (a0 : Nat) (x1 : Int32) (x2 : Int32) (x3 : Int32) (x4 : Int32) : gM (Int32 ⊕ gE) :=
    gB (gCk a0 1) fun _ =>
    gT (f_X2_fail a0 x2) fun _ =>
    f_X2_letters_82 k7 a0 x1 x2 x3 x4
set_option maxHeartbeats 4000000 in
set_option maxRecDepth 100000 in
theorem b_X2_letters_77 {G : gG} {l : Launch} {p : Program} {e : Env} {s : State} {m : MethodId} {args : Array Value} {below : List Frame} {meth : Method} {c : Code} {h0 : g_H} {r : (Int32 ⊕ gE)} {h' : g_H} (X : gX G l yX2_letters.cls cX2_letters 5 (some .int) [] yX2_letters.name p s m args meth c) {k7 : Nat → Int32 → Int32 → Int32 → gM (Int32 ⊕ gE)} (K7 : w_X2_letters_7 G l p e s m args below meth c h0 r h' k7) : w_X2_letters_77 G l p e s m args below meth c h0 r h' (f_X2_letters_77 k7) := by
  have hx := X.1
  have hb := X.2.1
  have hown := X.2.2.2.1
  have hts := X.2.2.2.2.1
  intro a0 x1 x2 x3 x4 h H locs cells slots ls hf hI hl
  unfold f_X2_letters_77 at hf
  refine lv_aload_n hx hb dX2_letters_77 rfl (lv_at hl 0 rfl) ?_
  refine lv_iload_n hx hb dX2_letters_78 rfl (lv_at hl 2 rfl) ?_
  obtain ⟨hs, hf⟩ := gCk_b hf
  refine g_cTU X hI (by decide) hf (fun v9 h9 e9 l9 l9' => g_rV X hI l9 l9' ⟨Nat.le_refl _, Nat.le_refl _⟩ (As := [.int x2]) (m_X2_fail X.2.2.2.2.2.2.2.2.2.2.1 e9) ydX2_fail hs rfl rfl q813 q815 qs19 q122 q816 rfl (Nat.le_of_ble_eq_true rfl) (Nat.le_of_ble_eq_true rfl) hl.1 rfl (Nat.le_of_ble_eq_true rfl) dX2_letters_79) (fun r101 h H locs cells slots hf hI => ?_)
  exact b_X2_letters_82 X K7 _ _ _ _ _ _ _ _ _ _ _ hf hI (lv_sub hl [0, 1, 2, 3, 4] rfl)
def f_X2_letters_123 (x3 : Int32) : gM (Int32 ⊕ gE) :=
    (gRet (.inl x3))
set_option maxHeartbeats 4000000 in
set_option maxRecDepth 100000 in
theorem b_X2_letters_123 {G : gG} {l : Launch} {p : Program} {e : Env} {s : State} {m : MethodId} {args : Array Value} {below : List Frame} {meth : Method} {c : Code} {h0 : g_H} {r : (Int32 ⊕ gE)} {h' : g_H} (X : gX G l yX2_letters.cls cX2_letters 5 (some .int) [] yX2_letters.name p s m args meth c) : w_X2_letters_123 G l p e s m args below meth c h0 r h' (f_X2_letters_123) := by
  have hx := X.1
  have hb := X.2.1
  have hown := X.2.2.2.1
  have hts := X.2.2.2.2.1
  intro x3 h H locs cells slots ls hf hI hl
  unfold f_X2_letters_123 at hf
  refine lv_iload_n hx hb dX2_letters_123 rfl (lv_at hl 0 rfl) ?_
  cases gRet_e hf
  exact g_retI X hI rfl dX2_letters_124
def f_X2_letters_118 (a0 : Nat) (x2 : Int32) (x3 : Int32) : gM (Int32 ⊕ gE) :=
    gB (gCk a0 1) fun _ =>
    gT (f_X2_fail a0 x2) fun _ =>
    f_X2_letters_123 x3
set_option maxHeartbeats 4000000 in
set_option maxRecDepth 100000 in
theorem b_X2_letters_118 {G : gG} {l : Launch} {p : Program} {e : Env} {s : State} {m : MethodId} {args : Array Value} {below : List Frame} {meth : Method} {c : Code} {h0 : g_H} {r : (Int32 ⊕ gE)} {h' : g_H} (X : gX G l yX2_letters.cls cX2_letters 5 (some .int) [] yX2_letters.name p s m args meth c) : w_X2_letters_118 G l p e s m args below meth c h0 r h' (f_X2_letters_118) := by
  have hx := X.1
  have hb := X.2.1
  have hown := X.2.2.2.1
  have hts := X.2.2.2.2.1
  intro a0 x2 x3 h H locs cells slots ls hf hI hl
  unfold f_X2_letters_118 at hf
  refine lv_aload_n hx hb dX2_letters_118 rfl (lv_at hl 0 rfl) ?_
  refine lv_iload_n hx hb dX2_letters_119 rfl (lv_at hl 1 rfl) ?_
  obtain ⟨hs, hf⟩ := gCk_b hf
  refine g_cTU X hI (by decide) hf (fun v9 h9 e9 l9 l9' => g_rV X hI l9 l9' ⟨Nat.le_refl _, Nat.le_refl _⟩ (As := [.int x2]) (m_X2_fail X.2.2.2.2.2.2.2.2.2.2.1 e9) ydX2_fail hs rfl rfl q813 q815 qs19 q122 q816 rfl (Nat.le_of_ble_eq_true rfl) (Nat.le_of_ble_eq_true rfl) hl.1 rfl (Nat.le_of_ble_eq_true rfl) dX2_letters_120) (fun r101 h H locs cells slots hf hI => ?_)
  exact b_X2_letters_123 X _ _ _ _ _ _ _ hf hI (lv_sub hl [2] rfl)
def f_X2_letters_102 (a0 : Nat) (x1 : Int32) (x2 : Int32) (x3 : Int32) : gM (Int32 ⊕ gE) :=
    gIf (x3 = 0)
    (f_X2_letters_118 a0 x2 x3)
    (gIf (x1 = 0)
    (f_X2_letters_123 x3)
    (gB (f_J7_bitCount x3) fun r101 =>
    gIf (r101 ≤ (1 : Int32))
    (f_X2_letters_123 x3)
    (f_X2_letters_118 a0 x2 x3)))
set_option maxHeartbeats 4000000 in
set_option maxRecDepth 100000 in
theorem b_X2_letters_102 {G : gG} {l : Launch} {p : Program} {e : Env} {s : State} {m : MethodId} {args : Array Value} {below : List Frame} {meth : Method} {c : Code} {h0 : g_H} {r : (Int32 ⊕ gE)} {h' : g_H} (X : gX G l yX2_letters.cls cX2_letters 5 (some .int) [] yX2_letters.name p s m args meth c) : w_X2_letters_102 G l p e s m args below meth c h0 r h' (f_X2_letters_102) := by
  have hx := X.1
  have hb := X.2.1
  have hown := X.2.2.2.1
  have hts := X.2.2.2.2.1
  intro a0 x1 x2 x3 h H locs cells slots ls hf hI hl
  unfold f_X2_letters_102 at hf
  refine lv_iload_n hx hb dX2_letters_102 rfl (lv_at hl 3 rfl) ?_
  refine lv_if_eq (tgt := 118) hx hb dX2_letters_103 (by decide) (fun c103 => ?_) (fun c103 => ?_)
  · have hf := g_t c103 hf
    exact b_X2_letters_118 X _ _ _ _ _ _ _ _ _ hf hI (lv_sub hl [0, 2, 3] rfl)
  · have hf := g_f c103 hf
    refine lv_iload_n hx hb dX2_letters_106 rfl (lv_at hl 1 rfl) ?_
    refine lv_if_eq (tgt := 123) hx hb dX2_letters_107 (by decide) (fun c107 => ?_) (fun c107 => ?_)
    · have hf := g_t c107 hf
      exact b_X2_letters_123 X _ _ _ _ _ _ _ hf hI (lv_sub hl [3] rfl)
    · have hf := g_f c107 hf
      refine lv_iload_n hx hb dX2_letters_110 rfl (lv_at hl 3 rfl) ?_
      refine g_cBI hI hf (fun v9 h9 e9 l9 l9' => g_rS (b := 0) X hI l9 l9' ⟨Nat.le_refl _, Nat.le_refl _⟩ (As := [.int x3]) (m_J7_bitCount X.2.2.2.2.2.2.2.2.2.2.1 e9) ydJ7_bitCount q885 q659 q137 q660 rfl (Nat.le_of_ble_eq_true rfl) (Nat.le_of_ble_eq_true rfl) hl.1 rfl (Nat.le_of_ble_eq_true rfl) dX2_letters_111) (fun r101 h H locs cells slots hf hI => ?_)
      refine lv_iconst (v := (1 : Int32)) hx hb dX2_letters_114 (by decide) ?_
      refine lv_icmp_le (tgt := 123) hx hb dX2_letters_115 (by decide) (fun c115 => ?_) (fun c115 => ?_)
      · have hf := g_t c115 hf
        exact b_X2_letters_123 X _ _ _ _ _ _ _ hf hI (lv_sub hl [3] rfl)
      · have hf := g_f c115 hf
        exact b_X2_letters_118 X _ _ _ _ _ _ _ _ _ hf hI (lv_sub hl [0, 2, 3] rfl)
def f_X2_letters_7 : Nat → Nat → Int32 → Int32 → Int32 → gM (Int32 ⊕ gE)
  | 0, _, _, _, _ => gFail
  | n + 1, a0, x1, x2, x3 =>
    gB (gFI a0 1 8) fun v101 =>
    gB (gFI a0 1 7) fun v102 =>
    gIf (v102 ≤ v101)
    (f_X2_letters_102 a0 x1 x2 x3)
    (gB (gFR a0 1 0) fun v103 =>
    gB (gFI a0 1 8) fun v104 =>
    gB (gAI v103 1 v104) fun v105 =>
    gIf (v105 < (97 : Int32))
    (f_X2_letters_102 a0 x1 x2 x3)
    (gB (gFR a0 1 0) fun v106 =>
    gB (gFI a0 1 8) fun v107 =>
    gB (gAI v106 1 v107) fun v108 =>
    gIf ((122 : Int32) < v108)
    (f_X2_letters_102 a0 x1 x2 x3)
    (gB (gFR a0 1 0) fun v109 =>
    gB (gFI a0 1 8) fun v110 =>
    gB (gAI v109 1 v110) fun v111 =>
    gIf ((6 : Int32) ≤ (v111 - (97 : Int32)))
    (f_X2_letters_77 (f_X2_letters_7 n) a0 x1 x2 x3 (v111 - (97 : Int32)))
    (gIf (((x3 >>> ((v111 - (97 : Int32)) &&& 31)) &&& (1 : Int32)) = (1 : Int32))
    (f_X2_letters_77 (f_X2_letters_7 n) a0 x1 x2 x3 (v111 - (97 : Int32)))
    (f_X2_letters_82 (f_X2_letters_7 n) a0 x1 x2 x3 (v111 - (97 : Int32)))))))
set_option maxHeartbeats 4000000 in
set_option maxRecDepth 100000 in
theorem b_X2_letters_7 {G : gG} {l : Launch} {p : Program} {e : Env} {s : State} {m : MethodId} {args : Array Value} {below : List Frame} {meth : Method} {c : Code} {h0 : g_H} {r : (Int32 ⊕ gE)} {h' : g_H} (X : gX G l yX2_letters.cls cX2_letters 5 (some .int) [] yX2_letters.name p s m args meth c) : ∀ n : Nat, w_X2_letters_7 G l p e s m args below meth c h0 r h' (f_X2_letters_7 n) := by
  have hx := X.1
  have hb := X.2.1
  have hown := X.2.2.2.1
  have hts := X.2.2.2.2.1
  intro n
  induction n with
  | zero =>
    intro a0 x1 x2 x3 h H locs cells slots ls hf hI hl
    exact (gFail_f hf).elim
  | succ n ih =>
    intro a0 x1 x2 x3 h H locs cells slots ls hf hI hl
    rw [f_X2_letters_7] at hf
    refine lv_aload_n hx hb dX2_letters_7 rfl (lv_at hl 0 rfl) ?_
    refine g_fi X hI hf fX2_8 q405 rfl rfl dX2_letters_8 (fun v101 hf => ?_)
    refine lv_aload_n hx hb dX2_letters_11 rfl (lv_at hl 0 rfl) ?_
    refine g_fi X hI hf fX2_7 q404 rfl rfl dX2_letters_12 (fun v102 hf => ?_)
    refine lv_icmp_ge (tgt := 102) hx hb dX2_letters_15 (by decide) (fun c15 => ?_) (fun c15 => ?_)
    · have hf := g_t c15 hf
      exact b_X2_letters_102 X _ _ _ _ _ _ _ _ _ _ hf hI (lv_sub hl [0, 1, 2, 3] rfl)
    · have hf := g_f c15 hf
      refine lv_aload_n hx hb dX2_letters_18 rfl (lv_at hl 0 rfl) ?_
      refine g_fr X hI hf fX2_0 q395 rfl rfl dX2_letters_19 (fun v103 hf => ?_)
      refine lv_aload_n hx hb dX2_letters_22 rfl (lv_at hl 0 rfl) ?_
      refine g_fi X hI hf fX2_8 q405 rfl rfl dX2_letters_23 (fun v104 hf => ?_)
      refine g_ai1 X hI hf dX2_letters_26 (fun v105 hf => ?_)
      refine lv_bipush (v := (97 : Int32)) hx hb dX2_letters_27 (by decide) ?_
      refine lv_icmp_lt (tgt := 102) hx hb dX2_letters_29 (by decide) (fun c29 => ?_) (fun c29 => ?_)
      · have hf := g_t c29 hf
        exact b_X2_letters_102 X _ _ _ _ _ _ _ _ _ _ hf hI (lv_sub hl [0, 1, 2, 3] rfl)
      · have hf := g_f c29 hf
        refine lv_aload_n hx hb dX2_letters_32 rfl (lv_at hl 0 rfl) ?_
        refine g_fr X hI hf fX2_0 q395 rfl rfl dX2_letters_33 (fun v106 hf => ?_)
        refine lv_aload_n hx hb dX2_letters_36 rfl (lv_at hl 0 rfl) ?_
        refine g_fi X hI hf fX2_8 q405 rfl rfl dX2_letters_37 (fun v107 hf => ?_)
        refine g_ai1 X hI hf dX2_letters_40 (fun v108 hf => ?_)
        refine lv_bipush (v := (122 : Int32)) hx hb dX2_letters_41 (by decide) ?_
        refine lv_icmp_gt (tgt := 102) hx hb dX2_letters_43 (by decide) (fun c43 => ?_) (fun c43 => ?_)
        · have hf := g_t c43 hf
          exact b_X2_letters_102 X _ _ _ _ _ _ _ _ _ _ hf hI (lv_sub hl [0, 1, 2, 3] rfl)
        · have hf := g_f c43 hf
          refine lv_aload_n hx hb dX2_letters_46 rfl (lv_at hl 0 rfl) ?_
          refine g_fr X hI hf fX2_0 q395 rfl rfl dX2_letters_47 (fun v109 hf => ?_)
          refine lv_aload_n hx hb dX2_letters_50 rfl (lv_at hl 0 rfl) ?_
          refine g_fi X hI hf fX2_8 q405 rfl rfl dX2_letters_51 (fun v110 hf => ?_)
          refine g_ai1 X hI hf dX2_letters_54 (fun v111 hf => ?_)
          refine lv_bipush (v := (97 : Int32)) hx hb dX2_letters_55 (by decide) ?_
          refine lv_isub hx hb dX2_letters_57 ?_
          refine lv_istore (lv' := [(4, .int (v111 - (97 : Int32))), (0, .ref a0), (1, .int x1), (2, .int x2), (3, .int x3)]) hx hb dX2_letters_58 hl (by decide) rfl (fun ls hl => ?_)
          refine lv_iload hx hb dX2_letters_60 (lv_at hl 0 rfl) ?_
          refine lv_bipush (v := (6 : Int32)) hx hb dX2_letters_62 (by decide) ?_
          refine lv_icmp_ge (tgt := 77) hx hb dX2_letters_64 (by decide) (fun c64 => ?_) (fun c64 => ?_)
          · have hf := g_t c64 hf
            exact b_X2_letters_77 X ih _ _ _ _ _ _ _ _ _ _ _ hf hI (lv_sub hl [1, 2, 3, 4, 0] rfl)
          · have hf := g_f c64 hf
            refine lv_iload_n hx hb dX2_letters_67 rfl (lv_at hl 4 rfl) ?_
            refine lv_iload hx hb dX2_letters_68 (lv_at hl 0 rfl) ?_
            refine lv_ishr hx hb dX2_letters_70 ?_
            refine lv_iconst (v := (1 : Int32)) hx hb dX2_letters_71 (by decide) ?_
            refine lv_iand hx hb dX2_letters_72 ?_
            refine lv_iconst (v := (1 : Int32)) hx hb dX2_letters_73 (by decide) ?_
            refine lv_icmp_ne (tgt := 82) hx hb dX2_letters_74 (by decide) (fun c74 => ?_) (fun c74 => ?_)
            · have hf := g_f c74 hf
              exact b_X2_letters_82 X ih _ _ _ _ _ _ _ _ _ _ _ hf hI (lv_sub hl [1, 2, 3, 4, 0] rfl)
            · have hf := g_t c74 hf
              exact b_X2_letters_77 X ih _ _ _ _ _ _ _ _ _ _ _ hf hI (lv_sub hl [1, 2, 3, 4, 0] rfl)
def f_X2_letters (a0 : Nat) (x1 : Int32) : gM (Int32 ⊕ gE) :=
    gB (gCk a0 1) fun _ =>
    gB (f_X2_here a0) fun r1 =>
    f_X2_letters_7 gN a0 x1 r1 (0 : Int32)
set_option maxHeartbeats 4000000 in
set_option maxRecDepth 100000 in
theorem m_X2_letters {G : gG} {l : Launch} (hfl : l.stackTraces = false) {a0 : Nat} {x1 : Int32} {h h' : g_H} {r : (Int32 ⊕ gE)} (hf : (f_X2_letters a0 x1).1 h = some (r, h')) : gMet G l yX2_letters (Cond.code yX2_letters cX2_letters 5 (some .int)) 3 61 [.ref a0, .int x1] h (g_w g_wI r) h' := by
  refine g_head hfl ((f_X2_letters a0 x1).2 h r h' hf) (plainFor_of_name (by decide)) (Nat.le_of_ble_eq_true rfl) (fun p e s m below meth c H locs cells slots ls X hI hl9 => ?_)
  have hl : lv_has ls 5 [(0, .ref a0), (1, .int x1)] := hl9
  have hx := X.1
  have hb := X.2.1
  have hown := X.2.2.2.1
  have hts := X.2.2.2.2.1
  unfold f_X2_letters at hf
  refine lv_aload_n hx hb dX2_letters_0 rfl (lv_at hl 0 rfl) ?_
  obtain ⟨hs, hf⟩ := gCk_b hf
  refine g_cBI hI hf (fun v9 h9 e9 l9 l9' => g_rV X hI l9 l9' ⟨Nat.le_refl _, Nat.le_refl _⟩ (As := []) (m_X2_here X.2.2.2.2.2.2.2.2.2.2.1 e9) ydX2_here hs rfl rfl q881 q883 qs24 q122 q884 rfl (Nat.le_of_ble_eq_true rfl) (Nat.le_of_ble_eq_true rfl) hl.1 rfl (Nat.le_of_ble_eq_true rfl) dX2_letters_1) (fun r1 h H locs cells slots hf hI => ?_)
  refine lv_istore_n (lv' := [(2, .int r1), (0, .ref a0), (1, .int x1)]) hx hb dX2_letters_4 rfl hl (by decide) rfl (fun ls hl => ?_)
  refine lv_iconst (v := (0 : Int32)) hx hb dX2_letters_5 (by decide) ?_
  refine lv_istore_n (lv' := [(3, .int (0 : Int32)), (2, .int r1), (0, .ref a0), (1, .int x1)]) hx hb dX2_letters_6 rfl hl (by decide) rfl (fun ls hl => ?_)
  exact b_X2_letters_7 X gN _ _ _ _ _ _ _ _ _ _ hf hI (lv_sub hl [2, 3, 1, 0] rfl)
/-! X2_after -/
def f_X2_after (a0 : Nat) (a1 : Nat) (x2 : Int32) (x3 : Int32) : gM (Int32 ⊕ gE) :=
    gB (gCk a0 1) fun _ =>
    gT (f_X2_expect a0 a1) fun _ =>
    gB (gCk a0 1) fun _ =>
    gT (f_X2_number a0 x2 x3) fun r2 =>
    (gRet (.inl r2))
set_option maxHeartbeats 4000000 in
set_option maxRecDepth 100000 in
theorem m_X2_after {G : gG} {l : Launch} (hfl : l.stackTraces = false) {a0 : Nat} {a1 : Nat} {x2 : Int32} {x3 : Int32} {h h' : g_H} {r : (Int32 ⊕ gE)} (hf : (f_X2_after a0 a1 x2 x3).1 h = some (r, h')) : gMet G l yX2_after (Cond.code yX2_after cX2_after 4 (some .int)) 7 151 [.ref a0, .ref a1, .int x2, .int x3] h (g_w g_wI r) h' := by
  refine g_head hfl ((f_X2_after a0 a1 x2 x3).2 h r h' hf) (plainFor_of_name (by decide)) (Nat.le_of_ble_eq_true rfl) (fun p e s m below meth c H locs cells slots ls X hI hl9 => ?_)
  have hl : lv_has ls 4 [(0, .ref a0), (1, .ref a1), (2, .int x2), (3, .int x3)] := hl9
  have hx := X.1
  have hb := X.2.1
  have hown := X.2.2.2.1
  have hts := X.2.2.2.2.1
  unfold f_X2_after at hf
  refine lv_aload_n hx hb dX2_after_0 rfl (lv_at hl 0 rfl) ?_
  refine lv_aload_n hx hb dX2_after_1 rfl (lv_at hl 1 rfl) ?_
  obtain ⟨hs, hf⟩ := gCk_b hf
  refine g_cTU X hI (by decide) hf (fun v9 h9 e9 l9 l9' => g_rV X hI l9 l9' ⟨Nat.le_refl _, Nat.le_refl _⟩ (As := [.ref a1]) (m_X2_expect X.2.2.2.2.2.2.2.2.2.2.1 e9) ydX2_expect hs rfl rfl q894 q896 qs26 q122 q897 rfl (Nat.le_of_ble_eq_true rfl) (Nat.le_of_ble_eq_true rfl) hl.1 rfl (Nat.le_of_ble_eq_true rfl) dX2_after_2) (fun r1 h H locs cells slots hf hI => ?_)
  refine lv_aload_n hx hb dX2_after_5 rfl (lv_at hl 0 rfl) ?_
  refine lv_iload_n hx hb dX2_after_6 rfl (lv_at hl 2 rfl) ?_
  refine lv_iload_n hx hb dX2_after_7 rfl (lv_at hl 3 rfl) ?_
  obtain ⟨hs, hf⟩ := gCk_b hf
  refine g_cTI X hI (by decide) hf (fun v9 h9 e9 l9 l9' => g_rV X hI l9 l9' ⟨Nat.le_refl _, Nat.le_refl _⟩ (As := [.int x2, .int x3]) (m_X2_number X.2.2.2.2.2.2.2.2.2.2.1 e9) ydX2_number hs rfl rfl q898 q900 qs27 q122 q901 rfl (Nat.le_of_ble_eq_true rfl) (Nat.le_of_ble_eq_true rfl) hl.1 rfl (Nat.le_of_ble_eq_true rfl) dX2_after_8) (fun r2 h H locs cells slots hf hI => ?_)
  cases gRet_e hf
  exact g_retI X hI rfl dX2_after_11
/-! X2_addProp -/
abbrev w_X2_addProp_146 (G : gG) (l : Launch) (p : Program) (e : Env) (s : State) (m : MethodId) (args : Array Value) (below : List Frame) (meth : Method) (c : Code) (h0 : g_H) (r : (Unit ⊕ gE)) (h' : g_H) (k : Nat → gM (Unit ⊕ gE)) : Prop := ∀ (a0 : Nat) (h : g_H) (H : Heap) (locs : List Loc) (cells slots : Nat) (ls : Array Slot), (k a0).1 h = some (r, h') → gI G h0 h H locs cells slots → lv_has ls 5 [(0, .ref a0)] → W p l e (g_rm 8 174 h0 h') s m args below meth c H locs cells slots (gQ G below args s h0 h' (g_w g_wU r)) (F0 m 146 ls [])
abbrev w_X2_addProp_126 (G : gG) (l : Launch) (p : Program) (e : Env) (s : State) (m : MethodId) (args : Array Value) (below : List Frame) (meth : Method) (c : Code) (h0 : g_H) (r : (Unit ⊕ gE)) (h' : g_H) (k : Nat → Nat → gM (Unit ⊕ gE)) : Prop := ∀ (a0 : Nat) (a2 : Nat) (h : g_H) (H : Heap) (locs : List Loc) (cells slots : Nat) (ls : Array Slot), (k a0 a2).1 h = some (r, h') → gI G h0 h H locs cells slots → lv_has ls 5 [(0, .ref a0), (2, .ref a2)] → W p l e (g_rm 8 174 h0 h') s m args below meth c H locs cells slots (gQ G below args s h0 h' (g_w g_wU r)) (F0 m 126 ls [])
abbrev w_X2_addProp_110 (G : gG) (l : Launch) (p : Program) (e : Env) (s : State) (m : MethodId) (args : Array Value) (below : List Frame) (meth : Method) (c : Code) (h0 : g_H) (r : (Unit ⊕ gE)) (h' : g_H) (k : Nat → Nat → Int32 → gM (Unit ⊕ gE)) : Prop := ∀ (a0 : Nat) (a2 : Nat) (x4 : Int32) (h : g_H) (H : Heap) (locs : List Loc) (cells slots : Nat) (ls : Array Slot), (k a0 a2 x4).1 h = some (r, h') → gI G h0 h H locs cells slots → lv_has ls 5 [(0, .ref a0), (2, .ref a2), (4, .int x4)] → W p l e (g_rm 8 174 h0 h') s m args below meth c H locs cells slots (gQ G below args s h0 h' (g_w g_wU r)) (F0 m 110 ls [])
abbrev w_X2_addProp_17 (G : gG) (l : Launch) (p : Program) (e : Env) (s : State) (m : MethodId) (args : Array Value) (below : List Frame) (meth : Method) (c : Code) (h0 : g_H) (r : (Unit ⊕ gE)) (h' : g_H) (k : Nat → gM (Unit ⊕ gE)) : Prop := ∀ (a0 : Nat) (h : g_H) (H : Heap) (locs : List Loc) (cells slots : Nat) (ls : Array Slot), (k a0).1 h = some (r, h') → gI G h0 h H locs cells slots → lv_has ls 5 [(0, .ref a0)] → W p l e (g_rm 8 174 h0 h') s m args below meth c H locs cells slots (gQ G below args s h0 h' (g_w g_wU r)) (F0 m 17 ls [])
def f_X2_addProp_146 (a0 : Nat) : gM (Unit ⊕ gE) :=
    gB (gFR a0 1 4) fun v101 =>
    gB (gFI v101 2 6) fun v102 =>
    gB (gPI v101 2 6 (v102 + (1 : Int32))) fun _ =>
    gRet (.inl ())
set_option maxHeartbeats 4000000 in
set_option maxRecDepth 100000 in
theorem b_X2_addProp_146 {G : gG} {l : Launch} {p : Program} {e : Env} {s : State} {m : MethodId} {args : Array Value} {below : List Frame} {meth : Method} {c : Code} {h0 : g_H} {r : (Unit ⊕ gE)} {h' : g_H} (X : gX G l yX2_addProp.cls cX2_addProp 5 none [] yX2_addProp.name p s m args meth c) : w_X2_addProp_146 G l p e s m args below meth c h0 r h' (f_X2_addProp_146) := by
  have hx := X.1
  have hb := X.2.1
  have hown := X.2.2.2.1
  have hts := X.2.2.2.2.1
  intro a0 h H locs cells slots ls hf hI hl
  unfold f_X2_addProp_146 at hf
  refine lv_aload_n hx hb dX2_addProp_146 rfl (lv_at hl 0 rfl) ?_
  refine g_fr X hI hf fX2_4 q401 rfl rfl dX2_addProp_147 (fun v101 hf => ?_)
  refine lv_dup hx hb dX2_addProp_150 rfl ?_
  refine g_fiN X hI hf fX3_6 q269 rfl rfl dX2_addProp_151 (fun v102 hf => ?_)
  refine lv_iconst (v := (1 : Int32)) hx hb dX2_addProp_154 (by decide) ?_
  refine lv_iadd hx hb dX2_addProp_155 ?_
  refine g_piN X hI hf fX3_6 q269 rfl dX2_addProp_156 (fun h H locs hf hI => ?_)
  cases gRet_e hf
  exact g_retU X hI rfl dX2_addProp_159
def f_X2_addProp_126 (a0 : Nat) (a2 : Nat) : gM (Unit ⊕ gE) :=
    gB (gTx 3) fun t101 =>
    gB (gCk a0 1) fun _ =>
    gB (f_X2_takes a0 t101) fun r102 =>
    gIf (r102 = 0)
    (f_X2_addProp_146 a0)
    (gB (gCk a0 1) fun _ =>
    gT (f_X2_number a0 (0 : Int32) (99 : Int32)) fun r103 =>
    gB (gPI a2 3 2 r103) fun _ =>
    f_X2_addProp_146 a0)
set_option maxHeartbeats 4000000 in
set_option maxRecDepth 100000 in
theorem b_X2_addProp_126 {G : gG} {l : Launch} {p : Program} {e : Env} {s : State} {m : MethodId} {args : Array Value} {below : List Frame} {meth : Method} {c : Code} {h0 : g_H} {r : (Unit ⊕ gE)} {h' : g_H} (X : gX G l yX2_addProp.cls cX2_addProp 5 none [] yX2_addProp.name p s m args meth c) : w_X2_addProp_126 G l p e s m args below meth c h0 r h' (f_X2_addProp_126) := by
  have hx := X.1
  have hb := X.2.1
  have hown := X.2.2.2.1
  have hts := X.2.2.2.2.1
  intro a0 a2 h H locs cells slots ls hf hI hl
  unfold f_X2_addProp_126 at hf
  refine lv_aload_n hx hb dX2_addProp_126 rfl (lv_at hl 0 rfl) ?_
  refine g_ldcS (tx := "worn") X hI hf (List.mem_of_getElem? (i := 3) rfl) dX2_addProp_127 (fun t101 hf => ?_)
  obtain ⟨hs, hf⟩ := gCk_b hf
  refine g_cBI hI hf (fun v9 h9 e9 l9 l9' => g_rV X hI l9 l9' ⟨Nat.le_refl _, Nat.le_refl _⟩ (As := [.ref t101]) (m_X2_takes X.2.2.2.2.2.2.2.2.2.2.1 e9) ydX2_takes hs rfl rfl q821 q823 qs21 q122 q824 rfl (Nat.le_of_ble_eq_true rfl) (Nat.le_of_ble_eq_true rfl) hl.1 rfl (Nat.le_of_ble_eq_true rfl) dX2_addProp_129) (fun r102 h H locs cells slots hf hI => ?_)
  refine lv_if_eq (tgt := 146) hx hb dX2_addProp_132 (by decide) (fun c132 => ?_) (fun c132 => ?_)
  · have hf := g_t c132 hf
    exact b_X2_addProp_146 X _ _ _ _ _ _ _ hf hI (lv_sub hl [0] rfl)
  · have hf := g_f c132 hf
    refine lv_aload_n hx hb dX2_addProp_135 rfl (lv_at hl 1 rfl) ?_
    refine lv_aload_n hx hb dX2_addProp_136 rfl (lv_at hl 0 rfl) ?_
    refine lv_iconst (v := (0 : Int32)) hx hb dX2_addProp_137 (by decide) ?_
    refine lv_bipush (v := (99 : Int32)) hx hb dX2_addProp_138 (by decide) ?_
    obtain ⟨hs, hf⟩ := gCk_b hf
    refine g_cTI X hI (by decide) hf (fun v9 h9 e9 l9 l9' => g_rV X hI l9 l9' ⟨Nat.le_refl _, Nat.le_refl _⟩ (As := [.int (0 : Int32), .int (99 : Int32)]) (m_X2_number X.2.2.2.2.2.2.2.2.2.2.1 e9) ydX2_number hs rfl rfl q898 q900 qs27 q122 q901 rfl (Nat.le_of_ble_eq_true rfl) (Nat.le_of_ble_eq_true rfl) hl.1 rfl (Nat.le_of_ble_eq_true rfl) dX2_addProp_140) (fun r103 h H locs cells slots hf hI => ?_)
    refine g_piN X hI hf fX4_2 q205 rfl dX2_addProp_143 (fun h H locs hf hI => ?_)
    exact b_X2_addProp_146 X _ _ _ _ _ _ _ hf hI (lv_sub hl [0] rfl)
def f_X2_addProp_110 (a0 : Nat) (a2 : Nat) (x4 : Int32) : gM (Unit ⊕ gE) :=
    gB (gFR a0 1 4) fun v101 =>
    gB (gFR a0 1 4) fun v102 =>
    gB (gFI v102 2 6) fun v103 =>
    gB (gCk v101 2) fun _ =>
    gB (f_X3_nails v101 v103 x4) fun _ =>
    f_X2_addProp_126 a0 a2
set_option maxHeartbeats 4000000 in
set_option maxRecDepth 100000 in
theorem b_X2_addProp_110 {G : gG} {l : Launch} {p : Program} {e : Env} {s : State} {m : MethodId} {args : Array Value} {below : List Frame} {meth : Method} {c : Code} {h0 : g_H} {r : (Unit ⊕ gE)} {h' : g_H} (X : gX G l yX2_addProp.cls cX2_addProp 5 none [] yX2_addProp.name p s m args meth c) : w_X2_addProp_110 G l p e s m args below meth c h0 r h' (f_X2_addProp_110) := by
  have hx := X.1
  have hb := X.2.1
  have hown := X.2.2.2.1
  have hts := X.2.2.2.2.1
  intro a0 a2 x4 h H locs cells slots ls hf hI hl
  unfold f_X2_addProp_110 at hf
  refine lv_aload_n hx hb dX2_addProp_110 rfl (lv_at hl 0 rfl) ?_
  refine g_fr X hI hf fX2_4 q401 rfl rfl dX2_addProp_111 (fun v101 hf => ?_)
  refine lv_aload_n hx hb dX2_addProp_114 rfl (lv_at hl 0 rfl) ?_
  refine g_fr X hI hf fX2_4 q401 rfl rfl dX2_addProp_115 (fun v102 hf => ?_)
  refine g_fiN X hI hf fX3_6 q269 rfl rfl dX2_addProp_118 (fun v103 hf => ?_)
  refine lv_iload hx hb dX2_addProp_121 (lv_at hl 2 rfl) ?_
  obtain ⟨hs, hf⟩ := gCk_b hf
  refine g_cBU hI hf (fun v9 h9 e9 l9 l9' => g_rV X hI l9 l9' ⟨Nat.le_refl _, Nat.le_refl _⟩ (As := [.int v103, .int x4]) (m_X3_nails X.2.2.2.2.2.2.2.2.2.2.1 e9) ydX3_nails hs rfl rfl q903 q904 q905 q123 q906 rfl (Nat.le_of_ble_eq_true rfl) (Nat.le_of_ble_eq_true rfl) hl.1 rfl (Nat.le_of_ble_eq_true rfl) dX2_addProp_123) (fun r104 h H locs cells slots hf hI => ?_)
  exact b_X2_addProp_126 X _ _ _ _ _ _ _ _ hf hI (lv_sub hl [0, 1] rfl)
def f_X2_addProp_17 (a0 : Nat) : gM (Unit ⊕ gE) :=
    gB (gFR a0 1 4) fun v101 =>
    gB (gFR v101 2 0) fun v102 =>
    gB (gFR a0 1 4) fun v103 =>
    gB (gFI v103 2 6) fun v104 =>
    gB (gAR v102 4 v104) fun v105 =>
    gB (gCk a0 1) fun _ =>
    gT (f_X2_letters a0 (1 : Int32)) fun r106 =>
    gB (f_J7_numberOfTrailingZeros r106) fun r107 =>
    gB (gPI v105 3 0 r107) fun _ =>
    gB (gTx 2) fun t108 =>
    gB (gCk a0 1) fun _ =>
    gT (f_X2_after a0 t108 (0 : Int32) (20 : Int32)) fun r109 =>
    gB (gPI v105 3 1 r109) fun _ =>
    gB (gPI v105 3 2 (0 : Int32)) fun _ =>
    gB (gPI v105 3 3 (-1 : Int32)) fun _ =>
    gB (gTx 8) fun t110 =>
    gB (gCk a0 1) fun _ =>
    gB (f_X2_takes a0 t110) fun r111 =>
    gIf (r111 = 0)
    (f_X2_addProp_126 a0 v105)
    (gB (gCk a0 1) fun _ =>
    gB (f_X2_here a0) fun r112 =>
    gB (gCk a0 1) fun _ =>
    gT (f_X2_number a0 (0 : Int32) (9 : Int32)) fun r113 =>
    gB (gFR a0 1 4) fun v114 =>
    gB (gFR v114 2 3) fun v115 =>
    gB (gAI v115 0 r113) fun v116 =>
    gIf (v116 = (-1 : Int32))
    (f_X2_addProp_110 a0 v105 r113)
    (gB (gCk a0 1) fun _ =>
    gT (f_X2_fail a0 r112) fun _ =>
    f_X2_addProp_110 a0 v105 r113))
set_option maxHeartbeats 4000000 in
set_option maxRecDepth 100000 in
theorem b_X2_addProp_17 {G : gG} {l : Launch} {p : Program} {e : Env} {s : State} {m : MethodId} {args : Array Value} {below : List Frame} {meth : Method} {c : Code} {h0 : g_H} {r : (Unit ⊕ gE)} {h' : g_H} (X : gX G l yX2_addProp.cls cX2_addProp 5 none [] yX2_addProp.name p s m args meth c) : w_X2_addProp_17 G l p e s m args below meth c h0 r h' (f_X2_addProp_17) := by
  have hx := X.1
  have hb := X.2.1
  have hown := X.2.2.2.1
  have hts := X.2.2.2.2.1
  intro a0 h H locs cells slots ls hf hI hl
  unfold f_X2_addProp_17 at hf
  refine lv_aload_n hx hb dX2_addProp_17 rfl (lv_at hl 0 rfl) ?_
  refine g_fr X hI hf fX2_4 q401 rfl rfl dX2_addProp_18 (fun v101 hf => ?_)
  refine g_frN X hI hf fX3_0 q255 rfl rfl dX2_addProp_21 (fun v102 hf => ?_)
  refine lv_aload_n hx hb dX2_addProp_24 rfl (lv_at hl 0 rfl) ?_
  refine g_fr X hI hf fX2_4 q401 rfl rfl dX2_addProp_25 (fun v103 hf => ?_)
  refine g_fiN X hI hf fX3_6 q269 rfl rfl dX2_addProp_28 (fun v104 hf => ?_)
  refine g_ar4 X hI hf dX2_addProp_31 (fun v105 hf => ?_)
  refine lv_astore_n (lv' := [(2, .ref v105), (0, .ref a0)]) hx hb dX2_addProp_32 rfl hl (by decide) rfl (fun ls hl => ?_)
  refine lv_aload_n hx hb dX2_addProp_33 rfl (lv_at hl 0 rfl) ?_
  refine lv_aload_n hx hb dX2_addProp_34 rfl (lv_at hl 1 rfl) ?_
  refine lv_iconst (v := (1 : Int32)) hx hb dX2_addProp_35 (by decide) ?_
  obtain ⟨hs, hf⟩ := gCk_b hf
  refine g_cTI X hI (by decide) hf (fun v9 h9 e9 l9 l9' => g_rV X hI l9 l9' ⟨Nat.le_refl _, Nat.le_refl _⟩ (As := [.int (1 : Int32)]) (m_X2_letters X.2.2.2.2.2.2.2.2.2.2.1 e9) ydX2_letters hs rfl rfl q877 q879 qs23 q122 q880 rfl (Nat.le_of_ble_eq_true rfl) (Nat.le_of_ble_eq_true rfl) hl.1 rfl (Nat.le_of_ble_eq_true rfl) dX2_addProp_36) (fun r106 h H locs cells slots hf hI => ?_)
  refine g_cBI hI hf (fun v9 h9 e9 l9 l9' => g_rS (b := 0) X hI l9 l9' ⟨Nat.le_refl _, Nat.le_refl _⟩ (As := [.int r106]) (m_J7_numberOfTrailingZeros X.2.2.2.2.2.2.2.2.2.2.1 e9) ydJ7_numberOfTrailingZeros q886 q887 q137 q888 rfl (Nat.le_of_ble_eq_true rfl) (Nat.le_of_ble_eq_true rfl) hl.1 rfl (Nat.le_of_ble_eq_true rfl) dX2_addProp_39) (fun r107 h H locs cells slots hf hI => ?_)
  refine g_piN X hI hf fX4_0 q197 rfl dX2_addProp_42 (fun h H locs hf hI => ?_)
  refine lv_aload_n hx hb dX2_addProp_45 rfl (lv_at hl 0 rfl) ?_
  refine lv_aload_n hx hb dX2_addProp_46 rfl (lv_at hl 1 rfl) ?_
  refine g_ldcS (tx := "jerk") X hI hf (List.mem_of_getElem? (i := 2) rfl) dX2_addProp_47 (fun t108 hf => ?_)
  refine lv_iconst (v := (0 : Int32)) hx hb dX2_addProp_49 (by decide) ?_
  refine lv_bipush (v := (20 : Int32)) hx hb dX2_addProp_50 (by decide) ?_
  obtain ⟨hs, hf⟩ := gCk_b hf
  refine g_cTI X hI (by decide) hf (fun v9 h9 e9 l9 l9' => g_rV X hI l9 l9' ⟨Nat.le_refl _, Nat.le_refl _⟩ (As := [.ref t108, .int (0 : Int32), .int (20 : Int32)]) (m_X2_after X.2.2.2.2.2.2.2.2.2.2.1 e9) ydX2_after hs rfl rfl q890 q892 qs25 q122 q893 rfl (Nat.le_of_ble_eq_true rfl) (Nat.le_of_ble_eq_true rfl) hl.1 rfl (Nat.le_of_ble_eq_true rfl) dX2_addProp_52) (fun r109 h H locs cells slots hf hI => ?_)
  refine g_piN X hI hf fX4_1 q201 rfl dX2_addProp_55 (fun h H locs hf hI => ?_)
  refine lv_aload_n hx hb dX2_addProp_58 rfl (lv_at hl 0 rfl) ?_
  refine lv_iconst (v := (0 : Int32)) hx hb dX2_addProp_59 (by decide) ?_
  refine g_piN X hI hf fX4_2 q205 rfl dX2_addProp_60 (fun h H locs hf hI => ?_)
  refine lv_aload_n hx hb dX2_addProp_63 rfl (lv_at hl 0 rfl) ?_
  refine lv_iconst (v := (-1 : Int32)) hx hb dX2_addProp_64 (by decide) ?_
  refine g_piN X hI hf fX4_3 q209 rfl dX2_addProp_65 (fun h H locs hf hI => ?_)
  refine lv_aload_n hx hb dX2_addProp_68 rfl (lv_at hl 1 rfl) ?_
  refine g_ldcS (tx := "at") X hI hf (List.mem_of_getElem? (i := 8) rfl) dX2_addProp_69 (fun t110 hf => ?_)
  obtain ⟨hs, hf⟩ := gCk_b hf
  refine g_cBI hI hf (fun v9 h9 e9 l9 l9' => g_rV X hI l9 l9' ⟨Nat.le_refl _, Nat.le_refl _⟩ (As := [.ref t110]) (m_X2_takes X.2.2.2.2.2.2.2.2.2.2.1 e9) ydX2_takes hs rfl rfl q821 q823 qs21 q122 q824 rfl (Nat.le_of_ble_eq_true rfl) (Nat.le_of_ble_eq_true rfl) hl.1 rfl (Nat.le_of_ble_eq_true rfl) dX2_addProp_71) (fun r111 h H locs cells slots hf hI => ?_)
  refine lv_if_eq (tgt := 126) hx hb dX2_addProp_74 (by decide) (fun c74 => ?_) (fun c74 => ?_)
  · have hf := g_t c74 hf
    exact b_X2_addProp_126 X _ _ _ _ _ _ _ _ hf hI (lv_sub hl [1, 0] rfl)
  · have hf := g_f c74 hf
    refine lv_aload_n hx hb dX2_addProp_77 rfl (lv_at hl 1 rfl) ?_
    obtain ⟨hs, hf⟩ := gCk_b hf
    refine g_cBI hI hf (fun v9 h9 e9 l9 l9' => g_rV X hI l9 l9' ⟨Nat.le_refl _, Nat.le_refl _⟩ (As := []) (m_X2_here X.2.2.2.2.2.2.2.2.2.2.1 e9) ydX2_here hs rfl rfl q881 q883 qs24 q122 q884 rfl (Nat.le_of_ble_eq_true rfl) (Nat.le_of_ble_eq_true rfl) hl.1 rfl (Nat.le_of_ble_eq_true rfl) dX2_addProp_78) (fun r112 h H locs cells slots hf hI => ?_)
    refine lv_istore_n (lv' := [(3, .int r112), (2, .ref v105), (0, .ref a0)]) hx hb dX2_addProp_81 rfl hl (by decide) rfl (fun ls hl => ?_)
    refine lv_aload_n hx hb dX2_addProp_82 rfl (lv_at hl 2 rfl) ?_
    refine lv_iconst (v := (0 : Int32)) hx hb dX2_addProp_83 (by decide) ?_
    refine lv_bipush (v := (9 : Int32)) hx hb dX2_addProp_84 (by decide) ?_
    obtain ⟨hs, hf⟩ := gCk_b hf
    refine g_cTI X hI (by decide) hf (fun v9 h9 e9 l9 l9' => g_rV X hI l9 l9' ⟨Nat.le_refl _, Nat.le_refl _⟩ (As := [.int (0 : Int32), .int (9 : Int32)]) (m_X2_number X.2.2.2.2.2.2.2.2.2.2.1 e9) ydX2_number hs rfl rfl q898 q900 qs27 q122 q901 rfl (Nat.le_of_ble_eq_true rfl) (Nat.le_of_ble_eq_true rfl) hl.1 rfl (Nat.le_of_ble_eq_true rfl) dX2_addProp_86) (fun r113 h H locs cells slots hf hI => ?_)
    refine lv_istore (lv' := [(4, .int r113), (3, .int r112), (2, .ref v105), (0, .ref a0)]) hx hb dX2_addProp_89 hl (by decide) rfl (fun ls hl => ?_)
    refine lv_aload_n hx hb dX2_addProp_91 rfl (lv_at hl 3 rfl) ?_
    refine g_fr X hI hf fX2_4 q401 rfl rfl dX2_addProp_92 (fun v114 hf => ?_)
    refine g_frN X hI hf fX3_3 q263 rfl rfl dX2_addProp_95 (fun v115 hf => ?_)
    refine lv_iload hx hb dX2_addProp_98 (lv_at hl 0 rfl) ?_
    refine g_ai0 X hI hf dX2_addProp_100 (fun v116 hf => ?_)
    refine lv_iconst (v := (-1 : Int32)) hx hb dX2_addProp_101 (by decide) ?_
    refine lv_icmp_eq (tgt := 110) hx hb dX2_addProp_102 (by decide) (fun c102 => ?_) (fun c102 => ?_)
    · have hf := g_t c102 hf
      exact b_X2_addProp_110 X _ _ _ _ _ _ _ _ _ hf hI (lv_sub hl [3, 2, 0] rfl)
    · have hf := g_f c102 hf
      refine lv_aload_n hx hb dX2_addProp_105 rfl (lv_at hl 3 rfl) ?_
      refine lv_iload_n hx hb dX2_addProp_106 rfl (lv_at hl 1 rfl) ?_
      obtain ⟨hs, hf⟩ := gCk_b hf
      refine g_cTU X hI (by decide) hf (fun v9 h9 e9 l9 l9' => g_rV X hI l9 l9' ⟨Nat.le_refl _, Nat.le_refl _⟩ (As := [.int r112]) (m_X2_fail X.2.2.2.2.2.2.2.2.2.2.1 e9) ydX2_fail hs rfl rfl q813 q815 qs19 q122 q816 rfl (Nat.le_of_ble_eq_true rfl) (Nat.le_of_ble_eq_true rfl) hl.1 rfl (Nat.le_of_ble_eq_true rfl) dX2_addProp_107) (fun r117 h H locs cells slots hf hI => ?_)
      exact b_X2_addProp_110 X _ _ _ _ _ _ _ _ _ hf hI (lv_sub hl [3, 2, 0] rfl)
def f_X2_addProp (a0 : Nat) (x1 : Int32) : gM (Unit ⊕ gE) :=
    gB (gFR a0 1 4) fun v1 =>
    gB (gFI v1 2 6) fun v2 =>
    gIf (v2 = (8 : Int32))
    (gB (gCk a0 1) fun _ =>
    gT (f_X2_fail a0 x1) fun _ =>
    f_X2_addProp_17 a0)
    (f_X2_addProp_17 a0)
set_option maxHeartbeats 4000000 in
set_option maxRecDepth 100000 in
theorem m_X2_addProp {G : gG} {l : Launch} (hfl : l.stackTraces = false) {a0 : Nat} {x1 : Int32} {h h' : g_H} {r : (Unit ⊕ gE)} (hf : (f_X2_addProp a0 x1).1 h = some (r, h')) : gMet G l yX2_addProp (Cond.code yX2_addProp cX2_addProp 5 none) 8 174 [.ref a0, .int x1] h (g_w g_wU r) h' := by
  refine g_head hfl ((f_X2_addProp a0 x1).2 h r h' hf) (plainFor_of_name (by decide)) (Nat.le_of_ble_eq_true rfl) (fun p e s m below meth c H locs cells slots ls X hI hl9 => ?_)
  have hl : lv_has ls 5 [(0, .ref a0), (1, .int x1)] := hl9
  have hx := X.1
  have hb := X.2.1
  have hown := X.2.2.2.1
  have hts := X.2.2.2.2.1
  unfold f_X2_addProp at hf
  refine lv_aload_n hx hb dX2_addProp_0 rfl (lv_at hl 0 rfl) ?_
  refine g_fr X hI hf fX2_4 q401 rfl rfl dX2_addProp_1 (fun v1 hf => ?_)
  refine g_fiN X hI hf fX3_6 q269 rfl rfl dX2_addProp_4 (fun v2 hf => ?_)
  refine lv_bipush (v := (8 : Int32)) hx hb dX2_addProp_7 (by decide) ?_
  refine lv_icmp_ne (tgt := 17) hx hb dX2_addProp_9 (by decide) (fun c9 => ?_) (fun c9 => ?_)
  · have hf := g_f c9 hf
    exact b_X2_addProp_17 X _ _ _ _ _ _ _ hf hI (lv_sub hl [0] rfl)
  · have hf := g_t c9 hf
    refine lv_aload_n hx hb dX2_addProp_12 rfl (lv_at hl 0 rfl) ?_
    refine lv_iload_n hx hb dX2_addProp_13 rfl (lv_at hl 1 rfl) ?_
    obtain ⟨hs, hf⟩ := gCk_b hf
    refine g_cTU X hI (by decide) hf (fun v9 h9 e9 l9 l9' => g_rV X hI l9 l9' ⟨Nat.le_refl _, Nat.le_refl _⟩ (As := [.int x1]) (m_X2_fail X.2.2.2.2.2.2.2.2.2.2.1 e9) ydX2_fail hs rfl rfl q813 q815 qs19 q122 q816 rfl (Nat.le_of_ble_eq_true rfl) (Nat.le_of_ble_eq_true rfl) hl.1 rfl (Nat.le_of_ble_eq_true rfl) dX2_addProp_14) (fun r3 h H locs cells slots hf hI => ?_)
    exact b_X2_addProp_17 X _ _ _ _ _ _ _ hf hI (lv_sub hl [0] rfl)
/-! X2_addOne -/
abbrev w_X2_addOne_98 (G : gG) (l : Launch) (p : Program) (e : Env) (s : State) (m : MethodId) (args : Array Value) (below : List Frame) (meth : Method) (c : Code) (h0 : g_H) (r : (Unit ⊕ gE)) (h' : g_H) (k : Nat → Nat → Nat → Int32 → gM (Unit ⊕ gE)) : Prop := ∀ (a0 : Nat) (a2 : Nat) (b0 : Nat) (u1 : Int32) (h : g_H) (H : Heap) (locs : List Loc) (cells slots : Nat) (ls : Array Slot), (k a0 a2 b0 u1).1 h = some (r, h') → gI G h0 h H locs cells slots → lv_has ls 3 [(0, .ref a0), (2, .ref a2)] → W p l e (g_rm 8 174 h0 h') s m args below meth c H locs cells slots (gQ G below args s h0 h' (g_w g_wU r)) (F0 m 98 ls [.int u1, .ref b0])
abbrev w_X2_addOne_65 (G : gG) (l : Launch) (p : Program) (e : Env) (s : State) (m : MethodId) (args : Array Value) (below : List Frame) (meth : Method) (c : Code) (h0 : g_H) (r : (Unit ⊕ gE)) (h' : g_H) (k : Nat → Nat → Nat → Int32 → gM (Unit ⊕ gE)) : Prop := ∀ (a0 : Nat) (a2 : Nat) (b0 : Nat) (u1 : Int32) (h : g_H) (H : Heap) (locs : List Loc) (cells slots : Nat) (ls : Array Slot), (k a0 a2 b0 u1).1 h = some (r, h') → gI G h0 h H locs cells slots → lv_has ls 3 [(0, .ref a0), (2, .ref a2)] → W p l e (g_rm 8 174 h0 h') s m args below meth c H locs cells slots (gQ G below args s h0 h' (g_w g_wU r)) (F0 m 65 ls [.int u1, .ref b0])
abbrev w_X2_addOne_17 (G : gG) (l : Launch) (p : Program) (e : Env) (s : State) (m : MethodId) (args : Array Value) (below : List Frame) (meth : Method) (c : Code) (h0 : g_H) (r : (Unit ⊕ gE)) (h' : g_H) (k : Nat → gM (Unit ⊕ gE)) : Prop := ∀ (a0 : Nat) (h : g_H) (H : Heap) (locs : List Loc) (cells slots : Nat) (ls : Array Slot), (k a0).1 h = some (r, h') → gI G h0 h H locs cells slots → lv_has ls 3 [(0, .ref a0)] → W p l e (g_rm 8 174 h0 h') s m args below meth c H locs cells slots (gQ G below args s h0 h' (g_w g_wU r)) (F0 m 17 ls [])
def f_X2_addOne_98 (a0 : Nat) (a2 : Nat) (b0 : Nat) (u1 : Int32) : gM (Unit ⊕ gE) :=
    gB (gPI b0 4 2 u1) fun _ =>
    gB (gPI a2 4 3 (0 : Int32)) fun _ =>
    gB (gFR a0 1 4) fun v101 =>
    gB (gFI v101 2 7) fun v102 =>
    gB (gPI v101 2 7 (v102 + (1 : Int32))) fun _ =>
    gRet (.inl ())
set_option maxHeartbeats 4000000 in
set_option maxRecDepth 100000 in
theorem b_X2_addOne_98 {G : gG} {l : Launch} {p : Program} {e : Env} {s : State} {m : MethodId} {args : Array Value} {below : List Frame} {meth : Method} {c : Code} {h0 : g_H} {r : (Unit ⊕ gE)} {h' : g_H} (X : gX G l yX2_addOne.cls cX2_addOne 3 none [] yX2_addOne.name p s m args meth c) : w_X2_addOne_98 G l p e s m args below meth c h0 r h' (f_X2_addOne_98) := by
  have hx := X.1
  have hb := X.2.1
  have hown := X.2.2.2.1
  have hts := X.2.2.2.2.1
  intro a0 a2 b0 u1 h H locs cells slots ls hf hI hl
  unfold f_X2_addOne_98 at hf
  refine g_piN X hI hf fX5_2 q238 rfl dX2_addOne_98 (fun h H locs hf hI => ?_)
  refine lv_aload_n hx hb dX2_addOne_101 rfl (lv_at hl 1 rfl) ?_
  refine lv_iconst (v := (0 : Int32)) hx hb dX2_addOne_102 (by decide) ?_
  refine g_piN X hI hf fX5_3 q242 rfl dX2_addOne_103 (fun h H locs hf hI => ?_)
  refine lv_aload_n hx hb dX2_addOne_106 rfl (lv_at hl 0 rfl) ?_
  refine g_fr X hI hf fX2_4 q401 rfl rfl dX2_addOne_107 (fun v101 hf => ?_)
  refine lv_dup hx hb dX2_addOne_110 rfl ?_
  refine g_fiN X hI hf fX3_7 q272 rfl rfl dX2_addOne_111 (fun v102 hf => ?_)
  refine lv_iconst (v := (1 : Int32)) hx hb dX2_addOne_114 (by decide) ?_
  refine lv_iadd hx hb dX2_addOne_115 ?_
  refine g_piN X hI hf fX3_7 q272 rfl dX2_addOne_116 (fun h H locs hf hI => ?_)
  cases gRet_e hf
  exact g_retU X hI rfl dX2_addOne_119
def f_X2_addOne_65 (a0 : Nat) (a2 : Nat) (b0 : Nat) (u1 : Int32) : gM (Unit ⊕ gE) :=
    gB (gPI b0 4 0 u1) fun _ =>
    gB (gTx 6) fun t101 =>
    gB (gCk a0 1) fun _ =>
    gB (f_X2_takes a0 t101) fun r102 =>
    gIf (r102 = 0)
    (f_X2_addOne_98 a0 a2 a2 (0 : Int32))
    (gB (gFR a0 1 4) fun v103 =>
    gB (gFI v103 2 6) fun v104 =>
    gB (gCk a0 1) fun _ =>
    gT (f_X2_number a0 (0 : Int32) (v104 - (1 : Int32))) fun r105 =>
    f_X2_addOne_98 a0 a2 a2 ((1 : Int32) <<< (r105 &&& 31)))
set_option maxHeartbeats 4000000 in
set_option maxRecDepth 100000 in
theorem b_X2_addOne_65 {G : gG} {l : Launch} {p : Program} {e : Env} {s : State} {m : MethodId} {args : Array Value} {below : List Frame} {meth : Method} {c : Code} {h0 : g_H} {r : (Unit ⊕ gE)} {h' : g_H} (X : gX G l yX2_addOne.cls cX2_addOne 3 none [] yX2_addOne.name p s m args meth c) : w_X2_addOne_65 G l p e s m args below meth c h0 r h' (f_X2_addOne_65) := by
  have hx := X.1
  have hb := X.2.1
  have hown := X.2.2.2.1
  have hts := X.2.2.2.2.1
  intro a0 a2 b0 u1 h H locs cells slots ls hf hI hl
  unfold f_X2_addOne_65 at hf
  refine g_piN X hI hf fX5_0 q229 rfl dX2_addOne_65 (fun h H locs hf hI => ?_)
  refine lv_aload_n hx hb dX2_addOne_68 rfl (lv_at hl 1 rfl) ?_
  refine lv_aload_n hx hb dX2_addOne_69 rfl (lv_at hl 0 rfl) ?_
  refine g_ldcS (tx := "knows") X hI hf (List.mem_of_getElem? (i := 6) rfl) dX2_addOne_70 (fun t101 hf => ?_)
  obtain ⟨hs, hf⟩ := gCk_b hf
  refine g_cBI hI hf (fun v9 h9 e9 l9 l9' => g_rV X hI l9 l9' ⟨Nat.le_refl _, Nat.le_refl _⟩ (As := [.ref t101]) (m_X2_takes X.2.2.2.2.2.2.2.2.2.2.1 e9) ydX2_takes hs rfl rfl q821 q823 qs21 q122 q824 rfl (Nat.le_of_ble_eq_true rfl) (Nat.le_of_ble_eq_true rfl) hl.1 rfl (Nat.le_of_ble_eq_true rfl) dX2_addOne_72) (fun r102 h H locs cells slots hf hI => ?_)
  refine lv_if_eq (tgt := 97) hx hb dX2_addOne_75 (by decide) (fun c75 => ?_) (fun c75 => ?_)
  · have hf := g_t c75 hf
    refine lv_iconst (v := (0 : Int32)) hx hb dX2_addOne_97 (by decide) ?_
    exact b_X2_addOne_98 X _ _ _ _ _ _ _ _ _ _ hf hI (lv_sub hl [0, 1] rfl)
  · have hf := g_f c75 hf
    refine lv_iconst (v := (1 : Int32)) hx hb dX2_addOne_78 (by decide) ?_
    refine lv_aload_n hx hb dX2_addOne_79 rfl (lv_at hl 0 rfl) ?_
    refine lv_iconst (v := (0 : Int32)) hx hb dX2_addOne_80 (by decide) ?_
    refine lv_aload_n hx hb dX2_addOne_81 rfl (lv_at hl 0 rfl) ?_
    refine g_fr X hI hf fX2_4 q401 rfl rfl dX2_addOne_82 (fun v103 hf => ?_)
    refine g_fiN X hI hf fX3_6 q269 rfl rfl dX2_addOne_85 (fun v104 hf => ?_)
    refine lv_iconst (v := (1 : Int32)) hx hb dX2_addOne_88 (by decide) ?_
    refine lv_isub hx hb dX2_addOne_89 ?_
    obtain ⟨hs, hf⟩ := gCk_b hf
    refine g_cTI X hI (by decide) hf (fun v9 h9 e9 l9 l9' => g_rV X hI l9 l9' ⟨Nat.le_refl _, Nat.le_refl _⟩ (As := [.int (0 : Int32), .int (v104 - (1 : Int32))]) (m_X2_number X.2.2.2.2.2.2.2.2.2.2.1 e9) ydX2_number hs rfl rfl q898 q900 qs27 q122 q901 rfl (Nat.le_of_ble_eq_true rfl) (Nat.le_of_ble_eq_true rfl) hl.1 rfl (Nat.le_of_ble_eq_true rfl) dX2_addOne_90) (fun r105 h H locs cells slots hf hI => ?_)
    refine lv_ishl hx hb dX2_addOne_93 ?_
    refine lv_goto (tgt := 98) hx hb dX2_addOne_94 (by decide) ?_
    exact b_X2_addOne_98 X _ _ _ _ _ _ _ _ _ _ hf hI (lv_sub hl [0, 1] rfl)
def f_X2_addOne_17 (a0 : Nat) : gM (Unit ⊕ gE) :=
    gB (gFR a0 1 4) fun v101 =>
    gB (gFR v101 2 1) fun v102 =>
    gB (gFR a0 1 4) fun v103 =>
    gB (gFI v103 2 7) fun v104 =>
    gB (gAR v102 5 v104) fun v105 =>
    gB (gTx 5) fun t106 =>
    gB (gCk a0 1) fun _ =>
    gT (f_X2_after a0 t106 (1 : Int32) (60 : Int32)) fun r107 =>
    gB (gPI v105 4 1 r107) fun _ =>
    gB (gTx 10) fun t108 =>
    gB (gCk a0 1) fun _ =>
    gB (f_X2_takes a0 t108) fun r109 =>
    gIf (r109 = 0)
    (f_X2_addOne_65 a0 v105 v105 (0 : Int32))
    (gB (gCk a0 1) fun _ =>
    gT (f_X2_letters a0 (0 : Int32)) fun r110 =>
    f_X2_addOne_65 a0 v105 v105 r110)
set_option maxHeartbeats 4000000 in
set_option maxRecDepth 100000 in
theorem b_X2_addOne_17 {G : gG} {l : Launch} {p : Program} {e : Env} {s : State} {m : MethodId} {args : Array Value} {below : List Frame} {meth : Method} {c : Code} {h0 : g_H} {r : (Unit ⊕ gE)} {h' : g_H} (X : gX G l yX2_addOne.cls cX2_addOne 3 none [] yX2_addOne.name p s m args meth c) : w_X2_addOne_17 G l p e s m args below meth c h0 r h' (f_X2_addOne_17) := by
  have hx := X.1
  have hb := X.2.1
  have hown := X.2.2.2.1
  have hts := X.2.2.2.2.1
  intro a0 h H locs cells slots ls hf hI hl
  unfold f_X2_addOne_17 at hf
  refine lv_aload_n hx hb dX2_addOne_17 rfl (lv_at hl 0 rfl) ?_
  refine g_fr X hI hf fX2_4 q401 rfl rfl dX2_addOne_18 (fun v101 hf => ?_)
  refine g_frN X hI hf fX3_1 q258 rfl rfl dX2_addOne_21 (fun v102 hf => ?_)
  refine lv_aload_n hx hb dX2_addOne_24 rfl (lv_at hl 0 rfl) ?_
  refine g_fr X hI hf fX2_4 q401 rfl rfl dX2_addOne_25 (fun v103 hf => ?_)
  refine g_fiN X hI hf fX3_7 q272 rfl rfl dX2_addOne_28 (fun v104 hf => ?_)
  refine g_ar5 X hI hf dX2_addOne_31 (fun v105 hf => ?_)
  refine lv_astore_n (lv' := [(2, .ref v105), (0, .ref a0)]) hx hb dX2_addOne_32 rfl hl (by decide) rfl (fun ls hl => ?_)
  refine lv_aload_n hx hb dX2_addOne_33 rfl (lv_at hl 0 rfl) ?_
  refine lv_aload_n hx hb dX2_addOne_34 rfl (lv_at hl 1 rfl) ?_
  refine g_ldcS (tx := "nerve") X hI hf (List.mem_of_getElem? (i := 5) rfl) dX2_addOne_35 (fun t106 hf => ?_)
  refine lv_iconst (v := (1 : Int32)) hx hb dX2_addOne_37 (by decide) ?_
  refine lv_bipush (v := (60 : Int32)) hx hb dX2_addOne_38 (by decide) ?_
  obtain ⟨hs, hf⟩ := gCk_b hf
  refine g_cTI X hI (by decide) hf (fun v9 h9 e9 l9 l9' => g_rV X hI l9 l9' ⟨Nat.le_refl _, Nat.le_refl _⟩ (As := [.ref t106, .int (1 : Int32), .int (60 : Int32)]) (m_X2_after X.2.2.2.2.2.2.2.2.2.2.1 e9) ydX2_after hs rfl rfl q890 q892 qs25 q122 q893 rfl (Nat.le_of_ble_eq_true rfl) (Nat.le_of_ble_eq_true rfl) hl.1 rfl (Nat.le_of_ble_eq_true rfl) dX2_addOne_40) (fun r107 h H locs cells slots hf hI => ?_)
  refine g_piN X hI hf fX5_1 q234 rfl dX2_addOne_43 (fun h H locs hf hI => ?_)
  refine lv_aload_n hx hb dX2_addOne_46 rfl (lv_at hl 0 rfl) ?_
  refine lv_aload_n hx hb dX2_addOne_47 rfl (lv_at hl 1 rfl) ?_
  refine g_ldcS (tx := "did") X hI hf (List.mem_of_getElem? (i := 10) rfl) dX2_addOne_48 (fun t108 hf => ?_)
  obtain ⟨hs, hf⟩ := gCk_b hf
  refine g_cBI hI hf (fun v9 h9 e9 l9 l9' => g_rV X hI l9 l9' ⟨Nat.le_refl _, Nat.le_refl _⟩ (As := [.ref t108]) (m_X2_takes X.2.2.2.2.2.2.2.2.2.2.1 e9) ydX2_takes hs rfl rfl q821 q823 qs21 q122 q824 rfl (Nat.le_of_ble_eq_true rfl) (Nat.le_of_ble_eq_true rfl) hl.1 rfl (Nat.le_of_ble_eq_true rfl) dX2_addOne_50) (fun r109 h H locs cells slots hf hI => ?_)
  refine lv_if_eq (tgt := 64) hx hb dX2_addOne_53 (by decide) (fun c53 => ?_) (fun c53 => ?_)
  · have hf := g_t c53 hf
    refine lv_iconst (v := (0 : Int32)) hx hb dX2_addOne_64 (by decide) ?_
    exact b_X2_addOne_65 X _ _ _ _ _ _ _ _ _ _ hf hI (lv_sub hl [1, 0] rfl)
  · have hf := g_f c53 hf
    refine lv_aload_n hx hb dX2_addOne_56 rfl (lv_at hl 1 rfl) ?_
    refine lv_iconst (v := (0 : Int32)) hx hb dX2_addOne_57 (by decide) ?_
    obtain ⟨hs, hf⟩ := gCk_b hf
    refine g_cTI X hI (by decide) hf (fun v9 h9 e9 l9 l9' => g_rV X hI l9 l9' ⟨Nat.le_refl _, Nat.le_refl _⟩ (As := [.int (0 : Int32)]) (m_X2_letters X.2.2.2.2.2.2.2.2.2.2.1 e9) ydX2_letters hs rfl rfl q877 q879 qs23 q122 q880 rfl (Nat.le_of_ble_eq_true rfl) (Nat.le_of_ble_eq_true rfl) hl.1 rfl (Nat.le_of_ble_eq_true rfl) dX2_addOne_58) (fun r110 h H locs cells slots hf hI => ?_)
    refine lv_goto (tgt := 65) hx hb dX2_addOne_61 (by decide) ?_
    exact b_X2_addOne_65 X _ _ _ _ _ _ _ _ _ _ hf hI (lv_sub hl [1, 0] rfl)
def f_X2_addOne (a0 : Nat) (x1 : Int32) : gM (Unit ⊕ gE) :=
    gB (gFR a0 1 4) fun v1 =>
    gB (gFI v1 2 7) fun v2 =>
    gIf (v2 = (6 : Int32))
    (gB (gCk a0 1) fun _ =>
    gT (f_X2_fail a0 x1) fun _ =>
    f_X2_addOne_17 a0)
    (f_X2_addOne_17 a0)
set_option maxHeartbeats 4000000 in
set_option maxRecDepth 100000 in
theorem m_X2_addOne {G : gG} {l : Launch} (hfl : l.stackTraces = false) {a0 : Nat} {x1 : Int32} {h h' : g_H} {r : (Unit ⊕ gE)} (hf : (f_X2_addOne a0 x1).1 h = some (r, h')) : gMet G l yX2_addOne (Cond.code yX2_addOne cX2_addOne 3 none) 8 174 [.ref a0, .int x1] h (g_w g_wU r) h' := by
  refine g_head hfl ((f_X2_addOne a0 x1).2 h r h' hf) (plainFor_of_name (by decide)) (Nat.le_of_ble_eq_true rfl) (fun p e s m below meth c H locs cells slots ls X hI hl9 => ?_)
  have hl : lv_has ls 3 [(0, .ref a0), (1, .int x1)] := hl9
  have hx := X.1
  have hb := X.2.1
  have hown := X.2.2.2.1
  have hts := X.2.2.2.2.1
  unfold f_X2_addOne at hf
  refine lv_aload_n hx hb dX2_addOne_0 rfl (lv_at hl 0 rfl) ?_
  refine g_fr X hI hf fX2_4 q401 rfl rfl dX2_addOne_1 (fun v1 hf => ?_)
  refine g_fiN X hI hf fX3_7 q272 rfl rfl dX2_addOne_4 (fun v2 hf => ?_)
  refine lv_bipush (v := (6 : Int32)) hx hb dX2_addOne_7 (by decide) ?_
  refine lv_icmp_ne (tgt := 17) hx hb dX2_addOne_9 (by decide) (fun c9 => ?_) (fun c9 => ?_)
  · have hf := g_f c9 hf
    exact b_X2_addOne_17 X _ _ _ _ _ _ _ hf hI (lv_sub hl [0] rfl)
  · have hf := g_t c9 hf
    refine lv_aload_n hx hb dX2_addOne_12 rfl (lv_at hl 0 rfl) ?_
    refine lv_iload_n hx hb dX2_addOne_13 rfl (lv_at hl 1 rfl) ?_
    obtain ⟨hs, hf⟩ := gCk_b hf
    refine g_cTU X hI (by decide) hf (fun v9 h9 e9 l9 l9' => g_rV X hI l9 l9' ⟨Nat.le_refl _, Nat.le_refl _⟩ (As := [.int x1]) (m_X2_fail X.2.2.2.2.2.2.2.2.2.2.1 e9) ydX2_fail hs rfl rfl q813 q815 qs19 q122 q816 rfl (Nat.le_of_ble_eq_true rfl) (Nat.le_of_ble_eq_true rfl) hl.1 rfl (Nat.le_of_ble_eq_true rfl) dX2_addOne_14) (fun r3 h H locs cells slots hf hI => ?_)
    exact b_X2_addOne_17 X _ _ _ _ _ _ _ hf hI (lv_sub hl [0] rfl)
end
