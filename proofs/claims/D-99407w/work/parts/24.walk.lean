noncomputable section
/-! X1_loudest -/
abbrev w_X1_loudest_58 (G : gG) (l : Launch) (p : Program) (e : Env) (s : State) (m : MethodId) (args : Array Value) (below : List Frame) (meth : Method) (c : Code) (h0 : g_H) (r : Int32) (h' : g_H) (k : Nat → Int32 → Int32 → Int32 → gM Int32) : Prop := ∀ (a0 : Nat) (x1 : Int32) (x2 : Int32) (x3 : Int32) (h : g_H) (H : Heap) (locs : List Loc) (cells slots : Nat) (ls : Array Slot), (k a0 x1 x2 x3).1 h = some (r, h') → gI G h0 h H locs cells slots → lv_has ls 5 [(0, .ref a0), (1, .int x1), (2, .int x2), (3, .int x3)] → W p l e (g_rm 104 1941 h0 h') s m args below meth c H locs cells slots (gQ G below args s h0 h' (.inl (g_wI r))) (F0 m 58 ls [])
abbrev w_X1_loudest_42 (G : gG) (l : Launch) (p : Program) (e : Env) (s : State) (m : MethodId) (args : Array Value) (below : List Frame) (meth : Method) (c : Code) (h0 : g_H) (r : Int32) (h' : g_H) (k : Nat → Int32 → Int32 → Int32 → Int32 → gM Int32) : Prop := ∀ (a0 : Nat) (x1 : Int32) (x2 : Int32) (x3 : Int32) (u0 : Int32) (h : g_H) (H : Heap) (locs : List Loc) (cells slots : Nat) (ls : Array Slot), (k a0 x1 x2 x3 u0).1 h = some (r, h') → gI G h0 h H locs cells slots → lv_has ls 5 [(0, .ref a0), (1, .int x1), (2, .int x2), (3, .int x3)] → W p l e (g_rm 104 1941 h0 h') s m args below meth c H locs cells slots (gQ G below args s h0 h' (.inl (g_wI r))) (F0 m 42 ls [.int u0])
abbrev w_X1_loudest_64 (G : gG) (l : Launch) (p : Program) (e : Env) (s : State) (m : MethodId) (args : Array Value) (below : List Frame) (meth : Method) (c : Code) (h0 : g_H) (r : Int32) (h' : g_H) (k : Int32 → gM Int32) : Prop := ∀ (x1 : Int32) (h : g_H) (H : Heap) (locs : List Loc) (cells slots : Nat) (ls : Array Slot), (k x1).1 h = some (r, h') → gI G h0 h H locs cells slots → lv_has ls 5 [(1, .int x1)] → W p l e (g_rm 104 1941 h0 h') s m args below meth c H locs cells slots (gQ G below args s h0 h' (.inl (g_wI r))) (F0 m 64 ls [])
abbrev w_X1_loudest_6 (G : gG) (l : Launch) (p : Program) (e : Env) (s : State) (m : MethodId) (args : Array Value) (below : List Frame) (meth : Method) (c : Code) (h0 : g_H) (r : Int32) (h' : g_H) (k : Nat → Int32 → Int32 → Int32 → gM Int32) : Prop := ∀ (a0 : Nat) (x1 : Int32) (x2 : Int32) (x3 : Int32) (h : g_H) (H : Heap) (locs : List Loc) (cells slots : Nat) (ls : Array Slot), (k a0 x1 x2 x3).1 h = some (r, h') → gI G h0 h H locs cells slots → lv_has ls 5 [(0, .ref a0), (1, .int x1), (2, .int x2), (3, .int x3)] → W p l e (g_rm 104 1941 h0 h') s m args below meth c H locs cells slots (gQ G below args s h0 h' (.inl (g_wI r))) (F0 m 6 ls [])
def f_X1_loudest_58 (k6 : Nat → Int32 → Int32 → Int32 → gM Int32) (a0 : Nat) (x1 : Int32) (x2 : Int32) (x3 : Int32) : gM Int32 :=
    k6 a0 x1 x2 (x3 + (1 : Int32))
set_option maxHeartbeats 4000000 in
set_option maxRecDepth 100000 in
theorem b_X1_loudest_58 {G : gG} {l : Launch} {p : Program} {e : Env} {s : State} {m : MethodId} {args : Array Value} {below : List Frame} {meth : Method} {c : Code} {h0 : g_H} {r : Int32} {h' : g_H} (X : gX G l yX1_loudest.cls cX1_loudest 5 (some .int) [] yX1_loudest.name p s m args meth c) {k6 : Nat → Int32 → Int32 → Int32 → gM Int32} (K6 : w_X1_loudest_6 G l p e s m args below meth c h0 r h' k6) : w_X1_loudest_58 G l p e s m args below meth c h0 r h' (f_X1_loudest_58 k6) := by
  have hx := X.1
  have hb := X.2.1
  have hown := X.2.2.2.1
  have hts := X.2.2.2.2.1
  intro a0 x1 x2 x3 h H locs cells slots ls hf hI hl
  unfold f_X1_loudest_58 at hf
  refine lv_iinc (v := (x3 + (1 : Int32))) (lv' := [(3, .int (x3 + (1 : Int32))), (0, .ref a0), (1, .int x1), (2, .int x2)]) hx hb dX1_loudest_58 hl (k := 3) rfl rfl (by decide) rfl (fun ls hl => ?_)
  refine lv_goto (tgt := 6) hx hb dX1_loudest_61 (by decide) ?_
  exact K6 _ _ _ _ _ _ _ _ _ _ hf hI (lv_sub hl [1, 2, 3, 0] rfl)
def f_X1_loudest_42 (k6 : Nat → Int32 → Int32 → Int32 → gM Int32) (a0 : Nat) (x1 : Int32) (x2 : Int32) (x3 : Int32) (u0 : Int32) : gM Int32 :=
    gIf (x2 < u0)
    (f_X1_loudest_58 k6 a0 x3 u0 x3)
    (f_X1_loudest_58 k6 a0 x1 x2 x3)
set_option maxHeartbeats 4000000 in
set_option maxRecDepth 100000 in
theorem b_X1_loudest_42 {G : gG} {l : Launch} {p : Program} {e : Env} {s : State} {m : MethodId} {args : Array Value} {below : List Frame} {meth : Method} {c : Code} {h0 : g_H} {r : Int32} {h' : g_H} (X : gX G l yX1_loudest.cls cX1_loudest 5 (some .int) [] yX1_loudest.name p s m args meth c) {k6 : Nat → Int32 → Int32 → Int32 → gM Int32} (K6 : w_X1_loudest_6 G l p e s m args below meth c h0 r h' k6) : w_X1_loudest_42 G l p e s m args below meth c h0 r h' (f_X1_loudest_42 k6) := by
  have hx := X.1
  have hb := X.2.1
  have hown := X.2.2.2.1
  have hts := X.2.2.2.2.1
  intro a0 x1 x2 x3 u0 h H locs cells slots ls hf hI hl
  unfold f_X1_loudest_42 at hf
  refine lv_istore (lv' := [(4, .int u0), (0, .ref a0), (1, .int x1), (2, .int x2), (3, .int x3)]) hx hb dX1_loudest_42 hl (by decide) rfl (fun ls hl => ?_)
  refine lv_iload hx hb dX1_loudest_44 (lv_at hl 0 rfl) ?_
  refine lv_iload_n hx hb dX1_loudest_46 rfl (lv_at hl 3 rfl) ?_
  refine lv_icmp_gt (tgt := 53) hx hb dX1_loudest_47 (by decide) (fun c47 => ?_) (fun c47 => ?_)
  · have hf := g_t c47 hf
    refine lv_iload hx hb dX1_loudest_53 (lv_at hl 0 rfl) ?_
    refine lv_istore_n (lv' := [(2, .int u0), (4, .int u0), (0, .ref a0), (1, .int x1), (3, .int x3)]) hx hb dX1_loudest_55 rfl hl (by decide) rfl (fun ls hl => ?_)
    refine lv_iload_n hx hb dX1_loudest_56 rfl (lv_at hl 4 rfl) ?_
    refine lv_istore_n (lv' := [(1, .int x3), (2, .int u0), (4, .int u0), (0, .ref a0), (3, .int x3)]) hx hb dX1_loudest_57 rfl hl (by decide) rfl (fun ls hl => ?_)
    exact b_X1_loudest_58 X K6 _ _ _ _ _ _ _ _ _ _ hf hI (lv_sub hl [3, 0, 1, 4] rfl)
  · have hf := g_f c47 hf
    refine lv_goto (tgt := 58) hx hb dX1_loudest_50 (by decide) ?_
    exact b_X1_loudest_58 X K6 _ _ _ _ _ _ _ _ _ _ hf hI (lv_sub hl [1, 2, 3, 4] rfl)
def f_X1_loudest_64 (x1 : Int32) : gM Int32 :=
    (gRet x1)
set_option maxHeartbeats 4000000 in
set_option maxRecDepth 100000 in
theorem b_X1_loudest_64 {G : gG} {l : Launch} {p : Program} {e : Env} {s : State} {m : MethodId} {args : Array Value} {below : List Frame} {meth : Method} {c : Code} {h0 : g_H} {r : Int32} {h' : g_H} (X : gX G l yX1_loudest.cls cX1_loudest 5 (some .int) [] yX1_loudest.name p s m args meth c) : w_X1_loudest_64 G l p e s m args below meth c h0 r h' (f_X1_loudest_64) := by
  have hx := X.1
  have hb := X.2.1
  have hown := X.2.2.2.1
  have hts := X.2.2.2.2.1
  intro x1 h H locs cells slots ls hf hI hl
  unfold f_X1_loudest_64 at hf
  refine lv_iload_n hx hb dX1_loudest_64 rfl (lv_at hl 0 rfl) ?_
  cases gRet_e hf
  exact g_retI X hI rfl dX1_loudest_65
def f_X1_loudest_6 : Nat → Nat → Int32 → Int32 → Int32 → gM Int32
  | 0, _, _, _, _ => gFail
  | n + 1, a0, x1, x2, x3 =>
    gB (gFR a0 0 1) fun v101 =>
    gB (gFI v101 2 6) fun v102 =>
    gIf (v102 ≤ x3)
    (f_X1_loudest_64 x1)
    (gB (gFR a0 0 1) fun v103 =>
    gB (gFR v103 2 0) fun v104 =>
    gB (gAR v104 4 x3) fun v105 =>
    gB (gFI v105 3 3) fun v106 =>
    gIf (v106 = (-1 : Int32))
    (f_X1_loudest_42 (f_X1_loudest_6 n) a0 x1 x2 x3 (0 : Int32))
    (gB (gCk a0 0) fun _ =>
    gB (f_X1_loud a0 x3) fun r107 =>
    f_X1_loudest_42 (f_X1_loudest_6 n) a0 x1 x2 x3 r107))
set_option maxHeartbeats 4000000 in
set_option maxRecDepth 100000 in
theorem b_X1_loudest_6 {G : gG} {l : Launch} {p : Program} {e : Env} {s : State} {m : MethodId} {args : Array Value} {below : List Frame} {meth : Method} {c : Code} {h0 : g_H} {r : Int32} {h' : g_H} (X : gX G l yX1_loudest.cls cX1_loudest 5 (some .int) [] yX1_loudest.name p s m args meth c) : ∀ n : Nat, w_X1_loudest_6 G l p e s m args below meth c h0 r h' (f_X1_loudest_6 n) := by
  have hx := X.1
  have hb := X.2.1
  have hown := X.2.2.2.1
  have hts := X.2.2.2.2.1
  intro n
  induction n with
  | zero =>
    intro a0 x1 x2 x3 h H locs cells slots ls hf hI hl
    exact (gFail_f hf).elim
  | succ n ih =>
    intro a0 x1 x2 x3 h H locs cells slots ls hf hI hl
    rw [f_X1_loudest_6] at hf
    refine lv_iload_n hx hb dX1_loudest_6 rfl (lv_at hl 3 rfl) ?_
    refine lv_aload_n hx hb dX1_loudest_7 rfl (lv_at hl 0 rfl) ?_
    refine g_fr X hI hf fX1_1 q461 rfl rfl dX1_loudest_8 (fun v101 hf => ?_)
    refine g_fiN X hI hf fX3_6 q268 rfl rfl dX1_loudest_11 (fun v102 hf => ?_)
    refine lv_icmp_ge (tgt := 64) hx hb dX1_loudest_14 (by decide) (fun c14 => ?_) (fun c14 => ?_)
    · have hf := g_t c14 hf
      exact b_X1_loudest_64 X _ _ _ _ _ _ _ hf hI (lv_sub hl [1] rfl)
    · have hf := g_f c14 hf
      refine lv_aload_n hx hb dX1_loudest_17 rfl (lv_at hl 0 rfl) ?_
      refine g_fr X hI hf fX1_1 q461 rfl rfl dX1_loudest_18 (fun v103 hf => ?_)
      refine g_frN X hI hf fX3_0 q254 rfl rfl dX1_loudest_21 (fun v104 hf => ?_)
      refine lv_iload_n hx hb dX1_loudest_24 rfl (lv_at hl 3 rfl) ?_
      refine g_ar4 X hI hf dX1_loudest_25 (fun v105 hf => ?_)
      refine g_fiN X hI hf fX4_3 q210 rfl rfl dX1_loudest_26 (fun v106 hf => ?_)
      refine lv_iconst (v := (-1 : Int32)) hx hb dX1_loudest_29 (by decide) ?_
      refine lv_icmp_ne (tgt := 37) hx hb dX1_loudest_30 (by decide) (fun c30 => ?_) (fun c30 => ?_)
      · have hf := g_f c30 hf
        refine lv_aload_n hx hb dX1_loudest_37 rfl (lv_at hl 0 rfl) ?_
        refine lv_iload_n hx hb dX1_loudest_38 rfl (lv_at hl 3 rfl) ?_
        obtain ⟨hs, hf⟩ := gCk_b hf
        refine g_cBI hI hf (fun v9 h9 e9 l9 l9' => g_rV X hI l9 l9' ⟨Nat.le_refl _, Nat.le_refl _⟩ (As := [.int x3]) (m_X1_loud X.2.2.2.2.2.2.2.2.2.2.1 e9) ydX1_loud hs rfl rfl q746 q748 qs12 q121 q749 rfl (Nat.le_of_ble_eq_true rfl) (Nat.le_of_ble_eq_true rfl) hl.1 rfl (Nat.le_of_ble_eq_true rfl) dX1_loudest_39) (fun r107 h H locs cells slots hf hI => ?_)
        exact b_X1_loudest_42 X ih _ _ _ _ _ _ _ _ _ _ _ hf hI (lv_sub hl [0, 1, 2, 3] rfl)
      · have hf := g_t c30 hf
        refine lv_iconst (v := (0 : Int32)) hx hb dX1_loudest_33 (by decide) ?_
        refine lv_goto (tgt := 42) hx hb dX1_loudest_34 (by decide) ?_
        exact b_X1_loudest_42 X ih _ _ _ _ _ _ _ _ _ _ _ hf hI (lv_sub hl [0, 1, 2, 3] rfl)
def f_X1_loudest (a0 : Nat) : gM Int32 :=
    f_X1_loudest_6 gN a0 (-1 : Int32) (0 : Int32) (0 : Int32)
set_option maxHeartbeats 4000000 in
set_option maxRecDepth 100000 in
theorem m_X1_loudest {G : gG} {l : Launch} (hfl : l.stackTraces = false) {a0 : Nat} {h h' : g_H} {r : Int32} (hf : (f_X1_loudest a0).1 h = some (r, h')) : gMet G l yX1_loudest (Cond.code yX1_loudest cX1_loudest 5 (some .int)) 104 1941 [.ref a0] h (.inl (g_wI r)) h' := by
  refine g_head hfl ((f_X1_loudest a0).2 h r h' hf) (plainFor_of_name (by decide)) (Nat.le_of_ble_eq_true rfl) (fun p e s m below meth c H locs cells slots ls X hI hl9 => ?_)
  have hl : lv_has ls 5 [(0, .ref a0)] := hl9
  have hx := X.1
  have hb := X.2.1
  have hown := X.2.2.2.1
  have hts := X.2.2.2.2.1
  unfold f_X1_loudest at hf
  refine lv_iconst (v := (-1 : Int32)) hx hb dX1_loudest_0 (by decide) ?_
  refine lv_istore_n (lv' := [(1, .int (-1 : Int32)), (0, .ref a0)]) hx hb dX1_loudest_1 rfl hl (by decide) rfl (fun ls hl => ?_)
  refine lv_iconst (v := (0 : Int32)) hx hb dX1_loudest_2 (by decide) ?_
  refine lv_istore_n (lv' := [(2, .int (0 : Int32)), (1, .int (-1 : Int32)), (0, .ref a0)]) hx hb dX1_loudest_3 rfl hl (by decide) rfl (fun ls hl => ?_)
  refine lv_iconst (v := (0 : Int32)) hx hb dX1_loudest_4 (by decide) ?_
  refine lv_istore_n (lv' := [(3, .int (0 : Int32)), (2, .int (0 : Int32)), (1, .int (-1 : Int32)), (0, .ref a0)]) hx hb dX1_loudest_5 rfl hl (by decide) rfl (fun ls hl => ?_)
  exact b_X1_loudest_6 X gN _ _ _ _ _ _ _ _ _ _ hf hI (lv_sub hl [3, 2, 1, 0] rfl)
/-! X8_isNailed -/
abbrev w_X8_isNailed_15 (G : gG) (l : Launch) (p : Program) (e : Env) (s : State) (m : MethodId) (args : Array Value) (below : List Frame) (meth : Method) (c : Code) (h0 : g_H) (r : Int32) (h' : g_H) (k : Int32 → gM Int32) : Prop := ∀ (u0 : Int32) (h : g_H) (H : Heap) (locs : List Loc) (cells slots : Nat) (ls : Array Slot), (k u0).1 h = some (r, h') → gI G h0 h H locs cells slots → lv_has ls 2 [] → W p l e (g_rm 3 63 h0 h') s m args below meth c H locs cells slots (gQ G below args s h0 h' (.inl (g_wI r))) (F0 m 15 ls [.int u0])
def f_X8_isNailed_15 (u0 : Int32) : gM Int32 :=
    gB (gGd (u0 = 0 ∨ u0 = 1)) fun _ =>
    (gRet u0)
set_option maxHeartbeats 4000000 in
set_option maxRecDepth 100000 in
theorem b_X8_isNailed_15 {G : gG} {l : Launch} {p : Program} {e : Env} {s : State} {m : MethodId} {args : Array Value} {below : List Frame} {meth : Method} {c : Code} {h0 : g_H} {r : Int32} {h' : g_H} (X : gX G l yX8_isNailed.cls cX8_isNailed 2 (some .boolean) [] yX8_isNailed.name p s m args meth c) : w_X8_isNailed_15 G l p e s m args below meth c h0 r h' (f_X8_isNailed_15) := by
  have hx := X.1
  have hb := X.2.1
  have hown := X.2.2.2.1
  have hts := X.2.2.2.2.1
  intro u0 h H locs cells slots ls hf hI hl
  unfold f_X8_isNailed_15 at hf
  obtain ⟨hz, hf⟩ := gB_gd hf
  cases gRet_e hf
  exact g_retZ X hI hz rfl dX8_isNailed_15
def f_X8_isNailed (a0 : Nat) (x1 : Int32) : gM Int32 :=
    gB (gCk a0 7) fun _ =>
    gB (f_X8_ofProp a0 x1 (3 : Int32)) fun r1 =>
    gIf (r1 = (-1 : Int32))
    (f_X8_isNailed_15 (0 : Int32))
    (f_X8_isNailed_15 (1 : Int32))
set_option maxHeartbeats 4000000 in
set_option maxRecDepth 100000 in
theorem m_X8_isNailed {G : gG} {l : Launch} (hfl : l.stackTraces = false) {a0 : Nat} {x1 : Int32} {h h' : g_H} {r : Int32} (hf : (f_X8_isNailed a0 x1).1 h = some (r, h')) : gMet G l yX8_isNailed (Cond.code yX8_isNailed cX8_isNailed 2 (some .boolean)) 3 63 [.ref a0, .int x1] h (.inl (g_wI r)) h' := by
  refine g_head hfl ((f_X8_isNailed a0 x1).2 h r h' hf) (plainFor_of_name (by decide)) (Nat.le_of_ble_eq_true rfl) (fun p e s m below meth c H locs cells slots ls X hI hl9 => ?_)
  have hl : lv_has ls 2 [(0, .ref a0), (1, .int x1)] := hl9
  have hx := X.1
  have hb := X.2.1
  have hown := X.2.2.2.1
  have hts := X.2.2.2.2.1
  unfold f_X8_isNailed at hf
  refine lv_aload_n hx hb dX8_isNailed_0 rfl (lv_at hl 0 rfl) ?_
  refine lv_iload_n hx hb dX8_isNailed_1 rfl (lv_at hl 1 rfl) ?_
  refine lv_iconst (v := (3 : Int32)) hx hb dX8_isNailed_2 (by decide) ?_
  obtain ⟨hs, hf⟩ := gCk_b hf
  refine g_cBI hI hf (fun v9 h9 e9 l9 l9' => g_rV X hI l9 l9' ⟨Nat.le_refl _, Nat.le_refl _⟩ (As := [.int x1, .int (3 : Int32)]) (m_X8_ofProp X.2.2.2.2.2.2.2.2.2.2.1 e9) ydX8_ofProp hs rfl rfl q1659 q1661 qs59 q131 q1662 rfl (Nat.le_of_ble_eq_true rfl) (Nat.le_of_ble_eq_true rfl) hl.1 rfl (Nat.le_of_ble_eq_true rfl) dX8_isNailed_3) (fun r1 h H locs cells slots hf hI => ?_)
  refine lv_iconst (v := (-1 : Int32)) hx hb dX8_isNailed_6 (by decide) ?_
  refine lv_icmp_eq (tgt := 14) hx hb dX8_isNailed_7 (by decide) (fun c7 => ?_) (fun c7 => ?_)
  · have hf := g_t c7 hf
    refine lv_iconst (v := (0 : Int32)) hx hb dX8_isNailed_14 (by decide) ?_
    exact b_X8_isNailed_15 X _ _ _ _ _ _ _ hf hI (lv_sub hl [] rfl)
  · have hf := g_f c7 hf
    refine lv_iconst (v := (1 : Int32)) hx hb dX8_isNailed_10 (by decide) ?_
    refine lv_goto (tgt := 15) hx hb dX8_isNailed_11 (by decide) ?_
    exact b_X8_isNailed_15 X _ _ _ _ _ _ _ hf hI (lv_sub hl [] rfl)
/-! X8_laysSlot -/
abbrev w_X8_laysSlot_161 (G : gG) (l : Launch) (p : Program) (e : Env) (s : State) (m : MethodId) (args : Array Value) (below : List Frame) (meth : Method) (c : Code) (h0 : g_H) (r : Unit) (h' : g_H) (k : Nat → Int32 → Int32 → Int32 → gM Unit) : Prop := ∀ (a0 : Nat) (x1 : Int32) (x2 : Int32) (x3 : Int32) (h : g_H) (H : Heap) (locs : List Loc) (cells slots : Nat) (ls : Array Slot), (k a0 x1 x2 x3).1 h = some (r, h') → gI G h0 h H locs cells slots → lv_has ls 6 [(0, .ref a0), (1, .int x1), (2, .int x2), (3, .int x3)] → W p l e (g_rm 7 158 h0 h') s m args below meth c H locs cells slots (gQ G below args s h0 h' (.inl (g_wU r))) (F0 m 161 ls [])
abbrev w_X8_laysSlot_155 (G : gG) (l : Launch) (p : Program) (e : Env) (s : State) (m : MethodId) (args : Array Value) (below : List Frame) (meth : Method) (c : Code) (h0 : g_H) (r : Unit) (h' : g_H) (k : Nat → Int32 → Int32 → Int32 → Int32 → Int32 → gM Unit) : Prop := ∀ (a0 : Nat) (x1 : Int32) (x2 : Int32) (x3 : Int32) (x4 : Int32) (x5 : Int32) (h : g_H) (H : Heap) (locs : List Loc) (cells slots : Nat) (ls : Array Slot), (k a0 x1 x2 x3 x4 x5).1 h = some (r, h') → gI G h0 h H locs cells slots → lv_has ls 6 [(0, .ref a0), (1, .int x1), (2, .int x2), (3, .int x3), (4, .int x4), (5, .int x5)] → W p l e (g_rm 7 158 h0 h') s m args below meth c H locs cells slots (gQ G below args s h0 h' (.inl (g_wU r))) (F0 m 155 ls [])
abbrev w_X8_laysSlot_96 (G : gG) (l : Launch) (p : Program) (e : Env) (s : State) (m : MethodId) (args : Array Value) (below : List Frame) (meth : Method) (c : Code) (h0 : g_H) (r : Unit) (h' : g_H) (k : Nat → Int32 → Int32 → Int32 → Int32 → Int32 → gM Unit) : Prop := ∀ (a0 : Nat) (x1 : Int32) (x2 : Int32) (x3 : Int32) (x4 : Int32) (x5 : Int32) (h : g_H) (H : Heap) (locs : List Loc) (cells slots : Nat) (ls : Array Slot), (k a0 x1 x2 x3 x4 x5).1 h = some (r, h') → gI G h0 h H locs cells slots → lv_has ls 6 [(0, .ref a0), (1, .int x1), (2, .int x2), (3, .int x3), (4, .int x4), (5, .int x5)] → W p l e (g_rm 7 158 h0 h') s m args below meth c H locs cells slots (gQ G below args s h0 h' (.inl (g_wU r))) (F0 m 96 ls [])
abbrev w_X8_laysSlot_169 (G : gG) (l : Launch) (p : Program) (e : Env) (s : State) (m : MethodId) (args : Array Value) (below : List Frame) (meth : Method) (c : Code) (h0 : g_H) (r : Unit) (h' : g_H) (k : Nat → Int32 → gM Unit) : Prop := ∀ (a0 : Nat) (x3 : Int32) (h : g_H) (H : Heap) (locs : List Loc) (cells slots : Nat) (ls : Array Slot), (k a0 x3).1 h = some (r, h') → gI G h0 h H locs cells slots → lv_has ls 6 [(0, .ref a0), (3, .int x3)] → W p l e (g_rm 7 158 h0 h') s m args below meth c H locs cells slots (gQ G below args s h0 h' (.inl (g_wU r))) (F0 m 169 ls [])
abbrev w_X8_laysSlot_167 (G : gG) (l : Launch) (p : Program) (e : Env) (s : State) (m : MethodId) (args : Array Value) (below : List Frame) (meth : Method) (c : Code) (h0 : g_H) (r : Unit) (h' : g_H) (k : Nat → gM Unit) : Prop := ∀ (a0 : Nat) (h : g_H) (H : Heap) (locs : List Loc) (cells slots : Nat) (ls : Array Slot), (k a0).1 h = some (r, h') → gI G h0 h H locs cells slots → lv_has ls 6 [(0, .ref a0)] → W p l e (g_rm 7 158 h0 h') s m args below meth c H locs cells slots (gQ G below args s h0 h' (.inl (g_wU r))) (F0 m 167 ls [])
abbrev w_X8_laysSlot_36 (G : gG) (l : Launch) (p : Program) (e : Env) (s : State) (m : MethodId) (args : Array Value) (below : List Frame) (meth : Method) (c : Code) (h0 : g_H) (r : Unit) (h' : g_H) (k : Nat → Int32 → Int32 → Int32 → gM Unit) : Prop := ∀ (a0 : Nat) (x1 : Int32) (x2 : Int32) (x3 : Int32) (h : g_H) (H : Heap) (locs : List Loc) (cells slots : Nat) (ls : Array Slot), (k a0 x1 x2 x3).1 h = some (r, h') → gI G h0 h H locs cells slots → lv_has ls 6 [(0, .ref a0), (1, .int x1), (2, .int x2), (3, .int x3)] → W p l e (g_rm 7 158 h0 h') s m args below meth c H locs cells slots (gQ G below args s h0 h' (.inl (g_wU r))) (F0 m 36 ls [])
abbrev w_X8_laysSlot_34 (G : gG) (l : Launch) (p : Program) (e : Env) (s : State) (m : MethodId) (args : Array Value) (below : List Frame) (meth : Method) (c : Code) (h0 : g_H) (r : Unit) (h' : g_H) (k : Nat → Int32 → Int32 → gM Unit) : Prop := ∀ (a0 : Nat) (x1 : Int32) (x2 : Int32) (h : g_H) (H : Heap) (locs : List Loc) (cells slots : Nat) (ls : Array Slot), (k a0 x1 x2).1 h = some (r, h') → gI G h0 h H locs cells slots → lv_has ls 6 [(0, .ref a0), (1, .int x1), (2, .int x2)] → W p l e (g_rm 7 158 h0 h') s m args below meth c H locs cells slots (gQ G below args s h0 h' (.inl (g_wU r))) (F0 m 34 ls [])
abbrev w_X8_laysSlot_15 (G : gG) (l : Launch) (p : Program) (e : Env) (s : State) (m : MethodId) (args : Array Value) (below : List Frame) (meth : Method) (c : Code) (h0 : g_H) (r : Unit) (h' : g_H) (k : Nat → Int32 → Int32 → Int32 → gM Unit) : Prop := ∀ (a0 : Nat) (x1 : Int32) (x2 : Int32) (x3 : Int32) (h : g_H) (H : Heap) (locs : List Loc) (cells slots : Nat) (ls : Array Slot), (k a0 x1 x2 x3).1 h = some (r, h') → gI G h0 h H locs cells slots → lv_has ls 6 [(0, .ref a0), (1, .int x1), (2, .int x2), (3, .int x3)] → W p l e (g_rm 7 158 h0 h') s m args below meth c H locs cells slots (gQ G below args s h0 h' (.inl (g_wU r))) (F0 m 15 ls [])
def f_X8_laysSlot_161 (k36 : Nat → Int32 → Int32 → Int32 → gM Unit) (a0 : Nat) (x1 : Int32) (x2 : Int32) (x3 : Int32) : gM Unit :=
    k36 a0 x1 x2 (x3 + (1 : Int32))
set_option maxHeartbeats 4000000 in
set_option maxRecDepth 100000 in
theorem b_X8_laysSlot_161 {G : gG} {l : Launch} {p : Program} {e : Env} {s : State} {m : MethodId} {args : Array Value} {below : List Frame} {meth : Method} {c : Code} {h0 : g_H} {r : Unit} {h' : g_H} (X : gX G l yX8_laysSlot.cls cX8_laysSlot 6 none [] yX8_laysSlot.name p s m args meth c) {k36 : Nat → Int32 → Int32 → Int32 → gM Unit} (K36 : w_X8_laysSlot_36 G l p e s m args below meth c h0 r h' k36) : w_X8_laysSlot_161 G l p e s m args below meth c h0 r h' (f_X8_laysSlot_161 k36) := by
  have hx := X.1
  have hb := X.2.1
  have hown := X.2.2.2.1
  have hts := X.2.2.2.2.1
  intro a0 x1 x2 x3 h H locs cells slots ls hf hI hl
  unfold f_X8_laysSlot_161 at hf
  refine lv_iinc (v := (x3 + (1 : Int32))) (lv' := [(3, .int (x3 + (1 : Int32))), (0, .ref a0), (1, .int x1), (2, .int x2)]) hx hb dX8_laysSlot_161 hl (k := 3) rfl rfl (by decide) rfl (fun ls hl => ?_)
  refine lv_goto (tgt := 36) hx hb dX8_laysSlot_164 (by decide) ?_
  exact K36 _ _ _ _ _ _ _ _ _ _ hf hI (lv_sub hl [1, 2, 3, 0] rfl)
def f_X8_laysSlot_155 (k96 : Nat → Int32 → Int32 → Int32 → Int32 → Int32 → gM Unit) (a0 : Nat) (x1 : Int32) (x2 : Int32) (x3 : Int32) (x4 : Int32) (x5 : Int32) : gM Unit :=
    k96 a0 x1 x2 x3 x4 (x5 + (1 : Int32))
set_option maxHeartbeats 4000000 in
set_option maxRecDepth 100000 in
theorem b_X8_laysSlot_155 {G : gG} {l : Launch} {p : Program} {e : Env} {s : State} {m : MethodId} {args : Array Value} {below : List Frame} {meth : Method} {c : Code} {h0 : g_H} {r : Unit} {h' : g_H} (X : gX G l yX8_laysSlot.cls cX8_laysSlot 6 none [] yX8_laysSlot.name p s m args meth c) {k96 : Nat → Int32 → Int32 → Int32 → Int32 → Int32 → gM Unit} (K96 : w_X8_laysSlot_96 G l p e s m args below meth c h0 r h' k96) : w_X8_laysSlot_155 G l p e s m args below meth c h0 r h' (f_X8_laysSlot_155 k96) := by
  have hx := X.1
  have hb := X.2.1
  have hown := X.2.2.2.1
  have hts := X.2.2.2.2.1
  intro a0 x1 x2 x3 x4 x5 h H locs cells slots ls hf hI hl
  unfold f_X8_laysSlot_155 at hf
  refine lv_iinc (v := (x5 + (1 : Int32))) (lv' := [(5, .int (x5 + (1 : Int32))), (0, .ref a0), (1, .int x1), (2, .int x2), (3, .int x3), (4, .int x4)]) hx hb dX8_laysSlot_155 hl (k := 5) rfl rfl (by decide) rfl (fun ls hl => ?_)
  refine lv_goto (tgt := 96) hx hb dX8_laysSlot_158 (by decide) ?_
  exact K96 _ _ _ _ _ _ _ _ _ _ _ _ hf hI (lv_sub hl [1, 2, 3, 4, 5, 0] rfl)
def f_X8_laysSlot_96 (k36 : Nat → Int32 → Int32 → Int32 → gM Unit) : Nat → Nat → Int32 → Int32 → Int32 → Int32 → Int32 → gM Unit
  | 0, _, _, _, _, _, _ => gFail
  | n + 1, a0, x1, x2, x3, x4, x5 =>
    gIf ((3 : Int32) ≤ x5)
    (f_X8_laysSlot_161 k36 a0 x1 x2 x3)
    (gB (gFI a0 7 19) fun v101 =>
    gIf ((x4 + x5) ≤ v101)
    (gB (gFR a0 7 34) fun v102 =>
    gB (gAI v102 0 (x4 + x5)) fun v103 =>
    gB (gFR a0 7 33) fun v104 =>
    gB (gAI v104 0 x3) fun v105 =>
    gB (gSI v102 0 (x4 + x5) (v103 + (v105 / (3 : Int32)))) fun _ =>
    f_X8_laysSlot_155 (f_X8_laysSlot_96 k36 n) a0 x1 x2 x3 x4 x5)
    (gB (gFR a0 7 35) fun v106 =>
    gB (gAI v106 0 x1) fun v107 =>
    gB (gFR a0 7 33) fun v108 =>
    gB (gAI v108 0 x3) fun v109 =>
    gB (gSI v106 0 x1 (v107 + (v109 / (3 : Int32)))) fun _ =>
    f_X8_laysSlot_155 (f_X8_laysSlot_96 k36 n) a0 x1 x2 x3 x4 x5))
set_option maxHeartbeats 4000000 in
set_option maxRecDepth 100000 in
theorem b_X8_laysSlot_96 {G : gG} {l : Launch} {p : Program} {e : Env} {s : State} {m : MethodId} {args : Array Value} {below : List Frame} {meth : Method} {c : Code} {h0 : g_H} {r : Unit} {h' : g_H} (X : gX G l yX8_laysSlot.cls cX8_laysSlot 6 none [] yX8_laysSlot.name p s m args meth c) {k36 : Nat → Int32 → Int32 → Int32 → gM Unit} (K36 : w_X8_laysSlot_36 G l p e s m args below meth c h0 r h' k36) : ∀ n : Nat, w_X8_laysSlot_96 G l p e s m args below meth c h0 r h' (f_X8_laysSlot_96 k36 n) := by
  have hx := X.1
  have hb := X.2.1
  have hown := X.2.2.2.1
  have hts := X.2.2.2.2.1
  intro n
  induction n with
  | zero =>
    intro a0 x1 x2 x3 x4 x5 h H locs cells slots ls hf hI hl
    exact (gFail_f hf).elim
  | succ n ih =>
    intro a0 x1 x2 x3 x4 x5 h H locs cells slots ls hf hI hl
    rw [f_X8_laysSlot_96] at hf
    refine lv_iload hx hb dX8_laysSlot_96 (lv_at hl 5 rfl) ?_
    refine lv_iconst (v := (3 : Int32)) hx hb dX8_laysSlot_98 (by decide) ?_
    refine lv_icmp_ge (tgt := 161) hx hb dX8_laysSlot_99 (by decide) (fun c99 => ?_) (fun c99 => ?_)
    · have hf := g_t c99 hf
      exact b_X8_laysSlot_161 X K36 _ _ _ _ _ _ _ _ _ _ hf hI (lv_sub hl [0, 1, 2, 3] rfl)
    · have hf := g_f c99 hf
      refine lv_iload hx hb dX8_laysSlot_102 (lv_at hl 4 rfl) ?_
      refine lv_iload hx hb dX8_laysSlot_104 (lv_at hl 5 rfl) ?_
      refine lv_iadd hx hb dX8_laysSlot_106 ?_
      refine lv_aload_n hx hb dX8_laysSlot_107 rfl (lv_at hl 0 rfl) ?_
      refine g_fi X hI hf fX8_19 q1463 rfl rfl dX8_laysSlot_108 (fun v101 hf => ?_)
      refine lv_icmp_le (tgt := 134) hx hb dX8_laysSlot_111 (by decide) (fun c111 => ?_) (fun c111 => ?_)
      · have hf := g_t c111 hf
        refine lv_aload_n hx hb dX8_laysSlot_134 rfl (lv_at hl 0 rfl) ?_
        refine g_fr X hI hf fX8_34 q1478 rfl rfl dX8_laysSlot_135 (fun v102 hf => ?_)
        refine lv_iload hx hb dX8_laysSlot_138 (lv_at hl 4 rfl) ?_
        refine lv_iload hx hb dX8_laysSlot_140 (lv_at hl 5 rfl) ?_
        refine lv_iadd hx hb dX8_laysSlot_142 ?_
        refine lv_dup2_11 hx hb dX8_laysSlot_143 rfl rfl ?_
        refine g_ai0 X hI hf dX8_laysSlot_144 (fun v103 hf => ?_)
        refine lv_aload_n hx hb dX8_laysSlot_145 rfl (lv_at hl 0 rfl) ?_
        refine g_fr X hI hf fX8_33 q1477 rfl rfl dX8_laysSlot_146 (fun v104 hf => ?_)
        refine lv_iload_n hx hb dX8_laysSlot_149 rfl (lv_at hl 3 rfl) ?_
        refine g_ai0 X hI hf dX8_laysSlot_150 (fun v105 hf => ?_)
        refine lv_iconst (v := (3 : Int32)) hx hb dX8_laysSlot_151 (by decide) ?_
        refine lv_idiv hx hb dX8_laysSlot_152 (by decide) ?_
        refine lv_iadd hx hb dX8_laysSlot_153 ?_
        refine g_si0 X hI hf dX8_laysSlot_154 (fun h H locs hf hI => ?_)
        exact b_X8_laysSlot_155 X ih _ _ _ _ _ _ _ _ _ _ _ _ hf hI (lv_sub hl [0, 1, 2, 3, 4, 5] rfl)
      · have hf := g_f c111 hf
        refine lv_aload_n hx hb dX8_laysSlot_114 rfl (lv_at hl 0 rfl) ?_
        refine g_fr X hI hf fX8_35 q1479 rfl rfl dX8_laysSlot_115 (fun v106 hf => ?_)
        refine lv_iload_n hx hb dX8_laysSlot_118 rfl (lv_at hl 1 rfl) ?_
        refine lv_dup2_11 hx hb dX8_laysSlot_119 rfl rfl ?_
        refine g_ai0 X hI hf dX8_laysSlot_120 (fun v107 hf => ?_)
        refine lv_aload_n hx hb dX8_laysSlot_121 rfl (lv_at hl 0 rfl) ?_
        refine g_fr X hI hf fX8_33 q1477 rfl rfl dX8_laysSlot_122 (fun v108 hf => ?_)
        refine lv_iload_n hx hb dX8_laysSlot_125 rfl (lv_at hl 3 rfl) ?_
        refine g_ai0 X hI hf dX8_laysSlot_126 (fun v109 hf => ?_)
        refine lv_iconst (v := (3 : Int32)) hx hb dX8_laysSlot_127 (by decide) ?_
        refine lv_idiv hx hb dX8_laysSlot_128 (by decide) ?_
        refine lv_iadd hx hb dX8_laysSlot_129 ?_
        refine g_si0 X hI hf dX8_laysSlot_130 (fun h H locs hf hI => ?_)
        refine lv_goto (tgt := 155) hx hb dX8_laysSlot_131 (by decide) ?_
        exact b_X8_laysSlot_155 X ih _ _ _ _ _ _ _ _ _ _ _ _ hf hI (lv_sub hl [0, 1, 2, 3, 4, 5] rfl)
def f_X8_laysSlot_169 : Nat → Nat → Int32 → gM Unit
  | 0, _, _ => gFail
  | n + 1, a0, x3 =>
    gIf ((60 : Int32) < x3)
    (gRet ())
    (gB (gFR a0 7 33) fun v101 =>
    gB (gFR a0 7 34) fun v102 =>
    gB (gAI v102 0 x3) fun v103 =>
    gB (gSI v101 0 x3 v103) fun _ =>
    f_X8_laysSlot_169 n a0 (x3 + (1 : Int32)))
set_option maxHeartbeats 4000000 in
set_option maxRecDepth 100000 in
theorem b_X8_laysSlot_169 {G : gG} {l : Launch} {p : Program} {e : Env} {s : State} {m : MethodId} {args : Array Value} {below : List Frame} {meth : Method} {c : Code} {h0 : g_H} {r : Unit} {h' : g_H} (X : gX G l yX8_laysSlot.cls cX8_laysSlot 6 none [] yX8_laysSlot.name p s m args meth c) : ∀ n : Nat, w_X8_laysSlot_169 G l p e s m args below meth c h0 r h' (f_X8_laysSlot_169 n) := by
  have hx := X.1
  have hb := X.2.1
  have hown := X.2.2.2.1
  have hts := X.2.2.2.2.1
  intro n
  induction n with
  | zero =>
    intro a0 x3 h H locs cells slots ls hf hI hl
    exact (gFail_f hf).elim
  | succ n ih =>
    intro a0 x3 h H locs cells slots ls hf hI hl
    rw [f_X8_laysSlot_169] at hf
    refine lv_iload_n hx hb dX8_laysSlot_169 rfl (lv_at hl 1 rfl) ?_
    refine lv_bipush (v := (60 : Int32)) hx hb dX8_laysSlot_170 (by decide) ?_
    refine lv_icmp_gt (tgt := 193) hx hb dX8_laysSlot_172 (by decide) (fun c172 => ?_) (fun c172 => ?_)
    · have hf := g_t c172 hf
      cases gRet_e hf
      exact g_retU X hI rfl dX8_laysSlot_193
    · have hf := g_f c172 hf
      refine lv_aload_n hx hb dX8_laysSlot_175 rfl (lv_at hl 0 rfl) ?_
      refine g_fr X hI hf fX8_33 q1477 rfl rfl dX8_laysSlot_176 (fun v101 hf => ?_)
      refine lv_iload_n hx hb dX8_laysSlot_179 rfl (lv_at hl 1 rfl) ?_
      refine lv_aload_n hx hb dX8_laysSlot_180 rfl (lv_at hl 0 rfl) ?_
      refine g_fr X hI hf fX8_34 q1478 rfl rfl dX8_laysSlot_181 (fun v102 hf => ?_)
      refine lv_iload_n hx hb dX8_laysSlot_184 rfl (lv_at hl 1 rfl) ?_
      refine g_ai0 X hI hf dX8_laysSlot_185 (fun v103 hf => ?_)
      refine g_si0 X hI hf dX8_laysSlot_186 (fun h H locs hf hI => ?_)
      refine lv_iinc (v := (x3 + (1 : Int32))) (lv' := [(3, .int (x3 + (1 : Int32))), (0, .ref a0)]) hx hb dX8_laysSlot_187 hl (k := 1) rfl rfl (by decide) rfl (fun ls hl => ?_)
      refine lv_goto (tgt := 169) hx hb dX8_laysSlot_190 (by decide) ?_
      exact ih _ _ _ _ _ _ _ _ hf hI (lv_sub hl [1, 0] rfl)
def f_X8_laysSlot_167 (a0 : Nat) : gM Unit :=
    f_X8_laysSlot_169 gN a0 (0 : Int32)
set_option maxHeartbeats 4000000 in
set_option maxRecDepth 100000 in
theorem b_X8_laysSlot_167 {G : gG} {l : Launch} {p : Program} {e : Env} {s : State} {m : MethodId} {args : Array Value} {below : List Frame} {meth : Method} {c : Code} {h0 : g_H} {r : Unit} {h' : g_H} (X : gX G l yX8_laysSlot.cls cX8_laysSlot 6 none [] yX8_laysSlot.name p s m args meth c) : w_X8_laysSlot_167 G l p e s m args below meth c h0 r h' (f_X8_laysSlot_167) := by
  have hx := X.1
  have hb := X.2.1
  have hown := X.2.2.2.1
  have hts := X.2.2.2.2.1
  intro a0 h H locs cells slots ls hf hI hl
  unfold f_X8_laysSlot_167 at hf
  refine lv_iconst (v := (0 : Int32)) hx hb dX8_laysSlot_167 (by decide) ?_
  refine lv_istore_n (lv' := [(3, .int (0 : Int32)), (0, .ref a0)]) hx hb dX8_laysSlot_168 rfl hl (by decide) rfl (fun ls hl => ?_)
  exact b_X8_laysSlot_169 X gN _ _ _ _ _ _ _ _ hf hI (lv_sub hl [1, 0] rfl)
def f_X8_laysSlot_36 : Nat → Nat → Int32 → Int32 → Int32 → gM Unit
  | 0, _, _, _, _ => gFail
  | n + 1, a0, x1, x2, x3 =>
    gB (gFI a0 7 19) fun v101 =>
    gIf (v101 < x3)
    (f_X8_laysSlot_167 a0)
    (gB (gFR a0 7 33) fun v102 =>
    gB (gAI v102 0 x3) fun v103 =>
    gIf (v103 = 0)
    (f_X8_laysSlot_161 (f_X8_laysSlot_36 n) a0 x1 x2 x3)
    (gIf (x2 = (-1 : Int32))
    (gB (gFR a0 7 34) fun v105 =>
    gB (gCk a0 7) fun _ =>
    gB (f_X8_calmer a0 x3) fun r106 =>
    gB (gAI v105 0 r106) fun v107 =>
    gB (gFR a0 7 33) fun v108 =>
    gB (gAI v108 0 x3) fun v109 =>
    gB (gSI v105 0 r106 (v107 + v109)) fun _ =>
    f_X8_laysSlot_161 (f_X8_laysSlot_36 n) a0 x1 x2 x3)
    (gB (gCk a0 7) fun _ =>
    gB (f_X8_frightsBy a0 x2 x3) fun r104 =>
    f_X8_laysSlot_96 (f_X8_laysSlot_36 n) gN a0 x1 x2 x3 (x3 + r104) (0 : Int32))))
set_option maxHeartbeats 4000000 in
set_option maxRecDepth 100000 in
theorem b_X8_laysSlot_36 {G : gG} {l : Launch} {p : Program} {e : Env} {s : State} {m : MethodId} {args : Array Value} {below : List Frame} {meth : Method} {c : Code} {h0 : g_H} {r : Unit} {h' : g_H} (X : gX G l yX8_laysSlot.cls cX8_laysSlot 6 none [] yX8_laysSlot.name p s m args meth c) : ∀ n : Nat, w_X8_laysSlot_36 G l p e s m args below meth c h0 r h' (f_X8_laysSlot_36 n) := by
  have hx := X.1
  have hb := X.2.1
  have hown := X.2.2.2.1
  have hts := X.2.2.2.2.1
  intro n
  induction n with
  | zero =>
    intro a0 x1 x2 x3 h H locs cells slots ls hf hI hl
    exact (gFail_f hf).elim
  | succ n ih =>
    intro a0 x1 x2 x3 h H locs cells slots ls hf hI hl
    rw [f_X8_laysSlot_36] at hf
    refine lv_iload_n hx hb dX8_laysSlot_36 rfl (lv_at hl 3 rfl) ?_
    refine lv_aload_n hx hb dX8_laysSlot_37 rfl (lv_at hl 0 rfl) ?_
    refine g_fi X hI hf fX8_19 q1463 rfl rfl dX8_laysSlot_38 (fun v101 hf => ?_)
    refine lv_icmp_gt (tgt := 167) hx hb dX8_laysSlot_41 (by decide) (fun c41 => ?_) (fun c41 => ?_)
    · have hf := g_t c41 hf
      exact b_X8_laysSlot_167 X _ _ _ _ _ _ _ hf hI (lv_sub hl [0] rfl)
    · have hf := g_f c41 hf
      refine lv_aload_n hx hb dX8_laysSlot_44 rfl (lv_at hl 0 rfl) ?_
      refine g_fr X hI hf fX8_33 q1477 rfl rfl dX8_laysSlot_45 (fun v102 hf => ?_)
      refine lv_iload_n hx hb dX8_laysSlot_48 rfl (lv_at hl 3 rfl) ?_
      refine g_ai0 X hI hf dX8_laysSlot_49 (fun v103 hf => ?_)
      refine lv_if_ne (tgt := 56) hx hb dX8_laysSlot_50 (by decide) (fun c50 => ?_) (fun c50 => ?_)
      · have hf := g_f c50 hf
        refine lv_iload_n hx hb dX8_laysSlot_56 rfl (lv_at hl 2 rfl) ?_
        refine lv_iconst (v := (-1 : Int32)) hx hb dX8_laysSlot_57 (by decide) ?_
        refine lv_icmp_ne (tgt := 83) hx hb dX8_laysSlot_58 (by decide) (fun c58 => ?_) (fun c58 => ?_)
        · have hf := g_f c58 hf
          refine lv_iload_n hx hb dX8_laysSlot_83 rfl (lv_at hl 3 rfl) ?_
          refine lv_aload_n hx hb dX8_laysSlot_84 rfl (lv_at hl 0 rfl) ?_
          refine lv_iload_n hx hb dX8_laysSlot_85 rfl (lv_at hl 2 rfl) ?_
          refine lv_iload_n hx hb dX8_laysSlot_86 rfl (lv_at hl 3 rfl) ?_
          obtain ⟨hs, hf⟩ := gCk_b hf
          refine g_cBI hI hf (fun v9 h9 e9 l9 l9' => g_rV X hI l9 l9' ⟨Nat.le_refl _, Nat.le_refl _⟩ (As := [.int x2, .int x3]) (m_X8_frightsBy X.2.2.2.2.2.2.2.2.2.2.1 e9) ydX8_frightsBy hs rfl rfl q1795 q1797 qs81 q131 q1798 rfl (Nat.le_of_ble_eq_true rfl) (Nat.le_of_ble_eq_true rfl) hl.1 rfl (Nat.le_of_ble_eq_true rfl) dX8_laysSlot_87) (fun r104 h H locs cells slots hf hI => ?_)
          refine lv_iadd hx hb dX8_laysSlot_90 ?_
          refine lv_istore (lv' := [(4, .int (x3 + r104)), (0, .ref a0), (1, .int x1), (2, .int x2), (3, .int x3)]) hx hb dX8_laysSlot_91 hl (by decide) rfl (fun ls hl => ?_)
          refine lv_iconst (v := (0 : Int32)) hx hb dX8_laysSlot_93 (by decide) ?_
          refine lv_istore (lv' := [(5, .int (0 : Int32)), (4, .int (x3 + r104)), (0, .ref a0), (1, .int x1), (2, .int x2), (3, .int x3)]) hx hb dX8_laysSlot_94 hl (by decide) rfl (fun ls hl => ?_)
          exact b_X8_laysSlot_96 X ih gN _ _ _ _ _ _ _ _ _ _ _ _ hf hI (lv_sub hl [2, 3, 4, 5, 1, 0] rfl)
        · have hf := g_t c58 hf
          refine lv_aload_n hx hb dX8_laysSlot_61 rfl (lv_at hl 0 rfl) ?_
          refine g_fr X hI hf fX8_34 q1478 rfl rfl dX8_laysSlot_62 (fun v105 hf => ?_)
          refine lv_aload_n hx hb dX8_laysSlot_65 rfl (lv_at hl 0 rfl) ?_
          refine lv_iload_n hx hb dX8_laysSlot_66 rfl (lv_at hl 3 rfl) ?_
          obtain ⟨hs, hf⟩ := gCk_b hf
          refine g_cBI hI hf (fun v9 h9 e9 l9 l9' => g_rV X hI l9 l9' ⟨Nat.le_refl _, Nat.le_refl _⟩ (As := [.int x3]) (m_X8_calmer X.2.2.2.2.2.2.2.2.2.2.1 e9) ydX8_calmer hs rfl rfl q1828 q1830 qs88 q131 q1831 rfl (Nat.le_of_ble_eq_true rfl) (Nat.le_of_ble_eq_true rfl) hl.1 rfl (Nat.le_of_ble_eq_true rfl) dX8_laysSlot_67) (fun r106 h H locs cells slots hf hI => ?_)
          refine lv_dup2_11 hx hb dX8_laysSlot_70 rfl rfl ?_
          refine g_ai0 X hI hf dX8_laysSlot_71 (fun v107 hf => ?_)
          refine lv_aload_n hx hb dX8_laysSlot_72 rfl (lv_at hl 0 rfl) ?_
          refine g_fr X hI hf fX8_33 q1477 rfl rfl dX8_laysSlot_73 (fun v108 hf => ?_)
          refine lv_iload_n hx hb dX8_laysSlot_76 rfl (lv_at hl 3 rfl) ?_
          refine g_ai0 X hI hf dX8_laysSlot_77 (fun v109 hf => ?_)
          refine lv_iadd hx hb dX8_laysSlot_78 ?_
          refine g_si0 X hI hf dX8_laysSlot_79 (fun h H locs hf hI => ?_)
          refine lv_goto (tgt := 161) hx hb dX8_laysSlot_80 (by decide) ?_
          exact b_X8_laysSlot_161 X ih _ _ _ _ _ _ _ _ _ _ hf hI (lv_sub hl [0, 1, 2, 3] rfl)
      · have hf := g_t c50 hf
        refine lv_goto (tgt := 161) hx hb dX8_laysSlot_53 (by decide) ?_
        exact b_X8_laysSlot_161 X ih _ _ _ _ _ _ _ _ _ _ hf hI (lv_sub hl [0, 1, 2, 3] rfl)
def f_X8_laysSlot_34 (a0 : Nat) (x1 : Int32) (x2 : Int32) : gM Unit :=
    f_X8_laysSlot_36 gN a0 x1 x2 (0 : Int32)
set_option maxHeartbeats 4000000 in
set_option maxRecDepth 100000 in
theorem b_X8_laysSlot_34 {G : gG} {l : Launch} {p : Program} {e : Env} {s : State} {m : MethodId} {args : Array Value} {below : List Frame} {meth : Method} {c : Code} {h0 : g_H} {r : Unit} {h' : g_H} (X : gX G l yX8_laysSlot.cls cX8_laysSlot 6 none [] yX8_laysSlot.name p s m args meth c) : w_X8_laysSlot_34 G l p e s m args below meth c h0 r h' (f_X8_laysSlot_34) := by
  have hx := X.1
  have hb := X.2.1
  have hown := X.2.2.2.1
  have hts := X.2.2.2.2.1
  intro a0 x1 x2 h H locs cells slots ls hf hI hl
  unfold f_X8_laysSlot_34 at hf
  refine lv_iconst (v := (0 : Int32)) hx hb dX8_laysSlot_34 (by decide) ?_
  refine lv_istore_n (lv' := [(3, .int (0 : Int32)), (0, .ref a0), (1, .int x1), (2, .int x2)]) hx hb dX8_laysSlot_35 rfl hl (by decide) rfl (fun ls hl => ?_)
  exact b_X8_laysSlot_36 X gN _ _ _ _ _ _ _ _ _ _ hf hI (lv_sub hl [1, 2, 3, 0] rfl)
def f_X8_laysSlot_15 : Nat → Nat → Int32 → Int32 → Int32 → gM Unit
  | 0, _, _, _, _ => gFail
  | n + 1, a0, x1, x2, x3 =>
    gIf ((60 : Int32) < x3)
    (f_X8_laysSlot_34 a0 x1 x2)
    (gB (gFR a0 7 34) fun v101 =>
    gB (gSI v101 0 x3 (0 : Int32)) fun _ =>
    f_X8_laysSlot_15 n a0 x1 x2 (x3 + (1 : Int32)))
set_option maxHeartbeats 4000000 in
set_option maxRecDepth 100000 in
theorem b_X8_laysSlot_15 {G : gG} {l : Launch} {p : Program} {e : Env} {s : State} {m : MethodId} {args : Array Value} {below : List Frame} {meth : Method} {c : Code} {h0 : g_H} {r : Unit} {h' : g_H} (X : gX G l yX8_laysSlot.cls cX8_laysSlot 6 none [] yX8_laysSlot.name p s m args meth c) : ∀ n : Nat, w_X8_laysSlot_15 G l p e s m args below meth c h0 r h' (f_X8_laysSlot_15 n) := by
  have hx := X.1
  have hb := X.2.1
  have hown := X.2.2.2.1
  have hts := X.2.2.2.2.1
  intro n
  induction n with
  | zero =>
    intro a0 x1 x2 x3 h H locs cells slots ls hf hI hl
    exact (gFail_f hf).elim
  | succ n ih =>
    intro a0 x1 x2 x3 h H locs cells slots ls hf hI hl
    rw [f_X8_laysSlot_15] at hf
    refine lv_iload_n hx hb dX8_laysSlot_15 rfl (lv_at hl 3 rfl) ?_
    refine lv_bipush (v := (60 : Int32)) hx hb dX8_laysSlot_16 (by decide) ?_
    refine lv_icmp_gt (tgt := 34) hx hb dX8_laysSlot_18 (by decide) (fun c18 => ?_) (fun c18 => ?_)
    · have hf := g_t c18 hf
      exact b_X8_laysSlot_34 X _ _ _ _ _ _ _ _ _ hf hI (lv_sub hl [0, 1, 2] rfl)
    · have hf := g_f c18 hf
      refine lv_aload_n hx hb dX8_laysSlot_21 rfl (lv_at hl 0 rfl) ?_
      refine g_fr X hI hf fX8_34 q1478 rfl rfl dX8_laysSlot_22 (fun v101 hf => ?_)
      refine lv_iload_n hx hb dX8_laysSlot_25 rfl (lv_at hl 3 rfl) ?_
      refine lv_iconst (v := (0 : Int32)) hx hb dX8_laysSlot_26 (by decide) ?_
      refine g_si0 X hI hf dX8_laysSlot_27 (fun h H locs hf hI => ?_)
      refine lv_iinc (v := (x3 + (1 : Int32))) (lv' := [(3, .int (x3 + (1 : Int32))), (0, .ref a0), (1, .int x1), (2, .int x2)]) hx hb dX8_laysSlot_28 hl (k := 3) rfl rfl (by decide) rfl (fun ls hl => ?_)
      refine lv_goto (tgt := 15) hx hb dX8_laysSlot_31 (by decide) ?_
      exact ih _ _ _ _ _ _ _ _ _ _ hf hI (lv_sub hl [1, 2, 3, 0] rfl)
def f_X8_laysSlot (a0 : Nat) (x1 : Int32) : gM Unit :=
    gB (gCk a0 7) fun _ =>
    gB (f_X8_propIn a0 x1) fun r1 =>
    gB (gFR a0 7 35) fun v2 =>
    gB (gSI v2 0 x1 (0 : Int32)) fun _ =>
    f_X8_laysSlot_15 gN a0 x1 r1 (0 : Int32)
set_option maxHeartbeats 4000000 in
set_option maxRecDepth 100000 in
theorem m_X8_laysSlot {G : gG} {l : Launch} (hfl : l.stackTraces = false) {a0 : Nat} {x1 : Int32} {h h' : g_H} {r : Unit} (hf : (f_X8_laysSlot a0 x1).1 h = some (r, h')) : gMet G l yX8_laysSlot (Cond.code yX8_laysSlot cX8_laysSlot 6 none) 7 158 [.ref a0, .int x1] h (.inl (g_wU r)) h' := by
  refine g_head hfl ((f_X8_laysSlot a0 x1).2 h r h' hf) (plainFor_of_name (by decide)) (Nat.le_of_ble_eq_true rfl) (fun p e s m below meth c H locs cells slots ls X hI hl9 => ?_)
  have hl : lv_has ls 6 [(0, .ref a0), (1, .int x1)] := hl9
  have hx := X.1
  have hb := X.2.1
  have hown := X.2.2.2.1
  have hts := X.2.2.2.2.1
  unfold f_X8_laysSlot at hf
  refine lv_aload_n hx hb dX8_laysSlot_0 rfl (lv_at hl 0 rfl) ?_
  refine lv_iload_n hx hb dX8_laysSlot_1 rfl (lv_at hl 1 rfl) ?_
  obtain ⟨hs, hf⟩ := gCk_b hf
  refine g_cBI hI hf (fun v9 h9 e9 l9 l9' => g_rV X hI l9 l9' ⟨Nat.le_refl _, Nat.le_refl _⟩ (As := [.int x1]) (m_X8_propIn X.2.2.2.2.2.2.2.2.2.2.1 e9) ydX8_propIn hs rfl rfl q1655 q1657 qs58 q131 q1658 rfl (Nat.le_of_ble_eq_true rfl) (Nat.le_of_ble_eq_true rfl) hl.1 rfl (Nat.le_of_ble_eq_true rfl) dX8_laysSlot_2) (fun r1 h H locs cells slots hf hI => ?_)
  refine lv_istore_n (lv' := [(2, .int r1), (0, .ref a0), (1, .int x1)]) hx hb dX8_laysSlot_5 rfl hl (by decide) rfl (fun ls hl => ?_)
  refine lv_aload_n hx hb dX8_laysSlot_6 rfl (lv_at hl 1 rfl) ?_
  refine g_fr X hI hf fX8_35 q1479 rfl rfl dX8_laysSlot_7 (fun v2 hf => ?_)
  refine lv_iload_n hx hb dX8_laysSlot_10 rfl (lv_at hl 2 rfl) ?_
  refine lv_iconst (v := (0 : Int32)) hx hb dX8_laysSlot_11 (by decide) ?_
  refine g_si0 X hI hf dX8_laysSlot_12 (fun h H locs hf hI => ?_)
  refine lv_iconst (v := (0 : Int32)) hx hb dX8_laysSlot_13 (by decide) ?_
  refine lv_istore_n (lv' := [(3, .int (0 : Int32)), (2, .int r1), (0, .ref a0), (1, .int x1)]) hx hb dX8_laysSlot_14 rfl hl (by decide) rfl (fun ls hl => ?_)
  exact b_X8_laysSlot_15 X gN _ _ _ _ _ _ _ _ _ _ hf hI (lv_sub hl [2, 3, 1, 0] rfl)
/-! X8_laysRows -/
abbrev w_X8_laysRows_38 (G : gG) (l : Launch) (p : Program) (e : Env) (s : State) (m : MethodId) (args : Array Value) (below : List Frame) (meth : Method) (c : Code) (h0 : g_H) (r : Unit) (h' : g_H) (k : Nat → Int32 → Nat → Int32 → Int32 → gM Unit) : Prop := ∀ (a0 : Nat) (x2 : Int32) (b0 : Nat) (u1 : Int32) (u2 : Int32) (h : g_H) (H : Heap) (locs : List Loc) (cells slots : Nat) (ls : Array Slot), (k a0 x2 b0 u1 u2).1 h = some (r, h') → gI G h0 h H locs cells slots → lv_has ls 3 [(0, .ref a0), (2, .int x2)] → W p l e (g_rm 8 183 h0 h') s m args below meth c H locs cells slots (gQ G below args s h0 h' (.inl (g_wU r))) (F0 m 38 ls [.int u2, .int u1, .ref b0])
abbrev w_X8_laysRows_73 (G : gG) (l : Launch) (p : Program) (e : Env) (s : State) (m : MethodId) (args : Array Value) (below : List Frame) (meth : Method) (c : Code) (h0 : g_H) (r : Unit) (h' : g_H) (k : Nat → Int32 → Nat → Int32 → Int32 → gM Unit) : Prop := ∀ (a0 : Nat) (x2 : Int32) (b0 : Nat) (u1 : Int32) (u2 : Int32) (h : g_H) (H : Heap) (locs : List Loc) (cells slots : Nat) (ls : Array Slot), (k a0 x2 b0 u1 u2).1 h = some (r, h') → gI G h0 h H locs cells slots → lv_has ls 3 [(0, .ref a0), (2, .int x2)] → W p l e (g_rm 8 183 h0 h') s m args below meth c H locs cells slots (gQ G below args s h0 h' (.inl (g_wU r))) (F0 m 73 ls [.int u2, .int u1, .ref b0])
abbrev w_X8_laysRows_82 (G : gG) (l : Launch) (p : Program) (e : Env) (s : State) (m : MethodId) (args : Array Value) (below : List Frame) (meth : Method) (c : Code) (h0 : g_H) (r : Unit) (h' : g_H) (k : Nat → Int32 → gM Unit) : Prop := ∀ (a0 : Nat) (x2 : Int32) (h : g_H) (H : Heap) (locs : List Loc) (cells slots : Nat) (ls : Array Slot), (k a0 x2).1 h = some (r, h') → gI G h0 h H locs cells slots → lv_has ls 3 [(0, .ref a0), (2, .int x2)] → W p l e (g_rm 8 183 h0 h') s m args below meth c H locs cells slots (gQ G below args s h0 h' (.inl (g_wU r))) (F0 m 82 ls [])
abbrev w_X8_laysRows_80 (G : gG) (l : Launch) (p : Program) (e : Env) (s : State) (m : MethodId) (args : Array Value) (below : List Frame) (meth : Method) (c : Code) (h0 : g_H) (r : Unit) (h' : g_H) (k : Nat → gM Unit) : Prop := ∀ (a0 : Nat) (h : g_H) (H : Heap) (locs : List Loc) (cells slots : Nat) (ls : Array Slot), (k a0).1 h = some (r, h') → gI G h0 h H locs cells slots → lv_has ls 3 [(0, .ref a0)] → W p l e (g_rm 8 183 h0 h') s m args below meth c H locs cells slots (gQ G below args s h0 h' (.inl (g_wU r))) (F0 m 80 ls [])
abbrev w_X8_laysRows_50 (G : gG) (l : Launch) (p : Program) (e : Env) (s : State) (m : MethodId) (args : Array Value) (below : List Frame) (meth : Method) (c : Code) (h0 : g_H) (r : Unit) (h' : g_H) (k : Nat → Int32 → gM Unit) : Prop := ∀ (a0 : Nat) (x2 : Int32) (h : g_H) (H : Heap) (locs : List Loc) (cells slots : Nat) (ls : Array Slot), (k a0 x2).1 h = some (r, h') → gI G h0 h H locs cells slots → lv_has ls 3 [(0, .ref a0), (2, .int x2)] → W p l e (g_rm 8 183 h0 h') s m args below meth c H locs cells slots (gQ G below args s h0 h' (.inl (g_wU r))) (F0 m 50 ls [])
abbrev w_X8_laysRows_48 (G : gG) (l : Launch) (p : Program) (e : Env) (s : State) (m : MethodId) (args : Array Value) (below : List Frame) (meth : Method) (c : Code) (h0 : g_H) (r : Unit) (h' : g_H) (k : Nat → gM Unit) : Prop := ∀ (a0 : Nat) (h : g_H) (H : Heap) (locs : List Loc) (cells slots : Nat) (ls : Array Slot), (k a0).1 h = some (r, h') → gI G h0 h H locs cells slots → lv_has ls 3 [(0, .ref a0)] → W p l e (g_rm 8 183 h0 h') s m args below meth c H locs cells slots (gQ G below args s h0 h' (.inl (g_wU r))) (F0 m 48 ls [])
abbrev w_X8_laysRows_12 (G : gG) (l : Launch) (p : Program) (e : Env) (s : State) (m : MethodId) (args : Array Value) (below : List Frame) (meth : Method) (c : Code) (h0 : g_H) (r : Unit) (h' : g_H) (k : Nat → Int32 → gM Unit) : Prop := ∀ (a0 : Nat) (x2 : Int32) (h : g_H) (H : Heap) (locs : List Loc) (cells slots : Nat) (ls : Array Slot), (k a0 x2).1 h = some (r, h') → gI G h0 h H locs cells slots → lv_has ls 3 [(0, .ref a0), (2, .int x2)] → W p l e (g_rm 8 183 h0 h') s m args below meth c H locs cells slots (gQ G below args s h0 h' (.inl (g_wU r))) (F0 m 12 ls [])
def f_X8_laysRows_38 (k12 : Nat → Int32 → gM Unit) (a0 : Nat) (x2 : Int32) (b0 : Nat) (u1 : Int32) (u2 : Int32) : gM Unit :=
    gB (gPI b0 7 36 (u1 * u2)) fun _ =>
    k12 a0 (x2 + (1 : Int32))
set_option maxHeartbeats 4000000 in
set_option maxRecDepth 100000 in
theorem b_X8_laysRows_38 {G : gG} {l : Launch} {p : Program} {e : Env} {s : State} {m : MethodId} {args : Array Value} {below : List Frame} {meth : Method} {c : Code} {h0 : g_H} {r : Unit} {h' : g_H} (X : gX G l yX8_laysRows.cls cX8_laysRows 3 none [] yX8_laysRows.name p s m args meth c) {k12 : Nat → Int32 → gM Unit} (K12 : w_X8_laysRows_12 G l p e s m args below meth c h0 r h' k12) : w_X8_laysRows_38 G l p e s m args below meth c h0 r h' (f_X8_laysRows_38 k12) := by
  have hx := X.1
  have hb := X.2.1
  have hown := X.2.2.2.1
  have hts := X.2.2.2.2.1
  intro a0 x2 b0 u1 u2 h H locs cells slots ls hf hI hl
  unfold f_X8_laysRows_38 at hf
  refine lv_imul hx hb dX8_laysRows_38 ?_
  refine g_pi X hI hf fX8_36 q1480 rfl dX8_laysRows_39 (fun h H locs hf hI => ?_)
  refine lv_iinc (v := (x2 + (1 : Int32))) (lv' := [(2, .int (x2 + (1 : Int32))), (0, .ref a0)]) hx hb dX8_laysRows_42 hl (k := 1) rfl rfl (by decide) rfl (fun ls hl => ?_)
  refine lv_goto (tgt := 12) hx hb dX8_laysRows_45 (by decide) ?_
  exact K12 _ _ _ _ _ _ _ _ hf hI (lv_sub hl [1, 0] rfl)
def f_X8_laysRows_73 (k50 : Nat → Int32 → gM Unit) (a0 : Nat) (x2 : Int32) (b0 : Nat) (u1 : Int32) (u2 : Int32) : gM Unit :=
    gB (gSI b0 0 u1 u2) fun _ =>
    k50 a0 (x2 + (1 : Int32))
set_option maxHeartbeats 4000000 in
set_option maxRecDepth 100000 in
theorem b_X8_laysRows_73 {G : gG} {l : Launch} {p : Program} {e : Env} {s : State} {m : MethodId} {args : Array Value} {below : List Frame} {meth : Method} {c : Code} {h0 : g_H} {r : Unit} {h' : g_H} (X : gX G l yX8_laysRows.cls cX8_laysRows 3 none [] yX8_laysRows.name p s m args meth c) {k50 : Nat → Int32 → gM Unit} (K50 : w_X8_laysRows_50 G l p e s m args below meth c h0 r h' k50) : w_X8_laysRows_73 G l p e s m args below meth c h0 r h' (f_X8_laysRows_73 k50) := by
  have hx := X.1
  have hb := X.2.1
  have hown := X.2.2.2.1
  have hts := X.2.2.2.2.1
  intro a0 x2 b0 u1 u2 h H locs cells slots ls hf hI hl
  unfold f_X8_laysRows_73 at hf
  refine g_si0 X hI hf dX8_laysRows_73 (fun h H locs hf hI => ?_)
  refine lv_iinc (v := (x2 + (1 : Int32))) (lv' := [(2, .int (x2 + (1 : Int32))), (0, .ref a0)]) hx hb dX8_laysRows_74 hl (k := 1) rfl rfl (by decide) rfl (fun ls hl => ?_)
  refine lv_goto (tgt := 50) hx hb dX8_laysRows_77 (by decide) ?_
  exact K50 _ _ _ _ _ _ _ _ hf hI (lv_sub hl [1, 0] rfl)
def f_X8_laysRows_82 : Nat → Nat → Int32 → gM Unit
  | 0, _, _ => gFail
  | n + 1, a0, x2 =>
    gIf ((10 : Int32) ≤ x2)
    (gRet ())
    (gB (gCk a0 7) fun _ =>
    gB (f_X8_laysSlot a0 x2) fun _ =>
    f_X8_laysRows_82 n a0 (x2 + (1 : Int32)))
set_option maxHeartbeats 4000000 in
set_option maxRecDepth 100000 in
theorem b_X8_laysRows_82 {G : gG} {l : Launch} {p : Program} {e : Env} {s : State} {m : MethodId} {args : Array Value} {below : List Frame} {meth : Method} {c : Code} {h0 : g_H} {r : Unit} {h' : g_H} (X : gX G l yX8_laysRows.cls cX8_laysRows 3 none [] yX8_laysRows.name p s m args meth c) : ∀ n : Nat, w_X8_laysRows_82 G l p e s m args below meth c h0 r h' (f_X8_laysRows_82 n) := by
  have hx := X.1
  have hb := X.2.1
  have hown := X.2.2.2.1
  have hts := X.2.2.2.2.1
  intro n
  induction n with
  | zero =>
    intro a0 x2 h H locs cells slots ls hf hI hl
    exact (gFail_f hf).elim
  | succ n ih =>
    intro a0 x2 h H locs cells slots ls hf hI hl
    rw [f_X8_laysRows_82] at hf
    refine lv_iload_n hx hb dX8_laysRows_82 rfl (lv_at hl 1 rfl) ?_
    refine lv_bipush (v := (10 : Int32)) hx hb dX8_laysRows_83 (by decide) ?_
    refine lv_icmp_ge (tgt := 99) hx hb dX8_laysRows_85 (by decide) (fun c85 => ?_) (fun c85 => ?_)
    · have hf := g_t c85 hf
      cases gRet_e hf
      exact g_retU X hI rfl dX8_laysRows_99
    · have hf := g_f c85 hf
      refine lv_aload_n hx hb dX8_laysRows_88 rfl (lv_at hl 0 rfl) ?_
      refine lv_iload_n hx hb dX8_laysRows_89 rfl (lv_at hl 1 rfl) ?_
      obtain ⟨hs, hf⟩ := gCk_b hf
      refine g_cBU hI hf (fun v9 h9 e9 l9 l9' => g_rV X hI l9 l9' ⟨Nat.le_refl _, Nat.le_refl _⟩ (As := [.int x2]) (m_X8_laysSlot X.2.2.2.2.2.2.2.2.2.2.1 e9) ydX8_laysSlot hs rfl rfl q1946 q1948 qs102 q131 q1949 rfl (Nat.le_of_ble_eq_true rfl) (Nat.le_of_ble_eq_true rfl) hl.1 rfl (Nat.le_of_ble_eq_true rfl) dX8_laysRows_90) (fun r101 h H locs cells slots hf hI => ?_)
      refine lv_iinc (v := (x2 + (1 : Int32))) (lv' := [(2, .int (x2 + (1 : Int32))), (0, .ref a0)]) hx hb dX8_laysRows_93 hl (k := 1) rfl rfl (by decide) rfl (fun ls hl => ?_)
      refine lv_goto (tgt := 82) hx hb dX8_laysRows_96 (by decide) ?_
      exact ih _ _ _ _ _ _ _ _ hf hI (lv_sub hl [1, 0] rfl)
def f_X8_laysRows_80 (a0 : Nat) : gM Unit :=
    f_X8_laysRows_82 gN a0 (0 : Int32)
set_option maxHeartbeats 4000000 in
set_option maxRecDepth 100000 in
theorem b_X8_laysRows_80 {G : gG} {l : Launch} {p : Program} {e : Env} {s : State} {m : MethodId} {args : Array Value} {below : List Frame} {meth : Method} {c : Code} {h0 : g_H} {r : Unit} {h' : g_H} (X : gX G l yX8_laysRows.cls cX8_laysRows 3 none [] yX8_laysRows.name p s m args meth c) : w_X8_laysRows_80 G l p e s m args below meth c h0 r h' (f_X8_laysRows_80) := by
  have hx := X.1
  have hb := X.2.1
  have hown := X.2.2.2.1
  have hts := X.2.2.2.2.1
  intro a0 h H locs cells slots ls hf hI hl
  unfold f_X8_laysRows_80 at hf
  refine lv_iconst (v := (0 : Int32)) hx hb dX8_laysRows_80 (by decide) ?_
  refine lv_istore_n (lv' := [(2, .int (0 : Int32)), (0, .ref a0)]) hx hb dX8_laysRows_81 rfl hl (by decide) rfl (fun ls hl => ?_)
  exact b_X8_laysRows_82 X gN _ _ _ _ _ _ _ _ hf hI (lv_sub hl [1, 0] rfl)
def f_X8_laysRows_50 : Nat → Nat → Int32 → gM Unit
  | 0, _, _ => gFail
  | n + 1, a0, x2 =>
    gIf ((60 : Int32) < x2)
    (f_X8_laysRows_80 a0)
    (gB (gFR a0 7 33) fun v101 =>
    gIf (x2 = 0)
    (gB (gFI a0 7 36) fun v102 =>
    f_X8_laysRows_73 (f_X8_laysRows_50 n) a0 x2 v101 x2 v102)
    (f_X8_laysRows_73 (f_X8_laysRows_50 n) a0 x2 v101 x2 (0 : Int32)))
set_option maxHeartbeats 4000000 in
set_option maxRecDepth 100000 in
theorem b_X8_laysRows_50 {G : gG} {l : Launch} {p : Program} {e : Env} {s : State} {m : MethodId} {args : Array Value} {below : List Frame} {meth : Method} {c : Code} {h0 : g_H} {r : Unit} {h' : g_H} (X : gX G l yX8_laysRows.cls cX8_laysRows 3 none [] yX8_laysRows.name p s m args meth c) : ∀ n : Nat, w_X8_laysRows_50 G l p e s m args below meth c h0 r h' (f_X8_laysRows_50 n) := by
  have hx := X.1
  have hb := X.2.1
  have hown := X.2.2.2.1
  have hts := X.2.2.2.2.1
  intro n
  induction n with
  | zero =>
    intro a0 x2 h H locs cells slots ls hf hI hl
    exact (gFail_f hf).elim
  | succ n ih =>
    intro a0 x2 h H locs cells slots ls hf hI hl
    rw [f_X8_laysRows_50] at hf
    refine lv_iload_n hx hb dX8_laysRows_50 rfl (lv_at hl 1 rfl) ?_
    refine lv_bipush (v := (60 : Int32)) hx hb dX8_laysRows_51 (by decide) ?_
    refine lv_icmp_gt (tgt := 80) hx hb dX8_laysRows_53 (by decide) (fun c53 => ?_) (fun c53 => ?_)
    · have hf := g_t c53 hf
      exact b_X8_laysRows_80 X _ _ _ _ _ _ _ hf hI (lv_sub hl [0] rfl)
    · have hf := g_f c53 hf
      refine lv_aload_n hx hb dX8_laysRows_56 rfl (lv_at hl 0 rfl) ?_
      refine g_fr X hI hf fX8_33 q1477 rfl rfl dX8_laysRows_57 (fun v101 hf => ?_)
      refine lv_iload_n hx hb dX8_laysRows_60 rfl (lv_at hl 1 rfl) ?_
      refine lv_iload_n hx hb dX8_laysRows_61 rfl (lv_at hl 1 rfl) ?_
      refine lv_if_ne (tgt := 72) hx hb dX8_laysRows_62 (by decide) (fun c62 => ?_) (fun c62 => ?_)
      · have hf := g_f c62 hf
        refine lv_iconst (v := (0 : Int32)) hx hb dX8_laysRows_72 (by decide) ?_
        exact b_X8_laysRows_73 X ih _ _ _ _ _ _ _ _ _ _ _ hf hI (lv_sub hl [0, 1] rfl)
      · have hf := g_t c62 hf
        refine lv_aload_n hx hb dX8_laysRows_65 rfl (lv_at hl 0 rfl) ?_
        refine g_fi X hI hf fX8_36 q1480 rfl rfl dX8_laysRows_66 (fun v102 hf => ?_)
        refine lv_goto (tgt := 73) hx hb dX8_laysRows_69 (by decide) ?_
        exact b_X8_laysRows_73 X ih _ _ _ _ _ _ _ _ _ _ _ hf hI (lv_sub hl [0, 1] rfl)
def f_X8_laysRows_48 (a0 : Nat) : gM Unit :=
    f_X8_laysRows_50 gN a0 (0 : Int32)
set_option maxHeartbeats 4000000 in
set_option maxRecDepth 100000 in
theorem b_X8_laysRows_48 {G : gG} {l : Launch} {p : Program} {e : Env} {s : State} {m : MethodId} {args : Array Value} {below : List Frame} {meth : Method} {c : Code} {h0 : g_H} {r : Unit} {h' : g_H} (X : gX G l yX8_laysRows.cls cX8_laysRows 3 none [] yX8_laysRows.name p s m args meth c) : w_X8_laysRows_48 G l p e s m args below meth c h0 r h' (f_X8_laysRows_48) := by
  have hx := X.1
  have hb := X.2.1
  have hown := X.2.2.2.1
  have hts := X.2.2.2.2.1
  intro a0 h H locs cells slots ls hf hI hl
  unfold f_X8_laysRows_48 at hf
  refine lv_iconst (v := (0 : Int32)) hx hb dX8_laysRows_48 (by decide) ?_
  refine lv_istore_n (lv' := [(2, .int (0 : Int32)), (0, .ref a0)]) hx hb dX8_laysRows_49 rfl hl (by decide) rfl (fun ls hl => ?_)
  exact b_X8_laysRows_50 X gN _ _ _ _ _ _ _ _ hf hI (lv_sub hl [1, 0] rfl)
def f_X8_laysRows_12 : Nat → Nat → Int32 → gM Unit
  | 0, _, _ => gFail
  | n + 1, a0, x2 =>
    gB (gCk a0 7) fun _ =>
    gB (f_X8_props a0) fun r101 =>
    gIf (r101 ≤ x2)
    (f_X8_laysRows_48 a0)
    (gB (gFI a0 7 36) fun v102 =>
    gB (gCk a0 7) fun _ =>
    gB (f_X8_isNailed a0 x2) fun r103 =>
    gIf (r103 = 0)
    (f_X8_laysRows_38 (f_X8_laysRows_12 n) a0 x2 a0 v102 (1 : Int32))
    (f_X8_laysRows_38 (f_X8_laysRows_12 n) a0 x2 a0 v102 (3 : Int32)))
set_option maxHeartbeats 4000000 in
set_option maxRecDepth 100000 in
theorem b_X8_laysRows_12 {G : gG} {l : Launch} {p : Program} {e : Env} {s : State} {m : MethodId} {args : Array Value} {below : List Frame} {meth : Method} {c : Code} {h0 : g_H} {r : Unit} {h' : g_H} (X : gX G l yX8_laysRows.cls cX8_laysRows 3 none [] yX8_laysRows.name p s m args meth c) : ∀ n : Nat, w_X8_laysRows_12 G l p e s m args below meth c h0 r h' (f_X8_laysRows_12 n) := by
  have hx := X.1
  have hb := X.2.1
  have hown := X.2.2.2.1
  have hts := X.2.2.2.2.1
  intro n
  induction n with
  | zero =>
    intro a0 x2 h H locs cells slots ls hf hI hl
    exact (gFail_f hf).elim
  | succ n ih =>
    intro a0 x2 h H locs cells slots ls hf hI hl
    rw [f_X8_laysRows_12] at hf
    refine lv_iload_n hx hb dX8_laysRows_12 rfl (lv_at hl 1 rfl) ?_
    refine lv_aload_n hx hb dX8_laysRows_13 rfl (lv_at hl 0 rfl) ?_
    obtain ⟨hs, hf⟩ := gCk_b hf
    refine g_cBI hI hf (fun v9 h9 e9 l9 l9' => g_rV X hI l9 l9' ⟨Nat.le_refl _, Nat.le_refl _⟩ (As := []) (m_X8_props X.2.2.2.2.2.2.2.2.2.2.1 e9) ydX8_props hs rfl rfl q1626 q1628 qs53 q131 q1629 rfl (Nat.le_of_ble_eq_true rfl) (Nat.le_of_ble_eq_true rfl) hl.1 rfl (Nat.le_of_ble_eq_true rfl) dX8_laysRows_14) (fun r101 h H locs cells slots hf hI => ?_)
    refine lv_icmp_ge (tgt := 48) hx hb dX8_laysRows_17 (by decide) (fun c17 => ?_) (fun c17 => ?_)
    · have hf := g_t c17 hf
      exact b_X8_laysRows_48 X _ _ _ _ _ _ _ hf hI (lv_sub hl [0] rfl)
    · have hf := g_f c17 hf
      refine lv_aload_n hx hb dX8_laysRows_20 rfl (lv_at hl 0 rfl) ?_
      refine lv_dup hx hb dX8_laysRows_21 rfl ?_
      refine g_fi X hI hf fX8_36 q1480 rfl rfl dX8_laysRows_22 (fun v102 hf => ?_)
      refine lv_aload_n hx hb dX8_laysRows_25 rfl (lv_at hl 0 rfl) ?_
      refine lv_iload_n hx hb dX8_laysRows_26 rfl (lv_at hl 1 rfl) ?_
      obtain ⟨hs, hf⟩ := gCk_b hf
      refine g_cBI hI hf (fun v9 h9 e9 l9 l9' => g_rV X hI l9 l9' ⟨Nat.le_refl _, Nat.le_refl _⟩ (As := [.int x2]) (m_X8_isNailed X.2.2.2.2.2.2.2.2.2.2.1 e9) ydX8_isNailed hs rfl rfl q1850 q1852 qs92 q131 q1853 rfl (Nat.le_of_ble_eq_true rfl) (Nat.le_of_ble_eq_true rfl) hl.1 rfl (Nat.le_of_ble_eq_true rfl) dX8_laysRows_27) (fun r103 h H locs cells slots hf hI => ?_)
      refine lv_if_eq (tgt := 37) hx hb dX8_laysRows_30 (by decide) (fun c30 => ?_) (fun c30 => ?_)
      · have hf := g_t c30 hf
        refine lv_iconst (v := (1 : Int32)) hx hb dX8_laysRows_37 (by decide) ?_
        exact b_X8_laysRows_38 X ih _ _ _ _ _ _ _ _ _ _ _ hf hI (lv_sub hl [0, 1] rfl)
      · have hf := g_f c30 hf
        refine lv_iconst (v := (3 : Int32)) hx hb dX8_laysRows_33 (by decide) ?_
        refine lv_goto (tgt := 38) hx hb dX8_laysRows_34 (by decide) ?_
        exact b_X8_laysRows_38 X ih _ _ _ _ _ _ _ _ _ _ _ hf hI (lv_sub hl [0, 1] rfl)
def f_X8_laysRows (a0 : Nat) (x1 : Int32) : gM Unit :=
    gB (gCk a0 7) fun _ =>
    gB (f_X8_looksAt a0 x1) fun _ =>
    gB (gPI a0 7 36 (1 : Int32)) fun _ =>
    f_X8_laysRows_12 gN a0 (0 : Int32)
set_option maxHeartbeats 4000000 in
set_option maxRecDepth 100000 in
theorem m_X8_laysRows {G : gG} {l : Launch} (hfl : l.stackTraces = false) {a0 : Nat} {x1 : Int32} {h h' : g_H} {r : Unit} (hf : (f_X8_laysRows a0 x1).1 h = some (r, h')) : gMet G l yX8_laysRows (Cond.code yX8_laysRows cX8_laysRows 3 none) 8 183 [.ref a0, .int x1] h (.inl (g_wU r)) h' := by
  refine g_head hfl ((f_X8_laysRows a0 x1).2 h r h' hf) (plainFor_of_name (by decide)) (Nat.le_of_ble_eq_true rfl) (fun p e s m below meth c H locs cells slots ls X hI hl9 => ?_)
  have hl : lv_has ls 3 [(0, .ref a0), (1, .int x1)] := hl9
  have hx := X.1
  have hb := X.2.1
  have hown := X.2.2.2.1
  have hts := X.2.2.2.2.1
  unfold f_X8_laysRows at hf
  refine lv_aload_n hx hb dX8_laysRows_0 rfl (lv_at hl 0 rfl) ?_
  refine lv_iload_n hx hb dX8_laysRows_1 rfl (lv_at hl 1 rfl) ?_
  obtain ⟨hs, hf⟩ := gCk_b hf
  refine g_cBU hI hf (fun v9 h9 e9 l9 l9' => g_rV X hI l9 l9' ⟨Nat.le_refl _, Nat.le_refl _⟩ (As := [.int x1]) (m_X8_looksAt X.2.2.2.2.2.2.2.2.2.2.1 e9) ydX8_looksAt hs rfl rfl q1775 q1777 qs76 q131 q1778 rfl (Nat.le_of_ble_eq_true rfl) (Nat.le_of_ble_eq_true rfl) hl.1 rfl (Nat.le_of_ble_eq_true rfl) dX8_laysRows_2) (fun r1 h H locs cells slots hf hI => ?_)
  refine lv_aload_n hx hb dX8_laysRows_5 rfl (lv_at hl 0 rfl) ?_
  refine lv_iconst (v := (1 : Int32)) hx hb dX8_laysRows_6 (by decide) ?_
  refine g_pi X hI hf fX8_36 q1480 rfl dX8_laysRows_7 (fun h H locs hf hI => ?_)
  refine lv_iconst (v := (0 : Int32)) hx hb dX8_laysRows_10 (by decide) ?_
  refine lv_istore_n (lv' := [(2, .int (0 : Int32)), (0, .ref a0), (1, .int x1)]) hx hb dX8_laysRows_11 rfl hl (by decide) rfl (fun ls hl => ?_)
  exact b_X8_laysRows_12 X gN _ _ _ _ _ _ _ _ hf hI (lv_sub hl [1, 0] rfl)
/-! X8_loudest -/
abbrev w_X8_loudest_76 (G : gG) (l : Launch) (p : Program) (e : Env) (s : State) (m : MethodId) (args : Array Value) (below : List Frame) (meth : Method) (c : Code) (h0 : g_H) (r : Int32) (h' : g_H) (k : Nat → Int32 → Int32 → Int32 → Int32 → Int32 → gM Int32) : Prop := ∀ (a0 : Nat) (x1 : Int32) (x2 : Int32) (x3 : Int32) (x4 : Int32) (x5 : Int32) (h : g_H) (H : Heap) (locs : List Loc) (cells slots : Nat) (ls : Array Slot), (k a0 x1 x2 x3 x4 x5).1 h = some (r, h') → gI G h0 h H locs cells slots → lv_has ls 6 [(0, .ref a0), (1, .int x1), (2, .int x2), (3, .int x3), (4, .int x4), (5, .int x5)] → W p l e (g_rm 9 205 h0 h') s m args below meth c H locs cells slots (gQ G below args s h0 h' (.inl (g_wI r))) (F0 m 76 ls [])
abbrev w_X8_loudest_93 (G : gG) (l : Launch) (p : Program) (e : Env) (s : State) (m : MethodId) (args : Array Value) (below : List Frame) (meth : Method) (c : Code) (h0 : g_H) (r : Int32) (h' : g_H) (k : Nat → Int32 → Int32 → Int32 → Int32 → gM Int32) : Prop := ∀ (a0 : Nat) (x2 : Int32) (x3 : Int32) (x4 : Int32) (u0 : Int32) (h : g_H) (H : Heap) (locs : List Loc) (cells slots : Nat) (ls : Array Slot), (k a0 x2 x3 x4 u0).1 h = some (r, h') → gI G h0 h H locs cells slots → lv_has ls 6 [(0, .ref a0), (2, .int x2), (3, .int x3), (4, .int x4)] → W p l e (g_rm 9 205 h0 h') s m args below meth c H locs cells slots (gQ G below args s h0 h' (.inl (g_wI r))) (F0 m 93 ls [.int u0])
abbrev w_X8_loudest_82 (G : gG) (l : Launch) (p : Program) (e : Env) (s : State) (m : MethodId) (args : Array Value) (below : List Frame) (meth : Method) (c : Code) (h0 : g_H) (r : Int32) (h' : g_H) (k : Nat → Int32 → Int32 → Int32 → Int32 → gM Int32) : Prop := ∀ (a0 : Nat) (x1 : Int32) (x2 : Int32) (x3 : Int32) (x4 : Int32) (h : g_H) (H : Heap) (locs : List Loc) (cells slots : Nat) (ls : Array Slot), (k a0 x1 x2 x3 x4).1 h = some (r, h') → gI G h0 h H locs cells slots → lv_has ls 6 [(0, .ref a0), (1, .int x1), (2, .int x2), (3, .int x3), (4, .int x4)] → W p l e (g_rm 9 205 h0 h') s m args below meth c H locs cells slots (gQ G below args s h0 h' (.inl (g_wI r))) (F0 m 82 ls [])
abbrev w_X8_loudest_25 (G : gG) (l : Launch) (p : Program) (e : Env) (s : State) (m : MethodId) (args : Array Value) (below : List Frame) (meth : Method) (c : Code) (h0 : g_H) (r : Int32) (h' : g_H) (k : Nat → Int32 → Int32 → Int32 → Int32 → Int32 → gM Int32) : Prop := ∀ (a0 : Nat) (x1 : Int32) (x2 : Int32) (x3 : Int32) (x4 : Int32) (x5 : Int32) (h : g_H) (H : Heap) (locs : List Loc) (cells slots : Nat) (ls : Array Slot), (k a0 x1 x2 x3 x4 x5).1 h = some (r, h') → gI G h0 h H locs cells slots → lv_has ls 6 [(0, .ref a0), (1, .int x1), (2, .int x2), (3, .int x3), (4, .int x4), (5, .int x5)] → W p l e (g_rm 9 205 h0 h') s m args below meth c H locs cells slots (gQ G below args s h0 h' (.inl (g_wI r))) (F0 m 25 ls [])
abbrev w_X8_loudest_107 (G : gG) (l : Launch) (p : Program) (e : Env) (s : State) (m : MethodId) (args : Array Value) (below : List Frame) (meth : Method) (c : Code) (h0 : g_H) (r : Int32) (h' : g_H) (k : Int32 → gM Int32) : Prop := ∀ (x1 : Int32) (h : g_H) (H : Heap) (locs : List Loc) (cells slots : Nat) (ls : Array Slot), (k x1).1 h = some (r, h') → gI G h0 h H locs cells slots → lv_has ls 6 [(1, .int x1)] → W p l e (g_rm 9 205 h0 h') s m args below meth c H locs cells slots (gQ G below args s h0 h' (.inl (g_wI r))) (F0 m 107 ls [])
abbrev w_X8_loudest_11 (G : gG) (l : Launch) (p : Program) (e : Env) (s : State) (m : MethodId) (args : Array Value) (below : List Frame) (meth : Method) (c : Code) (h0 : g_H) (r : Int32) (h' : g_H) (k : Nat → Int32 → Int32 → Int32 → gM Int32) : Prop := ∀ (a0 : Nat) (x1 : Int32) (x2 : Int32) (x3 : Int32) (h : g_H) (H : Heap) (locs : List Loc) (cells slots : Nat) (ls : Array Slot), (k a0 x1 x2 x3).1 h = some (r, h') → gI G h0 h H locs cells slots → lv_has ls 6 [(0, .ref a0), (1, .int x1), (2, .int x2), (3, .int x3)] → W p l e (g_rm 9 205 h0 h') s m args below meth c H locs cells slots (gQ G below args s h0 h' (.inl (g_wI r))) (F0 m 11 ls [])
def f_X8_loudest_76 (k25 : Nat → Int32 → Int32 → Int32 → Int32 → Int32 → gM Int32) (a0 : Nat) (x1 : Int32) (x2 : Int32) (x3 : Int32) (x4 : Int32) (x5 : Int32) : gM Int32 :=
    k25 a0 x1 x2 x3 x4 (x5 + (1 : Int32))
set_option maxHeartbeats 4000000 in
set_option maxRecDepth 100000 in
theorem b_X8_loudest_76 {G : gG} {l : Launch} {p : Program} {e : Env} {s : State} {m : MethodId} {args : Array Value} {below : List Frame} {meth : Method} {c : Code} {h0 : g_H} {r : Int32} {h' : g_H} (X : gX G l yX8_loudest.cls cX8_loudest 6 (some .int) [] yX8_loudest.name p s m args meth c) {k25 : Nat → Int32 → Int32 → Int32 → Int32 → Int32 → gM Int32} (K25 : w_X8_loudest_25 G l p e s m args below meth c h0 r h' k25) : w_X8_loudest_76 G l p e s m args below meth c h0 r h' (f_X8_loudest_76 k25) := by
  have hx := X.1
  have hb := X.2.1
  have hown := X.2.2.2.1
  have hts := X.2.2.2.2.1
  intro a0 x1 x2 x3 x4 x5 h H locs cells slots ls hf hI hl
  unfold f_X8_loudest_76 at hf
  refine lv_iinc (v := (x5 + (1 : Int32))) (lv' := [(5, .int (x5 + (1 : Int32))), (0, .ref a0), (1, .int x1), (2, .int x2), (3, .int x3), (4, .int x4)]) hx hb dX8_loudest_76 hl (k := 5) rfl rfl (by decide) rfl (fun ls hl => ?_)
  refine lv_goto (tgt := 25) hx hb dX8_loudest_79 (by decide) ?_
  exact K25 _ _ _ _ _ _ _ _ _ _ _ _ hf hI (lv_sub hl [1, 2, 3, 4, 5, 0] rfl)
def f_X8_loudest_93 (k11 : Nat → Int32 → Int32 → Int32 → gM Int32) (a0 : Nat) (x2 : Int32) (x3 : Int32) (x4 : Int32) (u0 : Int32) : gM Int32 :=
    gB (f_J13_max x2 x4) fun r101 =>
    k11 a0 u0 r101 (x3 + (1 : Int32))
set_option maxHeartbeats 4000000 in
set_option maxRecDepth 100000 in
theorem b_X8_loudest_93 {G : gG} {l : Launch} {p : Program} {e : Env} {s : State} {m : MethodId} {args : Array Value} {below : List Frame} {meth : Method} {c : Code} {h0 : g_H} {r : Int32} {h' : g_H} (X : gX G l yX8_loudest.cls cX8_loudest 6 (some .int) [] yX8_loudest.name p s m args meth c) {k11 : Nat → Int32 → Int32 → Int32 → gM Int32} (K11 : w_X8_loudest_11 G l p e s m args below meth c h0 r h' k11) : w_X8_loudest_93 G l p e s m args below meth c h0 r h' (f_X8_loudest_93 k11) := by
  have hx := X.1
  have hb := X.2.1
  have hown := X.2.2.2.1
  have hts := X.2.2.2.2.1
  intro a0 x2 x3 x4 u0 h H locs cells slots ls hf hI hl
  unfold f_X8_loudest_93 at hf
  refine lv_istore_n (lv' := [(1, .int u0), (0, .ref a0), (2, .int x2), (3, .int x3), (4, .int x4)]) hx hb dX8_loudest_93 rfl hl (by decide) rfl (fun ls hl => ?_)
  refine lv_iload_n hx hb dX8_loudest_94 rfl (lv_at hl 2 rfl) ?_
  refine lv_iload hx hb dX8_loudest_95 (lv_at hl 4 rfl) ?_
  refine g_cBI hI hf (fun v9 h9 e9 l9 l9' => g_rS (b := 0) X hI l9 l9' ⟨Nat.le_refl _, Nat.le_refl _⟩ (As := [.int x2, .int x4]) (m_J13_max X.2.2.2.2.2.2.2.2.2.2.1 e9) ydJ13_max q1799 q564 q151 q565 rfl (Nat.le_of_ble_eq_true rfl) (Nat.le_of_ble_eq_true rfl) hl.1 rfl (Nat.le_of_ble_eq_true rfl) dX8_loudest_97) (fun r101 h H locs cells slots hf hI => ?_)
  refine lv_istore_n (lv' := [(2, .int r101), (1, .int u0), (0, .ref a0), (3, .int x3), (4, .int x4)]) hx hb dX8_loudest_100 rfl hl (by decide) rfl (fun ls hl => ?_)
  refine lv_iinc (v := (x3 + (1 : Int32))) (lv' := [(3, .int (x3 + (1 : Int32))), (2, .int r101), (1, .int u0), (0, .ref a0), (4, .int x4)]) hx hb dX8_loudest_101 hl (k := 3) rfl rfl (by decide) rfl (fun ls hl => ?_)
  refine lv_goto (tgt := 11) hx hb dX8_loudest_104 (by decide) ?_
  exact K11 _ _ _ _ _ _ _ _ _ _ hf hI (lv_sub hl [3, 2, 1, 0] rfl)
def f_X8_loudest_82 (k11 : Nat → Int32 → Int32 → Int32 → gM Int32) (a0 : Nat) (x1 : Int32) (x2 : Int32) (x3 : Int32) (x4 : Int32) : gM Int32 :=
    gIf (x4 ≤ x2)
    (f_X8_loudest_93 k11 a0 x2 x3 x4 x1)
    (f_X8_loudest_93 k11 a0 x2 x3 x4 x3)
set_option maxHeartbeats 4000000 in
set_option maxRecDepth 100000 in
theorem b_X8_loudest_82 {G : gG} {l : Launch} {p : Program} {e : Env} {s : State} {m : MethodId} {args : Array Value} {below : List Frame} {meth : Method} {c : Code} {h0 : g_H} {r : Int32} {h' : g_H} (X : gX G l yX8_loudest.cls cX8_loudest 6 (some .int) [] yX8_loudest.name p s m args meth c) {k11 : Nat → Int32 → Int32 → Int32 → gM Int32} (K11 : w_X8_loudest_11 G l p e s m args below meth c h0 r h' k11) : w_X8_loudest_82 G l p e s m args below meth c h0 r h' (f_X8_loudest_82 k11) := by
  have hx := X.1
  have hb := X.2.1
  have hown := X.2.2.2.1
  have hts := X.2.2.2.2.1
  intro a0 x1 x2 x3 x4 h H locs cells slots ls hf hI hl
  unfold f_X8_loudest_82 at hf
  refine lv_iload hx hb dX8_loudest_82 (lv_at hl 4 rfl) ?_
  refine lv_iload_n hx hb dX8_loudest_84 rfl (lv_at hl 2 rfl) ?_
  refine lv_icmp_le (tgt := 92) hx hb dX8_loudest_85 (by decide) (fun c85 => ?_) (fun c85 => ?_)
  · have hf := g_t c85 hf
    refine lv_iload_n hx hb dX8_loudest_92 rfl (lv_at hl 1 rfl) ?_
    exact b_X8_loudest_93 X K11 _ _ _ _ _ _ _ _ _ _ _ hf hI (lv_sub hl [0, 2, 3, 4] rfl)
  · have hf := g_f c85 hf
    refine lv_iload_n hx hb dX8_loudest_88 rfl (lv_at hl 3 rfl) ?_
    refine lv_goto (tgt := 93) hx hb dX8_loudest_89 (by decide) ?_
    exact b_X8_loudest_93 X K11 _ _ _ _ _ _ _ _ _ _ _ hf hI (lv_sub hl [0, 2, 3, 4] rfl)
def f_X8_loudest_25 (k11 : Nat → Int32 → Int32 → Int32 → gM Int32) : Nat → Nat → Int32 → Int32 → Int32 → Int32 → Int32 → gM Int32
  | 0, _, _, _, _, _, _ => gFail
  | n + 1, a0, x1, x2, x3, x4, x5 =>
    gB (gCk a0 7) fun _ =>
    gB (f_X8_oneCount a0) fun r101 =>
    gIf (r101 ≤ x5)
    (f_X8_loudest_82 k11 a0 x1 x2 x3 x4)
    (gB (gCk a0 7) fun _ =>
    gB (f_X8_isNailed a0 x3) fun r102 =>
    gIf (r102 = 0)
    (f_X8_loudest_82 k11 a0 x1 x2 x3 x4)
    (gB (gCk a0 7) fun _ =>
    gB (f_X8_waits a0 x5) fun r103 =>
    gIf (r103 = 0)
    (f_X8_loudest_76 (f_X8_loudest_25 k11 n) a0 x1 x2 x3 x4 x5)
    (gB (gCk a0 7) fun _ =>
    gB (f_X8_laysRows a0 x5) fun _ =>
    gB (gFR a0 7 35) fun v105 =>
    gB (gCk a0 7) fun _ =>
    gB (f_X8_ofProp a0 x3 (3 : Int32)) fun r106 =>
    gB (gAI v105 0 r106) fun v107 =>
    f_X8_loudest_76 (f_X8_loudest_25 k11 n) a0 x1 x2 x3 (x4 + v107) x5)))
set_option maxHeartbeats 4000000 in
set_option maxRecDepth 100000 in
theorem b_X8_loudest_25 {G : gG} {l : Launch} {p : Program} {e : Env} {s : State} {m : MethodId} {args : Array Value} {below : List Frame} {meth : Method} {c : Code} {h0 : g_H} {r : Int32} {h' : g_H} (X : gX G l yX8_loudest.cls cX8_loudest 6 (some .int) [] yX8_loudest.name p s m args meth c) {k11 : Nat → Int32 → Int32 → Int32 → gM Int32} (K11 : w_X8_loudest_11 G l p e s m args below meth c h0 r h' k11) : ∀ n : Nat, w_X8_loudest_25 G l p e s m args below meth c h0 r h' (f_X8_loudest_25 k11 n) := by
  have hx := X.1
  have hb := X.2.1
  have hown := X.2.2.2.1
  have hts := X.2.2.2.2.1
  intro n
  induction n with
  | zero =>
    intro a0 x1 x2 x3 x4 x5 h H locs cells slots ls hf hI hl
    exact (gFail_f hf).elim
  | succ n ih =>
    intro a0 x1 x2 x3 x4 x5 h H locs cells slots ls hf hI hl
    rw [f_X8_loudest_25] at hf
    refine lv_iload hx hb dX8_loudest_25 (lv_at hl 5 rfl) ?_
    refine lv_aload_n hx hb dX8_loudest_27 rfl (lv_at hl 0 rfl) ?_
    obtain ⟨hs, hf⟩ := gCk_b hf
    refine g_cBI hI hf (fun v9 h9 e9 l9 l9' => g_rV X hI l9 l9' ⟨Nat.le_refl _, Nat.le_refl _⟩ (As := []) (m_X8_oneCount X.2.2.2.2.2.2.2.2.2.2.1 e9) ydX8_oneCount hs rfl rfl q1673 q1675 qs61 q131 q1676 rfl (Nat.le_of_ble_eq_true rfl) (Nat.le_of_ble_eq_true rfl) hl.1 rfl (Nat.le_of_ble_eq_true rfl) dX8_loudest_28) (fun r101 h H locs cells slots hf hI => ?_)
    refine lv_icmp_ge (tgt := 82) hx hb dX8_loudest_31 (by decide) (fun c31 => ?_) (fun c31 => ?_)
    · have hf := g_t c31 hf
      exact b_X8_loudest_82 X K11 _ _ _ _ _ _ _ _ _ _ _ hf hI (lv_sub hl [0, 1, 2, 3, 4] rfl)
    · have hf := g_f c31 hf
      refine lv_aload_n hx hb dX8_loudest_34 rfl (lv_at hl 0 rfl) ?_
      refine lv_iload_n hx hb dX8_loudest_35 rfl (lv_at hl 3 rfl) ?_
      obtain ⟨hs, hf⟩ := gCk_b hf
      refine g_cBI hI hf (fun v9 h9 e9 l9 l9' => g_rV X hI l9 l9' ⟨Nat.le_refl _, Nat.le_refl _⟩ (As := [.int x3]) (m_X8_isNailed X.2.2.2.2.2.2.2.2.2.2.1 e9) ydX8_isNailed hs rfl rfl q1850 q1852 qs92 q131 q1853 rfl (Nat.le_of_ble_eq_true rfl) (Nat.le_of_ble_eq_true rfl) hl.1 rfl (Nat.le_of_ble_eq_true rfl) dX8_loudest_36) (fun r102 h H locs cells slots hf hI => ?_)
      refine lv_if_eq (tgt := 82) hx hb dX8_loudest_39 (by decide) (fun c39 => ?_) (fun c39 => ?_)
      · have hf := g_t c39 hf
        exact b_X8_loudest_82 X K11 _ _ _ _ _ _ _ _ _ _ _ hf hI (lv_sub hl [0, 1, 2, 3, 4] rfl)
      · have hf := g_f c39 hf
        refine lv_aload_n hx hb dX8_loudest_42 rfl (lv_at hl 0 rfl) ?_
        refine lv_iload hx hb dX8_loudest_43 (lv_at hl 5 rfl) ?_
        obtain ⟨hs, hf⟩ := gCk_b hf
        refine g_cBI hI hf (fun v9 h9 e9 l9 l9' => g_rV X hI l9 l9' ⟨Nat.le_refl _, Nat.le_refl _⟩ (As := [.int x5]) (m_X8_waits X.2.2.2.2.2.2.2.2.2.2.1 e9) ydX8_waits hs rfl rfl q1804 q1806 qs82 q131 q1807 rfl (Nat.le_of_ble_eq_true rfl) (Nat.le_of_ble_eq_true rfl) hl.1 rfl (Nat.le_of_ble_eq_true rfl) dX8_loudest_45) (fun r103 h H locs cells slots hf hI => ?_)
        refine lv_if_ne (tgt := 54) hx hb dX8_loudest_48 (by decide) (fun c48 => ?_) (fun c48 => ?_)
        · have hf := g_f c48 hf
          refine lv_aload_n hx hb dX8_loudest_54 rfl (lv_at hl 0 rfl) ?_
          refine lv_iload hx hb dX8_loudest_55 (lv_at hl 5 rfl) ?_
          obtain ⟨hs, hf⟩ := gCk_b hf
          refine g_cBU hI hf (fun v9 h9 e9 l9 l9' => g_rV X hI l9 l9' ⟨Nat.le_refl _, Nat.le_refl _⟩ (As := [.int x5]) (m_X8_laysRows X.2.2.2.2.2.2.2.2.2.2.1 e9) ydX8_laysRows hs rfl rfl q1942 q1944 qs101 q131 q1945 rfl (Nat.le_of_ble_eq_true rfl) (Nat.le_of_ble_eq_true rfl) hl.1 rfl (Nat.le_of_ble_eq_true rfl) dX8_loudest_57) (fun r104 h H locs cells slots hf hI => ?_)
          refine lv_iload hx hb dX8_loudest_60 (lv_at hl 4 rfl) ?_
          refine lv_aload_n hx hb dX8_loudest_62 rfl (lv_at hl 0 rfl) ?_
          refine g_fr X hI hf fX8_35 q1479 rfl rfl dX8_loudest_63 (fun v105 hf => ?_)
          refine lv_aload_n hx hb dX8_loudest_66 rfl (lv_at hl 0 rfl) ?_
          refine lv_iload_n hx hb dX8_loudest_67 rfl (lv_at hl 3 rfl) ?_
          refine lv_iconst (v := (3 : Int32)) hx hb dX8_loudest_68 (by decide) ?_
          obtain ⟨hs, hf⟩ := gCk_b hf
          refine g_cBI hI hf (fun v9 h9 e9 l9 l9' => g_rV X hI l9 l9' ⟨Nat.le_refl _, Nat.le_refl _⟩ (As := [.int x3, .int (3 : Int32)]) (m_X8_ofProp X.2.2.2.2.2.2.2.2.2.2.1 e9) ydX8_ofProp hs rfl rfl q1659 q1661 qs59 q131 q1662 rfl (Nat.le_of_ble_eq_true rfl) (Nat.le_of_ble_eq_true rfl) hl.1 rfl (Nat.le_of_ble_eq_true rfl) dX8_loudest_69) (fun r106 h H locs cells slots hf hI => ?_)
          refine g_ai0 X hI hf dX8_loudest_72 (fun v107 hf => ?_)
          refine lv_iadd hx hb dX8_loudest_73 ?_
          refine lv_istore (lv' := [(4, .int (x4 + v107)), (0, .ref a0), (1, .int x1), (2, .int x2), (3, .int x3), (5, .int x5)]) hx hb dX8_loudest_74 hl (by decide) rfl (fun ls hl => ?_)
          exact b_X8_loudest_76 X ih _ _ _ _ _ _ _ _ _ _ _ _ hf hI (lv_sub hl [1, 2, 3, 4, 0, 5] rfl)
        · have hf := g_t c48 hf
          refine lv_goto (tgt := 76) hx hb dX8_loudest_51 (by decide) ?_
          exact b_X8_loudest_76 X ih _ _ _ _ _ _ _ _ _ _ _ _ hf hI (lv_sub hl [0, 1, 2, 3, 4, 5] rfl)
def f_X8_loudest_107 (x1 : Int32) : gM Int32 :=
    (gRet x1)
set_option maxHeartbeats 4000000 in
set_option maxRecDepth 100000 in
theorem b_X8_loudest_107 {G : gG} {l : Launch} {p : Program} {e : Env} {s : State} {m : MethodId} {args : Array Value} {below : List Frame} {meth : Method} {c : Code} {h0 : g_H} {r : Int32} {h' : g_H} (X : gX G l yX8_loudest.cls cX8_loudest 6 (some .int) [] yX8_loudest.name p s m args meth c) : w_X8_loudest_107 G l p e s m args below meth c h0 r h' (f_X8_loudest_107) := by
  have hx := X.1
  have hb := X.2.1
  have hown := X.2.2.2.1
  have hts := X.2.2.2.2.1
  intro x1 h H locs cells slots ls hf hI hl
  unfold f_X8_loudest_107 at hf
  refine lv_iload_n hx hb dX8_loudest_107 rfl (lv_at hl 0 rfl) ?_
  cases gRet_e hf
  exact g_retI X hI rfl dX8_loudest_108
def f_X8_loudest_11 : Nat → Nat → Int32 → Int32 → Int32 → gM Int32
  | 0, _, _, _, _ => gFail
  | n + 1, a0, x1, x2, x3 =>
    gB (gCk a0 7) fun _ =>
    gB (f_X8_props a0) fun r101 =>
    gIf (r101 ≤ x3)
    (f_X8_loudest_107 x1)
    (f_X8_loudest_25 (f_X8_loudest_11 n) gN a0 x1 x2 x3 (0 : Int32) (0 : Int32))
set_option maxHeartbeats 4000000 in
set_option maxRecDepth 100000 in
theorem b_X8_loudest_11 {G : gG} {l : Launch} {p : Program} {e : Env} {s : State} {m : MethodId} {args : Array Value} {below : List Frame} {meth : Method} {c : Code} {h0 : g_H} {r : Int32} {h' : g_H} (X : gX G l yX8_loudest.cls cX8_loudest 6 (some .int) [] yX8_loudest.name p s m args meth c) : ∀ n : Nat, w_X8_loudest_11 G l p e s m args below meth c h0 r h' (f_X8_loudest_11 n) := by
  have hx := X.1
  have hb := X.2.1
  have hown := X.2.2.2.1
  have hts := X.2.2.2.2.1
  intro n
  induction n with
  | zero =>
    intro a0 x1 x2 x3 h H locs cells slots ls hf hI hl
    exact (gFail_f hf).elim
  | succ n ih =>
    intro a0 x1 x2 x3 h H locs cells slots ls hf hI hl
    rw [f_X8_loudest_11] at hf
    refine lv_iload_n hx hb dX8_loudest_11 rfl (lv_at hl 3 rfl) ?_
    refine lv_aload_n hx hb dX8_loudest_12 rfl (lv_at hl 0 rfl) ?_
    obtain ⟨hs, hf⟩ := gCk_b hf
    refine g_cBI hI hf (fun v9 h9 e9 l9 l9' => g_rV X hI l9 l9' ⟨Nat.le_refl _, Nat.le_refl _⟩ (As := []) (m_X8_props X.2.2.2.2.2.2.2.2.2.2.1 e9) ydX8_props hs rfl rfl q1626 q1628 qs53 q131 q1629 rfl (Nat.le_of_ble_eq_true rfl) (Nat.le_of_ble_eq_true rfl) hl.1 rfl (Nat.le_of_ble_eq_true rfl) dX8_loudest_13) (fun r101 h H locs cells slots hf hI => ?_)
    refine lv_icmp_ge (tgt := 107) hx hb dX8_loudest_16 (by decide) (fun c16 => ?_) (fun c16 => ?_)
    · have hf := g_t c16 hf
      exact b_X8_loudest_107 X _ _ _ _ _ _ _ hf hI (lv_sub hl [1] rfl)
    · have hf := g_f c16 hf
      refine lv_iconst (v := (0 : Int32)) hx hb dX8_loudest_19 (by decide) ?_
      refine lv_istore (lv' := [(4, .int (0 : Int32)), (0, .ref a0), (1, .int x1), (2, .int x2), (3, .int x3)]) hx hb dX8_loudest_20 hl (by decide) rfl (fun ls hl => ?_)
      refine lv_iconst (v := (0 : Int32)) hx hb dX8_loudest_22 (by decide) ?_
      refine lv_istore (lv' := [(5, .int (0 : Int32)), (4, .int (0 : Int32)), (0, .ref a0), (1, .int x1), (2, .int x2), (3, .int x3)]) hx hb dX8_loudest_23 hl (by decide) rfl (fun ls hl => ?_)
      exact b_X8_loudest_25 X ih gN _ _ _ _ _ _ _ _ _ _ _ _ hf hI (lv_sub hl [2, 3, 4, 5, 1, 0] rfl)
def f_X8_loudest (a0 : Nat) : gM Int32 :=
    gB (gPI a0 7 0 (0 : Int32)) fun _ =>
    f_X8_loudest_11 gN a0 (-1 : Int32) (0 : Int32) (0 : Int32)
set_option maxHeartbeats 4000000 in
set_option maxRecDepth 100000 in
theorem m_X8_loudest {G : gG} {l : Launch} (hfl : l.stackTraces = false) {a0 : Nat} {h h' : g_H} {r : Int32} (hf : (f_X8_loudest a0).1 h = some (r, h')) : gMet G l yX8_loudest (Cond.code yX8_loudest cX8_loudest 6 (some .int)) 9 205 [.ref a0] h (.inl (g_wI r)) h' := by
  refine g_head hfl ((f_X8_loudest a0).2 h r h' hf) (plainFor_of_name (by decide)) (Nat.le_of_ble_eq_true rfl) (fun p e s m below meth c H locs cells slots ls X hI hl9 => ?_)
  have hl : lv_has ls 6 [(0, .ref a0)] := hl9
  have hx := X.1
  have hb := X.2.1
  have hown := X.2.2.2.1
  have hts := X.2.2.2.2.1
  unfold f_X8_loudest at hf
  refine lv_aload_n hx hb dX8_loudest_0 rfl (lv_at hl 0 rfl) ?_
  refine lv_iconst (v := (0 : Int32)) hx hb dX8_loudest_1 (by decide) ?_
  refine g_pi X hI hf fX8_0 q1444 rfl dX8_loudest_2 (fun h H locs hf hI => ?_)
  refine lv_iconst (v := (-1 : Int32)) hx hb dX8_loudest_5 (by decide) ?_
  refine lv_istore_n (lv' := [(1, .int (-1 : Int32)), (0, .ref a0)]) hx hb dX8_loudest_6 rfl hl (by decide) rfl (fun ls hl => ?_)
  refine lv_iconst (v := (0 : Int32)) hx hb dX8_loudest_7 (by decide) ?_
  refine lv_istore_n (lv' := [(2, .int (0 : Int32)), (1, .int (-1 : Int32)), (0, .ref a0)]) hx hb dX8_loudest_8 rfl hl (by decide) rfl (fun ls hl => ?_)
  refine lv_iconst (v := (0 : Int32)) hx hb dX8_loudest_9 (by decide) ?_
  refine lv_istore_n (lv' := [(3, .int (0 : Int32)), (2, .int (0 : Int32)), (1, .int (-1 : Int32)), (0, .ref a0)]) hx hb dX8_loudest_10 rfl hl (by decide) rfl (fun ls hl => ?_)
  exact b_X8_loudest_11 X gN _ _ _ _ _ _ _ _ _ _ hf hI (lv_sub hl [3, 2, 1, 0] rfl)
/-! X1_propAt -/
def f_X1_propAt (a0 : Nat) (x1 : Int32) : gM (Nat ⊕ gE) :=
    gB (gFR a0 0 1) fun v1 =>
    gB (gFI v1 2 6) fun v2 =>
    gB (f_X1_isIn x1 (0 : Int32) (v2 - (1 : Int32))) fun r3 =>
    gT (f_X1_mustBe r3) fun _ =>
    gB (gFR a0 0 1) fun v5 =>
    gB (gFR v5 2 0) fun v6 =>
    gB (gAR v6 4 x1) fun v7 =>
    gRet (.inl v7)
set_option maxHeartbeats 4000000 in
set_option maxRecDepth 100000 in
theorem m_X1_propAt {G : gG} {l : Launch} (hfl : l.stackTraces = false) {a0 : Nat} {x1 : Int32} {h h' : g_H} {r : (Nat ⊕ gE)} (hf : (f_X1_propAt a0 x1).1 h = some (r, h')) : gMet G l yX1_propAt (Cond.code yX1_propAt cX1_propAt 2 (some (.object "GhostAssize$Prop"))) 7 109 [.ref a0, .int x1] h (g_w g_wR r) h' := by
  refine g_head hfl ((f_X1_propAt a0 x1).2 h r h' hf) (plainFor_of_name (by decide)) (Nat.le_of_ble_eq_true rfl) (fun p e s m below meth c H locs cells slots ls X hI hl9 => ?_)
  have hl : lv_has ls 2 [(0, .ref a0), (1, .int x1)] := hl9
  have hx := X.1
  have hb := X.2.1
  have hown := X.2.2.2.1
  have hts := X.2.2.2.2.1
  unfold f_X1_propAt at hf
  refine lv_iload_n hx hb dX1_propAt_0 rfl (lv_at hl 1 rfl) ?_
  refine lv_iconst (v := (0 : Int32)) hx hb dX1_propAt_1 (by decide) ?_
  refine lv_aload_n hx hb dX1_propAt_2 rfl (lv_at hl 0 rfl) ?_
  refine g_fr X hI hf fX1_1 q461 rfl rfl dX1_propAt_3 (fun v1 hf => ?_)
  refine g_fiN X hI hf fX3_6 q268 rfl rfl dX1_propAt_6 (fun v2 hf => ?_)
  refine lv_iconst (v := (1 : Int32)) hx hb dX1_propAt_9 (by decide) ?_
  refine lv_isub hx hb dX1_propAt_10 ?_
  refine g_cBI hI hf (fun v9 h9 e9 l9 l9' => g_rS (b := 0) X hI l9 l9' ⟨Nat.le_refl _, Nat.le_refl _⟩ (As := [.int x1, .int (0 : Int32), .int (v2 - (1 : Int32))]) (m_X1_isIn X.2.2.2.2.2.2.2.2.2.2.1 e9) ydX1_isIn q532 q533 q121 q534 rfl (Nat.le_of_ble_eq_true rfl) (Nat.le_of_ble_eq_true rfl) hl.1 rfl (Nat.le_of_ble_eq_true rfl) dX1_propAt_11) (fun r3 h H locs cells slots hf hI => ?_)
  refine g_cTU X hI (by decide) hf (fun v9 h9 e9 l9 l9' => g_rS (b := 0) X hI l9 l9' ⟨Nat.le_refl _, Nat.le_refl _⟩ (As := [.int r3]) (m_X1_mustBe X.2.2.2.2.2.2.2.2.2.2.1 e9) ydX1_mustBe q1139 q1140 q121 q1141 rfl (Nat.le_of_ble_eq_true rfl) (Nat.le_of_ble_eq_true rfl) hl.1 rfl (Nat.le_of_ble_eq_true rfl) dX1_propAt_14) (fun r4 h H locs cells slots hf hI => ?_)
  refine lv_aload_n hx hb dX1_propAt_17 rfl (lv_at hl 0 rfl) ?_
  refine g_fr X hI hf fX1_1 q461 rfl rfl dX1_propAt_18 (fun v5 hf => ?_)
  refine g_frN X hI hf fX3_0 q254 rfl rfl dX1_propAt_21 (fun v6 hf => ?_)
  refine lv_iload_n hx hb dX1_propAt_24 rfl (lv_at hl 1 rfl) ?_
  refine g_ar4 X hI hf dX1_propAt_25 (fun v7 hf => ?_)
  cases gRet_e hf
  exact g_retR X hI (Or.inl ⟨_, rfl⟩) rfl dX1_propAt_26
/-! X1_share -/
abbrev w_X1_share_83 (G : gG) (l : Launch) (p : Program) (e : Env) (s : State) (m : MethodId) (args : Array Value) (below : List Frame) (meth : Method) (c : Code) (h0 : g_H) (r : (Int32 ⊕ gE)) (h' : g_H) (k : Nat → Int32 → Nat → Int32 → Int32 → Int32 → Int32 → Int32 → gM (Int32 ⊕ gE)) : Prop := ∀ (a0 : Nat) (x1 : Int32) (a3 : Nat) (x4 : Int32) (x5 : Int32) (x7 : Int32) (u0 : Int32) (u1 : Int32) (h : g_H) (H : Heap) (locs : List Loc) (cells slots : Nat) (ls : Array Slot), (k a0 x1 a3 x4 x5 x7 u0 u1).1 h = some (r, h') → gI G h0 h H locs cells slots → lv_has ls 9 [(0, .ref a0), (1, .int x1), (3, .ref a3), (4, .int x4), (5, .int x5), (7, .int x7)] → W p l e (g_rm 101 1866 h0 h') s m args below meth c H locs cells slots (gQ G below args s h0 h' (g_w g_wI r)) (F0 m 83 ls [.int u1, .int u0])
abbrev w_X1_share_124 (G : gG) (l : Launch) (p : Program) (e : Env) (s : State) (m : MethodId) (args : Array Value) (below : List Frame) (meth : Method) (c : Code) (h0 : g_H) (r : (Int32 ⊕ gE)) (h' : g_H) (k : Int32 → gM (Int32 ⊕ gE)) : Prop := ∀ (u0 : Int32) (h : g_H) (H : Heap) (locs : List Loc) (cells slots : Nat) (ls : Array Slot), (k u0).1 h = some (r, h') → gI G h0 h H locs cells slots → lv_has ls 9 [] → W p l e (g_rm 101 1866 h0 h') s m args below meth c H locs cells slots (gQ G below args s h0 h' (g_w g_wI r)) (F0 m 124 ls [.int u0])
abbrev w_X1_share_107 (G : gG) (l : Launch) (p : Program) (e : Env) (s : State) (m : MethodId) (args : Array Value) (below : List Frame) (meth : Method) (c : Code) (h0 : g_H) (r : (Int32 ⊕ gE)) (h' : g_H) (k : Int32 → Int32 → gM (Int32 ⊕ gE)) : Prop := ∀ (x5 : Int32) (x6 : Int32) (h : g_H) (H : Heap) (locs : List Loc) (cells slots : Nat) (ls : Array Slot), (k x5 x6).1 h = some (r, h') → gI G h0 h H locs cells slots → lv_has ls 9 [(5, .int x5), (6, .int x6)] → W p l e (g_rm 101 1866 h0 h') s m args below meth c H locs cells slots (gQ G below args s h0 h' (g_w g_wI r)) (F0 m 107 ls [])
abbrev w_X1_share_24 (G : gG) (l : Launch) (p : Program) (e : Env) (s : State) (m : MethodId) (args : Array Value) (below : List Frame) (meth : Method) (c : Code) (h0 : g_H) (r : (Int32 ⊕ gE)) (h' : g_H) (k : Nat → Int32 → Nat → Int32 → Int32 → Int32 → Int32 → gM (Int32 ⊕ gE)) : Prop := ∀ (a0 : Nat) (x1 : Int32) (a3 : Nat) (x4 : Int32) (x5 : Int32) (x6 : Int32) (x7 : Int32) (h : g_H) (H : Heap) (locs : List Loc) (cells slots : Nat) (ls : Array Slot), (k a0 x1 a3 x4 x5 x6 x7).1 h = some (r, h') → gI G h0 h H locs cells slots → lv_has ls 9 [(0, .ref a0), (1, .int x1), (3, .ref a3), (4, .int x4), (5, .int x5), (6, .int x6), (7, .int x7)] → W p l e (g_rm 101 1866 h0 h') s m args below meth c H locs cells slots (gQ G below args s h0 h' (g_w g_wI r)) (F0 m 24 ls [])
def f_X1_share_83 (k24 : Nat → Int32 → Nat → Int32 → Int32 → Int32 → Int32 → gM (Int32 ⊕ gE)) (a0 : Nat) (x1 : Int32) (a3 : Nat) (x4 : Int32) (x5 : Int32) (x7 : Int32) (u0 : Int32) (u1 : Int32) : gM (Int32 ⊕ gE) :=
    gB (gFR a0 0 1) fun v101 =>
    gB (gCk v101 2) fun _ =>
    gB (f_X3_behind v101 a3 x7 x4 (1 : Int32)) fun r102 =>
    k24 a0 x1 a3 r102 x5 (u0 + u1) (x7 + (1 : Int32))
set_option maxHeartbeats 4000000 in
set_option maxRecDepth 100000 in
theorem b_X1_share_83 {G : gG} {l : Launch} {p : Program} {e : Env} {s : State} {m : MethodId} {args : Array Value} {below : List Frame} {meth : Method} {c : Code} {h0 : g_H} {r : (Int32 ⊕ gE)} {h' : g_H} (X : gX G l yX1_share.cls cX1_share 9 (some .int) [] yX1_share.name p s m args meth c) {k24 : Nat → Int32 → Nat → Int32 → Int32 → Int32 → Int32 → gM (Int32 ⊕ gE)} (K24 : w_X1_share_24 G l p e s m args below meth c h0 r h' k24) : w_X1_share_83 G l p e s m args below meth c h0 r h' (f_X1_share_83 k24) := by
  have hx := X.1
  have hb := X.2.1
  have hown := X.2.2.2.1
  have hts := X.2.2.2.2.1
  intro a0 x1 a3 x4 x5 x7 u0 u1 h H locs cells slots ls hf hI hl
  unfold f_X1_share_83 at hf
  refine lv_iadd hx hb dX1_share_83 ?_
  refine lv_istore (lv' := [(6, .int (u0 + u1)), (0, .ref a0), (1, .int x1), (3, .ref a3), (4, .int x4), (5, .int x5), (7, .int x7)]) hx hb dX1_share_84 hl (by decide) rfl (fun ls hl => ?_)
  refine lv_aload_n hx hb dX1_share_86 rfl (lv_at hl 1 rfl) ?_
  refine g_fr X hI hf fX1_1 q461 rfl rfl dX1_share_87 (fun v101 hf => ?_)
  refine lv_aload_n hx hb dX1_share_90 rfl (lv_at hl 3 rfl) ?_
  refine lv_iload hx hb dX1_share_91 (lv_at hl 6 rfl) ?_
  refine lv_iload hx hb dX1_share_93 (lv_at hl 4 rfl) ?_
  refine lv_iconst (v := (1 : Int32)) hx hb dX1_share_95 (by decide) ?_
  obtain ⟨hs, hf⟩ := gCk_b hf
  refine g_cBI hI hf (fun v9 h9 e9 l9 l9' => g_rV X hI l9 l9' ⟨Nat.le_refl _, Nat.le_refl _⟩ (As := [.ref a3, .int x7, .int x4, .int (1 : Int32)]) (m_X3_behind X.2.2.2.2.2.2.2.2.2.2.1 e9) ydX3_behind hs rfl rfl q717 q560 q561 q123 q562 rfl (Nat.le_of_ble_eq_true rfl) (Nat.le_of_ble_eq_true rfl) hl.1 rfl (Nat.le_of_ble_eq_true rfl) dX1_share_96) (fun r102 h H locs cells slots hf hI => ?_)
  refine lv_istore (lv' := [(4, .int r102), (6, .int (u0 + u1)), (0, .ref a0), (1, .int x1), (3, .ref a3), (5, .int x5), (7, .int x7)]) hx hb dX1_share_99 hl (by decide) rfl (fun ls hl => ?_)
  refine lv_iinc (v := (x7 + (1 : Int32))) (lv' := [(7, .int (x7 + (1 : Int32))), (4, .int r102), (6, .int (u0 + u1)), (0, .ref a0), (1, .int x1), (3, .ref a3), (5, .int x5)]) hx hb dX1_share_101 hl (k := 6) rfl rfl (by decide) rfl (fun ls hl => ?_)
  refine lv_goto (tgt := 24) hx hb dX1_share_104 (by decide) ?_
  exact K24 _ _ _ _ _ _ _ _ _ _ _ _ _ hf hI (lv_sub hl [3, 4, 5, 1, 6, 2, 0] rfl)
def f_X1_share_124 (u0 : Int32) : gM (Int32 ⊕ gE) :=
    (gRet (.inl u0))
set_option maxHeartbeats 4000000 in
set_option maxRecDepth 100000 in
theorem b_X1_share_124 {G : gG} {l : Launch} {p : Program} {e : Env} {s : State} {m : MethodId} {args : Array Value} {below : List Frame} {meth : Method} {c : Code} {h0 : g_H} {r : (Int32 ⊕ gE)} {h' : g_H} (X : gX G l yX1_share.cls cX1_share 9 (some .int) [] yX1_share.name p s m args meth c) : w_X1_share_124 G l p e s m args below meth c h0 r h' (f_X1_share_124) := by
  have hx := X.1
  have hb := X.2.1
  have hown := X.2.2.2.1
  have hts := X.2.2.2.2.1
  intro u0 h H locs cells slots ls hf hI hl
  unfold f_X1_share_124 at hf
  cases gRet_e hf
  exact g_retI X hI rfl dX1_share_124
def f_X1_share_107 (x5 : Int32) (x6 : Int32) : gM (Int32 ⊕ gE) :=
    gIf (x5 = 0)
    (f_X1_share_124 (0 : Int32))
    (gB (gGd (¬ x5 = 0)) fun _ =>
    f_X1_share_124 (((100 : Int32) * x6) / x5))
set_option maxHeartbeats 4000000 in
set_option maxRecDepth 100000 in
theorem b_X1_share_107 {G : gG} {l : Launch} {p : Program} {e : Env} {s : State} {m : MethodId} {args : Array Value} {below : List Frame} {meth : Method} {c : Code} {h0 : g_H} {r : (Int32 ⊕ gE)} {h' : g_H} (X : gX G l yX1_share.cls cX1_share 9 (some .int) [] yX1_share.name p s m args meth c) : w_X1_share_107 G l p e s m args below meth c h0 r h' (f_X1_share_107) := by
  have hx := X.1
  have hb := X.2.1
  have hown := X.2.2.2.1
  have hts := X.2.2.2.2.1
  intro x5 x6 h H locs cells slots ls hf hI hl
  unfold f_X1_share_107 at hf
  refine lv_iload hx hb dX1_share_107 (lv_at hl 0 rfl) ?_
  refine lv_if_ne (tgt := 116) hx hb dX1_share_109 (by decide) (fun c109 => ?_) (fun c109 => ?_)
  · have hf := g_f c109 hf
    refine lv_bipush (v := (100 : Int32)) hx hb dX1_share_116 (by decide) ?_
    refine lv_iload hx hb dX1_share_118 (lv_at hl 1 rfl) ?_
    refine lv_imul hx hb dX1_share_120 ?_
    refine lv_iload hx hb dX1_share_121 (lv_at hl 0 rfl) ?_
    obtain ⟨hz123, hf⟩ := gB_gd hf
    refine lv_idiv hx hb dX1_share_123 hz123 ?_
    exact b_X1_share_124 X _ _ _ _ _ _ _ hf hI (lv_sub hl [] rfl)
  · have hf := g_t c109 hf
    refine lv_iconst (v := (0 : Int32)) hx hb dX1_share_112 (by decide) ?_
    refine lv_goto (tgt := 124) hx hb dX1_share_113 (by decide) ?_
    exact b_X1_share_124 X _ _ _ _ _ _ _ hf hI (lv_sub hl [] rfl)
def f_X1_share_24 : Nat → Nat → Int32 → Nat → Int32 → Int32 → Int32 → Int32 → gM (Int32 ⊕ gE)
  | 0, _, _, _, _, _, _, _ => gFail
  | n + 1, a0, x1, a3, x4, x5, x6, x7 =>
    gIf ((10 : Int32) ≤ x7)
    (f_X1_share_107 x5 x6)
    (gB (gFI a3 4 1) fun v101 =>
    gIf (v101 < x4)
    (f_X1_share_107 x5 x6)
    (gB (gFR a0 0 1) fun v102 =>
    gB (gCk v102 2) fun _ =>
    gB (f_X3_frights v102 a3 x7 x4) fun r103 =>
    gB (gFR a0 0 1) fun v104 =>
    gB (gFR v104 2 3) fun v105 =>
    gB (gAI v105 0 x7) fun v106 =>
    gIf (v106 = x1)
    (f_X1_share_83 (f_X1_share_24 n) a0 x1 a3 x4 (x5 + r103) x7 x6 r103)
    (f_X1_share_83 (f_X1_share_24 n) a0 x1 a3 x4 (x5 + r103) x7 x6 (0 : Int32))))
set_option maxHeartbeats 4000000 in
set_option maxRecDepth 100000 in
theorem b_X1_share_24 {G : gG} {l : Launch} {p : Program} {e : Env} {s : State} {m : MethodId} {args : Array Value} {below : List Frame} {meth : Method} {c : Code} {h0 : g_H} {r : (Int32 ⊕ gE)} {h' : g_H} (X : gX G l yX1_share.cls cX1_share 9 (some .int) [] yX1_share.name p s m args meth c) : ∀ n : Nat, w_X1_share_24 G l p e s m args below meth c h0 r h' (f_X1_share_24 n) := by
  have hx := X.1
  have hb := X.2.1
  have hown := X.2.2.2.1
  have hts := X.2.2.2.2.1
  intro n
  induction n with
  | zero =>
    intro a0 x1 a3 x4 x5 x6 x7 h H locs cells slots ls hf hI hl
    exact (gFail_f hf).elim
  | succ n ih =>
    intro a0 x1 a3 x4 x5 x6 x7 h H locs cells slots ls hf hI hl
    rw [f_X1_share_24] at hf
    refine lv_iload hx hb dX1_share_24 (lv_at hl 6 rfl) ?_
    refine lv_bipush (v := (10 : Int32)) hx hb dX1_share_26 (by decide) ?_
    refine lv_icmp_ge (tgt := 107) hx hb dX1_share_28 (by decide) (fun c28 => ?_) (fun c28 => ?_)
    · have hf := g_t c28 hf
      exact b_X1_share_107 X _ _ _ _ _ _ _ _ hf hI (lv_sub hl [4, 5] rfl)
    · have hf := g_f c28 hf
      refine lv_iload hx hb dX1_share_31 (lv_at hl 3 rfl) ?_
      refine lv_aload_n hx hb dX1_share_33 rfl (lv_at hl 2 rfl) ?_
      refine g_fiN X hI hf fX5_1 q235 rfl rfl dX1_share_34 (fun v101 hf => ?_)
      refine lv_icmp_gt (tgt := 107) hx hb dX1_share_37 (by decide) (fun c37 => ?_) (fun c37 => ?_)
      · have hf := g_t c37 hf
        exact b_X1_share_107 X _ _ _ _ _ _ _ _ hf hI (lv_sub hl [4, 5] rfl)
      · have hf := g_f c37 hf
        refine lv_aload_n hx hb dX1_share_40 rfl (lv_at hl 0 rfl) ?_
        refine g_fr X hI hf fX1_1 q461 rfl rfl dX1_share_41 (fun v102 hf => ?_)
        refine lv_aload_n hx hb dX1_share_44 rfl (lv_at hl 2 rfl) ?_
        refine lv_iload hx hb dX1_share_45 (lv_at hl 6 rfl) ?_
        refine lv_iload hx hb dX1_share_47 (lv_at hl 3 rfl) ?_
        obtain ⟨hs, hf⟩ := gCk_b hf
        refine g_cBI hI hf (fun v9 h9 e9 l9 l9' => g_rV X hI l9 l9' ⟨Nat.le_refl _, Nat.le_refl _⟩ (As := [.ref a3, .int x7, .int x4]) (m_X3_frights X.2.2.2.2.2.2.2.2.2.2.1 e9) ydX3_frights hs rfl rfl q1203 q567 q568 q123 q569 rfl (Nat.le_of_ble_eq_true rfl) (Nat.le_of_ble_eq_true rfl) hl.1 rfl (Nat.le_of_ble_eq_true rfl) dX1_share_49) (fun r103 h H locs cells slots hf hI => ?_)
        refine lv_istore (lv' := [(8, .int r103), (0, .ref a0), (1, .int x1), (3, .ref a3), (4, .int x4), (5, .int x5), (6, .int x6), (7, .int x7)]) hx hb dX1_share_52 hl (by decide) rfl (fun ls hl => ?_)
        refine lv_iload hx hb dX1_share_54 (lv_at hl 5 rfl) ?_
        refine lv_iload hx hb dX1_share_56 (lv_at hl 0 rfl) ?_
        refine lv_iadd hx hb dX1_share_58 ?_
        refine lv_istore (lv' := [(5, .int (x5 + r103)), (8, .int r103), (0, .ref a0), (1, .int x1), (3, .ref a3), (4, .int x4), (6, .int x6), (7, .int x7)]) hx hb dX1_share_59 hl (by decide) rfl (fun ls hl => ?_)
        refine lv_iload hx hb dX1_share_61 (lv_at hl 6 rfl) ?_
        refine lv_aload_n hx hb dX1_share_63 rfl (lv_at hl 2 rfl) ?_
        refine g_fr X hI hf fX1_1 q461 rfl rfl dX1_share_64 (fun v104 hf => ?_)
        refine g_frN X hI hf fX3_3 q264 rfl rfl dX1_share_67 (fun v105 hf => ?_)
        refine lv_iload hx hb dX1_share_70 (lv_at hl 7 rfl) ?_
        refine g_ai0 X hI hf dX1_share_72 (fun v106 hf => ?_)
        refine lv_iload_n hx hb dX1_share_73 rfl (lv_at hl 3 rfl) ?_
        refine lv_icmp_ne (tgt := 82) hx hb dX1_share_74 (by decide) (fun c74 => ?_) (fun c74 => ?_)
        · have hf := g_f c74 hf
          refine lv_iconst (v := (0 : Int32)) hx hb dX1_share_82 (by decide) ?_
          exact b_X1_share_83 X ih _ _ _ _ _ _ _ _ _ _ _ _ _ _ hf hI (lv_sub hl [2, 3, 4, 5, 0, 7] rfl)
        · have hf := g_t c74 hf
          refine lv_iload hx hb dX1_share_77 (lv_at hl 1 rfl) ?_
          refine lv_goto (tgt := 83) hx hb dX1_share_79 (by decide) ?_
          exact b_X1_share_83 X ih _ _ _ _ _ _ _ _ _ _ _ _ _ _ hf hI (lv_sub hl [2, 3, 4, 5, 0, 7] rfl)
def f_X1_share (a0 : Nat) (x1 : Int32) (x2 : Int32) : gM (Int32 ⊕ gE) :=
    gB (gCk a0 0) fun _ =>
    gT (f_X1_propAt a0 x1) fun r1 =>
    gB (gCk a0 0) fun _ =>
    gT (f_X1_oneAt a0 x2) fun r2 =>
    f_X1_share_24 gN a0 x1 r2 (0 : Int32) (0 : Int32) (0 : Int32) (0 : Int32)
set_option maxHeartbeats 4000000 in
set_option maxRecDepth 100000 in
theorem m_X1_share {G : gG} {l : Launch} (hfl : l.stackTraces = false) {a0 : Nat} {x1 : Int32} {x2 : Int32} {h h' : g_H} {r : (Int32 ⊕ gE)} (hf : (f_X1_share a0 x1 x2).1 h = some (r, h')) : gMet G l yX1_share (Cond.code yX1_share cX1_share 9 (some .int)) 101 1866 [.ref a0, .int x1, .int x2] h (g_w g_wI r) h' := by
  refine g_head hfl ((f_X1_share a0 x1 x2).2 h r h' hf) (plainFor_of_name (by decide)) (Nat.le_of_ble_eq_true rfl) (fun p e s m below meth c H locs cells slots ls X hI hl9 => ?_)
  have hl : lv_has ls 9 [(0, .ref a0), (1, .int x1), (2, .int x2)] := hl9
  have hx := X.1
  have hb := X.2.1
  have hown := X.2.2.2.1
  have hts := X.2.2.2.2.1
  unfold f_X1_share at hf
  refine lv_aload_n hx hb dX1_share_0 rfl (lv_at hl 0 rfl) ?_
  refine lv_iload_n hx hb dX1_share_1 rfl (lv_at hl 1 rfl) ?_
  obtain ⟨hs, hf⟩ := gCk_b hf
  refine g_cTR X hI (by decide) hf (fun v9 h9 e9 l9 l9' => g_rV X hI l9 l9' ⟨Nat.le_refl _, Nat.le_refl _⟩ (As := [.int x1]) (m_X1_propAt X.2.2.2.2.2.2.2.2.2.2.1 e9) ydX1_propAt hs rfl rfl q1135 q1137 qs36 q121 q1138 rfl (Nat.le_of_ble_eq_true rfl) (Nat.le_of_ble_eq_true rfl) hl.1 rfl (Nat.le_of_ble_eq_true rfl) dX1_share_2) (fun r1 h H locs cells slots hf hI => ?_)
  refine lv_pop hx hb dX1_share_5 rfl ?_
  refine lv_aload_n hx hb dX1_share_6 rfl (lv_at hl 0 rfl) ?_
  refine lv_iload_n hx hb dX1_share_7 rfl (lv_at hl 2 rfl) ?_
  obtain ⟨hs, hf⟩ := gCk_b hf
  refine g_cTR X hI (by decide) hf (fun v9 h9 e9 l9 l9' => g_rV X hI l9 l9' ⟨Nat.le_refl _, Nat.le_refl _⟩ (As := [.int x2]) (m_X1_oneAt X.2.2.2.2.2.2.2.2.2.2.1 e9) ydX1_oneAt hs rfl rfl q1189 q1191 qs37 q121 q1192 rfl (Nat.le_of_ble_eq_true rfl) (Nat.le_of_ble_eq_true rfl) hl.1 rfl (Nat.le_of_ble_eq_true rfl) dX1_share_8) (fun r2 h H locs cells slots hf hI => ?_)
  refine lv_astore_n (lv' := [(3, .ref r2), (0, .ref a0), (1, .int x1), (2, .int x2)]) hx hb dX1_share_11 rfl hl (by decide) rfl (fun ls hl => ?_)
  refine lv_iconst (v := (0 : Int32)) hx hb dX1_share_12 (by decide) ?_
  refine lv_istore (lv' := [(4, .int (0 : Int32)), (3, .ref r2), (0, .ref a0), (1, .int x1), (2, .int x2)]) hx hb dX1_share_13 hl (by decide) rfl (fun ls hl => ?_)
  refine lv_iconst (v := (0 : Int32)) hx hb dX1_share_15 (by decide) ?_
  refine lv_istore (lv' := [(5, .int (0 : Int32)), (4, .int (0 : Int32)), (3, .ref r2), (0, .ref a0), (1, .int x1), (2, .int x2)]) hx hb dX1_share_16 hl (by decide) rfl (fun ls hl => ?_)
  refine lv_iconst (v := (0 : Int32)) hx hb dX1_share_18 (by decide) ?_
  refine lv_istore (lv' := [(6, .int (0 : Int32)), (5, .int (0 : Int32)), (4, .int (0 : Int32)), (3, .ref r2), (0, .ref a0), (1, .int x1), (2, .int x2)]) hx hb dX1_share_19 hl (by decide) rfl (fun ls hl => ?_)
  refine lv_iconst (v := (0 : Int32)) hx hb dX1_share_21 (by decide) ?_
  refine lv_istore (lv' := [(7, .int (0 : Int32)), (6, .int (0 : Int32)), (5, .int (0 : Int32)), (4, .int (0 : Int32)), (3, .ref r2), (0, .ref a0), (1, .int x1), (2, .int x2)]) hx hb dX1_share_22 hl (by decide) rfl (fun ls hl => ?_)
  exact b_X1_share_24 X gN _ _ _ _ _ _ _ _ _ _ _ _ _ hf hI (lv_sub hl [5, 6, 4, 3, 2, 1, 0] rfl)
/-! X0_share -/
def f_X0_share (a0 : Nat) (x1 : Int32) (x2 : Int32) (a3 : Nat) : gM Int32 :=
    gB (gCk a0 0) fun _ =>
    gB (f_X1_share a0 x1 x2) fun r9 => match r9 with
    | .inl r1 => (gB (gSI a3 2 (0 : Int32) (r1)) fun _ =>
    (gRet (0 : Int32)))
    | .inr x9 => (gIf (x9.1 = 19)
    ((gRet (1 : Int32)))
    (gFail))
set_option maxHeartbeats 4000000 in
set_option maxRecDepth 100000 in
theorem m_X0_share {G : gG} {l : Launch} (hfl : l.stackTraces = false) {a0 : Nat} {x1 : Int32} {x2 : Int32} {a3 : Nat} {h h' : g_H} {r : Int32} (hf : (f_X0_share a0 x1 x2 a3).1 h = some (r, h')) : gMet G l yX0_share (Cond.codeWith yX0_share cX0_share 5 (some .int) [(0, 10, 13, 24)]) 102 1894 [.ref a0, .int x1, .int x2, .ref a3] h (.inl (g_wI r)) h' := by
  refine g_headW hfl ((f_X0_share a0 x1 x2 a3).2 h r h' hf) (plainFor_of_name (by decide)) (Nat.le_of_ble_eq_true rfl) (fun p e s m below meth c H locs cells slots ls X hI hl9 => ?_)
  have hl : lv_has ls 5 [(0, .ref a0), (1, .int x1), (2, .int x2), (3, .ref a3)] := hl9
  have hx := X.1
  have hb := X.2.1
  have hown := X.2.2.2.1
  have hts := X.2.2.2.2.1
  unfold f_X0_share at hf
  refine lv_aload_n hx hb dX0_share_0 rfl (lv_at hl 3 rfl) ?_
  refine lv_iconst (v := (0 : Int32)) hx hb dX0_share_1 (by decide) ?_
  refine lv_aload_n hx hb dX0_share_2 rfl (lv_at hl 0 rfl) ?_
  refine lv_iload_n hx hb dX0_share_3 rfl (lv_at hl 1 rfl) ?_
  refine lv_iload_n hx hb dX0_share_4 rfl (lv_at hl 2 rfl) ?_
  obtain ⟨hs, hf⟩ := gCk_b hf
  refine g_cHI hI hf (fun v9 h9 e9 l9 l9' => g_rV X hI l9 l9' ⟨Nat.le_refl _, Nat.le_refl _⟩ (As := [.int x1, .int x2]) (m_X1_share X.2.2.2.2.2.2.2.2.2.2.1 e9) ydX1_share hs rfl rfl q1385 q1386 q1387 q121 q1388 rfl (Nat.le_of_ble_eq_true rfl) (Nat.le_of_ble_eq_true rfl) hl.1 rfl (Nat.le_of_ble_eq_true rfl) dX0_share_5) (fun r1 h H locs cells slots hf hI => ?_) ?_
  · refine lv_i2l hx hb dX0_share_8 rfl ?_
    refine g_si2 X hI hf dX0_share_9 (fun h H locs hf hI => ?_)
    refine lv_goto (tgt := 17) hx hb dX0_share_10 (by decide) ?_
    refine lv_iconst (v := (0 : Int32)) hx hb dX0_share_17 (by decide) ?_
    cases gRet_e hf
    exact g_retI X hI rfl dX0_share_18
  · intro ci9 x9 h H locs cells slots r9 ce9 hf hr9 hI hce hcv hcl
    by_cases k0 : ci9 = 19
    · subst k0
      cases hr9
      have hf := g_t rfl hf
      refine g_catch0 X hI (name := "java/lang/IndexOutOfBoundsException") rfl (by rfl) (by decide) (by decide) q1098 q1144 hce hcv hcl ?_
      refine lv_astore (lv' := [(4, .ref x9), (0, .ref a0), (1, .int x1), (2, .int x2), (3, .ref a3)]) hx hb dX0_share_13 hl (by decide) rfl (fun ls hl => ?_)
      refine lv_iconst (v := (1 : Int32)) hx hb dX0_share_15 (by decide) ?_
      cases gRet_e hf
      exact g_retI X hI rfl dX0_share_16
    have hf := g_f k0 hf
    exact (gFail_f hf).elim
/-! X8_noProp -/
abbrev w_X8_noProp_19 (G : gG) (l : Launch) (p : Program) (e : Env) (s : State) (m : MethodId) (args : Array Value) (below : List Frame) (meth : Method) (c : Code) (h0 : g_H) (r : Int32) (h' : g_H) (k : Int32 → gM Int32) : Prop := ∀ (u0 : Int32) (h : g_H) (H : Heap) (locs : List Loc) (cells slots : Nat) (ls : Array Slot), (k u0).1 h = some (r, h') → gI G h0 h H locs cells slots → lv_has ls 2 [] → W p l e (g_rm 2 42 h0 h') s m args below meth c H locs cells slots (gQ G below args s h0 h' (.inl (g_wI r))) (F0 m 19 ls [.int u0])
def f_X8_noProp_19 (u0 : Int32) : gM Int32 :=
    gB (gGd (u0 = 0 ∨ u0 = 1)) fun _ =>
    (gRet u0)
set_option maxHeartbeats 4000000 in
set_option maxRecDepth 100000 in
theorem b_X8_noProp_19 {G : gG} {l : Launch} {p : Program} {e : Env} {s : State} {m : MethodId} {args : Array Value} {below : List Frame} {meth : Method} {c : Code} {h0 : g_H} {r : Int32} {h' : g_H} (X : gX G l yX8_noProp.cls cX8_noProp 2 (some .boolean) [] yX8_noProp.name p s m args meth c) : w_X8_noProp_19 G l p e s m args below meth c h0 r h' (f_X8_noProp_19) := by
  have hx := X.1
  have hb := X.2.1
  have hown := X.2.2.2.1
  have hts := X.2.2.2.2.1
  intro u0 h H locs cells slots ls hf hI hl
  unfold f_X8_noProp_19 at hf
  obtain ⟨hz, hf⟩ := gB_gd hf
  cases gRet_e hf
  exact g_retZ X hI hz rfl dX8_noProp_19
def f_X8_noProp (a0 : Nat) (x1 : Int32) : gM Int32 :=
    gB (gCk a0 7) fun _ =>
    gB (f_X8_props a0) fun r1 =>
    gB (f_X8_in x1 (0 : Int32) (r1 - (1 : Int32))) fun r2 =>
    gIf (r2 = 0)
    (f_X8_noProp_19 (1 : Int32))
    (f_X8_noProp_19 (0 : Int32))
set_option maxHeartbeats 4000000 in
set_option maxRecDepth 100000 in
theorem m_X8_noProp {G : gG} {l : Launch} (hfl : l.stackTraces = false) {a0 : Nat} {x1 : Int32} {h h' : g_H} {r : Int32} (hf : (f_X8_noProp a0 x1).1 h = some (r, h')) : gMet G l yX8_noProp (Cond.code yX8_noProp cX8_noProp 2 (some .boolean)) 2 42 [.ref a0, .int x1] h (.inl (g_wI r)) h' := by
  refine g_head hfl ((f_X8_noProp a0 x1).2 h r h' hf) (plainFor_of_name (by decide)) (Nat.le_of_ble_eq_true rfl) (fun p e s m below meth c H locs cells slots ls X hI hl9 => ?_)
  have hl : lv_has ls 2 [(0, .ref a0), (1, .int x1)] := hl9
  have hx := X.1
  have hb := X.2.1
  have hown := X.2.2.2.1
  have hts := X.2.2.2.2.1
  unfold f_X8_noProp at hf
  refine lv_iload_n hx hb dX8_noProp_0 rfl (lv_at hl 1 rfl) ?_
  refine lv_iconst (v := (0 : Int32)) hx hb dX8_noProp_1 (by decide) ?_
  refine lv_aload_n hx hb dX8_noProp_2 rfl (lv_at hl 0 rfl) ?_
  obtain ⟨hs, hf⟩ := gCk_b hf
  refine g_cBI hI hf (fun v9 h9 e9 l9 l9' => g_rV X hI l9 l9' ⟨Nat.le_refl _, Nat.le_refl _⟩ (As := []) (m_X8_props X.2.2.2.2.2.2.2.2.2.2.1 e9) ydX8_props hs rfl rfl q1626 q1628 qs53 q131 q1629 rfl (Nat.le_of_ble_eq_true rfl) (Nat.le_of_ble_eq_true rfl) hl.1 rfl (Nat.le_of_ble_eq_true rfl) dX8_noProp_3) (fun r1 h H locs cells slots hf hI => ?_)
  refine lv_iconst (v := (1 : Int32)) hx hb dX8_noProp_6 (by decide) ?_
  refine lv_isub hx hb dX8_noProp_7 ?_
  refine g_cBI hI hf (fun v9 h9 e9 l9 l9' => g_rS (b := 0) X hI l9 l9' ⟨Nat.le_refl _, Nat.le_refl _⟩ (As := [.int x1, .int (0 : Int32), .int (r1 - (1 : Int32))]) (m_X8_in X.2.2.2.2.2.2.2.2.2.2.1 e9) ydX8_in q1634 q1635 q131 q1636 rfl (Nat.le_of_ble_eq_true rfl) (Nat.le_of_ble_eq_true rfl) hl.1 rfl (Nat.le_of_ble_eq_true rfl) dX8_noProp_8) (fun r2 h H locs cells slots hf hI => ?_)
  refine lv_if_ne (tgt := 18) hx hb dX8_noProp_11 (by decide) (fun c11 => ?_) (fun c11 => ?_)
  · have hf := g_f c11 hf
    refine lv_iconst (v := (0 : Int32)) hx hb dX8_noProp_18 (by decide) ?_
    exact b_X8_noProp_19 X _ _ _ _ _ _ _ hf hI (lv_sub hl [] rfl)
  · have hf := g_t c11 hf
    refine lv_iconst (v := (1 : Int32)) hx hb dX8_noProp_14 (by decide) ?_
    refine lv_goto (tgt := 19) hx hb dX8_noProp_15 (by decide) ?_
    exact b_X8_noProp_19 X _ _ _ _ _ _ _ hf hI (lv_sub hl [] rfl)
/-! X8_ridesStraight -/
def f_X8_ridesStraight (a0 : Nat) (x1 : Int32) : gM Int32 :=
    gB (gCk a0 7) fun _ =>
    gB (f_X8_looksAt a0 x1) fun _ =>
    gB (gCk a0 7) fun _ =>
    gB (f_X8_rides a0 (0 : Int32) (0 : Int32)) fun r2 =>
    (gRet r2)
set_option maxHeartbeats 4000000 in
set_option maxRecDepth 100000 in
theorem m_X8_ridesStraight {G : gG} {l : Launch} (hfl : l.stackTraces = false) {a0 : Nat} {x1 : Int32} {h h' : g_H} {r : Int32} (hf : (f_X8_ridesStraight a0 x1).1 h = some (r, h')) : gMet G l yX8_ridesStraight (Cond.code yX8_ridesStraight cX8_ridesStraight 2 (some .int)) 10 228 [.ref a0, .int x1] h (.inl (g_wI r)) h' := by
  refine g_head hfl ((f_X8_ridesStraight a0 x1).2 h r h' hf) (plainFor_of_name (by decide)) (Nat.le_of_ble_eq_true rfl) (fun p e s m below meth c H locs cells slots ls X hI hl9 => ?_)
  have hl : lv_has ls 2 [(0, .ref a0), (1, .int x1)] := hl9
  have hx := X.1
  have hb := X.2.1
  have hown := X.2.2.2.1
  have hts := X.2.2.2.2.1
  unfold f_X8_ridesStraight at hf
  refine lv_aload_n hx hb dX8_ridesStraight_0 rfl (lv_at hl 0 rfl) ?_
  refine lv_iload_n hx hb dX8_ridesStraight_1 rfl (lv_at hl 1 rfl) ?_
  obtain ⟨hs, hf⟩ := gCk_b hf
  refine g_cBU hI hf (fun v9 h9 e9 l9 l9' => g_rV X hI l9 l9' ⟨Nat.le_refl _, Nat.le_refl _⟩ (As := [.int x1]) (m_X8_looksAt X.2.2.2.2.2.2.2.2.2.2.1 e9) ydX8_looksAt hs rfl rfl q1775 q1777 qs76 q131 q1778 rfl (Nat.le_of_ble_eq_true rfl) (Nat.le_of_ble_eq_true rfl) hl.1 rfl (Nat.le_of_ble_eq_true rfl) dX8_ridesStraight_2) (fun r1 h H locs cells slots hf hI => ?_)
  refine lv_aload_n hx hb dX8_ridesStraight_5 rfl (lv_at hl 0 rfl) ?_
  refine lv_iconst (v := (0 : Int32)) hx hb dX8_ridesStraight_6 (by decide) ?_
  refine lv_iconst (v := (0 : Int32)) hx hb dX8_ridesStraight_7 (by decide) ?_
  obtain ⟨hs, hf⟩ := gCk_b hf
  refine g_cBI hI hf (fun v9 h9 e9 l9 l9' => g_rV X hI l9 l9' ⟨Nat.le_refl _, Nat.le_refl _⟩ (As := [.int (0 : Int32), .int (0 : Int32)]) (m_X8_rides X.2.2.2.2.2.2.2.2.2.2.1 e9) ydX8_rides hs rfl rfl q1812 q1814 qs84 q131 q1815 rfl (Nat.le_of_ble_eq_true rfl) (Nat.le_of_ble_eq_true rfl) hl.1 rfl (Nat.le_of_ble_eq_true rfl) dX8_ridesStraight_8) (fun r2 h H locs cells slots hf hI => ?_)
  cases gRet_e hf
  exact g_retI X hI rfl dX8_ridesStraight_11
/-! X8_share -/
abbrev w_X8_share_102 (G : gG) (l : Launch) (p : Program) (e : Env) (s : State) (m : MethodId) (args : Array Value) (below : List Frame) (meth : Method) (c : Code) (h0 : g_H) (r : Int32) (h' : g_H) (k : Int32 → gM Int32) : Prop := ∀ (u0 : Int32) (h : g_H) (H : Heap) (locs : List Loc) (cells slots : Nat) (ls : Array Slot), (k u0).1 h = some (r, h') → gI G h0 h H locs cells slots → lv_has ls 5 [] → W p l e (g_rm 11 249 h0 h') s m args below meth c H locs cells slots (gQ G below args s h0 h' (.inl (g_wI r))) (F0 m 102 ls [.int u0])
abbrev w_X8_share_82 (G : gG) (l : Launch) (p : Program) (e : Env) (s : State) (m : MethodId) (args : Array Value) (below : List Frame) (meth : Method) (c : Code) (h0 : g_H) (r : Int32) (h' : g_H) (k : gM Int32) : Prop := ∀ (h : g_H) (H : Heap) (locs : List Loc) (cells slots : Nat) (ls : Array Slot), (k).1 h = some (r, h') → gI G h0 h H locs cells slots → lv_has ls 5 [] → W p l e (g_rm 11 249 h0 h') s m args below meth c H locs cells slots (gQ G below args s h0 h' (.inl (g_wI r))) (F0 m 82 ls [])
abbrev w_X8_share_70 (G : gG) (l : Launch) (p : Program) (e : Env) (s : State) (m : MethodId) (args : Array Value) (below : List Frame) (meth : Method) (c : Code) (h0 : g_H) (r : Int32) (h' : g_H) (k : Nat → Int32 → Int32 → gM Int32) : Prop := ∀ (a0 : Nat) (x1 : Int32) (x3 : Int32) (h : g_H) (H : Heap) (locs : List Loc) (cells slots : Nat) (ls : Array Slot), (k a0 x1 x3).1 h = some (r, h') → gI G h0 h H locs cells slots → lv_has ls 5 [(0, .ref a0), (1, .int x1), (3, .int x3)] → W p l e (g_rm 11 249 h0 h') s m args below meth c H locs cells slots (gQ G below args s h0 h' (.inl (g_wI r))) (F0 m 70 ls [])
abbrev w_X8_share_47 (G : gG) (l : Launch) (p : Program) (e : Env) (s : State) (m : MethodId) (args : Array Value) (below : List Frame) (meth : Method) (c : Code) (h0 : g_H) (r : Int32) (h' : g_H) (k : Nat → Int32 → Int32 → Int32 → gM Int32) : Prop := ∀ (a0 : Nat) (x1 : Int32) (x3 : Int32) (x4 : Int32) (h : g_H) (H : Heap) (locs : List Loc) (cells slots : Nat) (ls : Array Slot), (k a0 x1 x3 x4).1 h = some (r, h') → gI G h0 h H locs cells slots → lv_has ls 5 [(0, .ref a0), (1, .int x1), (3, .int x3), (4, .int x4)] → W p l e (g_rm 11 249 h0 h') s m args below meth c H locs cells slots (gQ G below args s h0 h' (.inl (g_wI r))) (F0 m 47 ls [])
abbrev w_X8_share_27 (G : gG) (l : Launch) (p : Program) (e : Env) (s : State) (m : MethodId) (args : Array Value) (below : List Frame) (meth : Method) (c : Code) (h0 : g_H) (r : Int32) (h' : g_H) (k : Nat → Int32 → Int32 → Nat → Int32 → gM Int32) : Prop := ∀ (a0 : Nat) (x1 : Int32) (x2 : Int32) (b0 : Nat) (u1 : Int32) (h : g_H) (H : Heap) (locs : List Loc) (cells slots : Nat) (ls : Array Slot), (k a0 x1 x2 b0 u1).1 h = some (r, h') → gI G h0 h H locs cells slots → lv_has ls 5 [(0, .ref a0), (1, .int x1), (2, .int x2)] → W p l e (g_rm 11 249 h0 h') s m args below meth c H locs cells slots (gQ G below args s h0 h' (.inl (g_wI r))) (F0 m 27 ls [.int u1, .ref b0])
abbrev w_X8_share_22 (G : gG) (l : Launch) (p : Program) (e : Env) (s : State) (m : MethodId) (args : Array Value) (below : List Frame) (meth : Method) (c : Code) (h0 : g_H) (r : Int32) (h' : g_H) (k : Nat → Int32 → Int32 → Nat → gM Int32) : Prop := ∀ (a0 : Nat) (x1 : Int32) (x2 : Int32) (b0 : Nat) (h : g_H) (H : Heap) (locs : List Loc) (cells slots : Nat) (ls : Array Slot), (k a0 x1 x2 b0).1 h = some (r, h') → gI G h0 h H locs cells slots → lv_has ls 5 [(0, .ref a0), (1, .int x1), (2, .int x2)] → W p l e (g_rm 11 249 h0 h') s m args below meth c H locs cells slots (gQ G below args s h0 h' (.inl (g_wI r))) (F0 m 22 ls [.ref b0])
def f_X8_share_102 (u0 : Int32) : gM Int32 :=
    (gRet u0)
set_option maxHeartbeats 4000000 in
set_option maxRecDepth 100000 in
theorem b_X8_share_102 {G : gG} {l : Launch} {p : Program} {e : Env} {s : State} {m : MethodId} {args : Array Value} {below : List Frame} {meth : Method} {c : Code} {h0 : g_H} {r : Int32} {h' : g_H} (X : gX G l yX8_share.cls cX8_share 5 (some .int) [] yX8_share.name p s m args meth c) : w_X8_share_102 G l p e s m args below meth c h0 r h' (f_X8_share_102) := by
  have hx := X.1
  have hb := X.2.1
  have hown := X.2.2.2.1
  have hts := X.2.2.2.2.1
  intro u0 h H locs cells slots ls hf hI hl
  unfold f_X8_share_102 at hf
  cases gRet_e hf
  exact g_retI X hI rfl dX8_share_102
def f_X8_share_82 : gM Int32 :=
    f_X8_share_102 (0 : Int32)
set_option maxHeartbeats 4000000 in
set_option maxRecDepth 100000 in
theorem b_X8_share_82 {G : gG} {l : Launch} {p : Program} {e : Env} {s : State} {m : MethodId} {args : Array Value} {below : List Frame} {meth : Method} {c : Code} {h0 : g_H} {r : Int32} {h' : g_H} (X : gX G l yX8_share.cls cX8_share 5 (some .int) [] yX8_share.name p s m args meth c) : w_X8_share_82 G l p e s m args below meth c h0 r h' (f_X8_share_82) := by
  have hx := X.1
  have hb := X.2.1
  have hown := X.2.2.2.1
  have hts := X.2.2.2.2.1
  intro h H locs cells slots ls hf hI hl
  unfold f_X8_share_82 at hf
  refine lv_iconst (v := (0 : Int32)) hx hb dX8_share_82 (by decide) ?_
  refine lv_goto (tgt := 102) hx hb dX8_share_83 (by decide) ?_
  exact b_X8_share_102 X _ _ _ _ _ _ _ hf hI (lv_sub hl [] rfl)
def f_X8_share_70 (a0 : Nat) (x1 : Int32) (x3 : Int32) : gM Int32 :=
    gIf (x3 = 0)
    (f_X8_share_82)
    (gB (gCk a0 7) fun _ =>
    gB (f_X8_isNailed a0 x1) fun r101 =>
    gIf (r101 = 0)
    (f_X8_share_82)
    (gB (gFR a0 7 26) fun v102 =>
    gB (gCk a0 7) fun _ =>
    gB (f_X8_ofProp a0 x1 (3 : Int32)) fun r103 =>
    gB (gAI v102 0 r103) fun v104 =>
    gB (gGd (¬ x3 = 0)) fun _ =>
    f_X8_share_102 (((100 : Int32) * v104) / x3)))
set_option maxHeartbeats 4000000 in
set_option maxRecDepth 100000 in
theorem b_X8_share_70 {G : gG} {l : Launch} {p : Program} {e : Env} {s : State} {m : MethodId} {args : Array Value} {below : List Frame} {meth : Method} {c : Code} {h0 : g_H} {r : Int32} {h' : g_H} (X : gX G l yX8_share.cls cX8_share 5 (some .int) [] yX8_share.name p s m args meth c) : w_X8_share_70 G l p e s m args below meth c h0 r h' (f_X8_share_70) := by
  have hx := X.1
  have hb := X.2.1
  have hown := X.2.2.2.1
  have hts := X.2.2.2.2.1
  intro a0 x1 x3 h H locs cells slots ls hf hI hl
  unfold f_X8_share_70 at hf
  refine lv_iload_n hx hb dX8_share_70 rfl (lv_at hl 2 rfl) ?_
  refine lv_if_eq (tgt := 82) hx hb dX8_share_71 (by decide) (fun c71 => ?_) (fun c71 => ?_)
  · have hf := g_t c71 hf
    exact b_X8_share_82 X _ _ _ _ _ _ hf hI (lv_sub hl [] rfl)
  · have hf := g_f c71 hf
    refine lv_aload_n hx hb dX8_share_74 rfl (lv_at hl 0 rfl) ?_
    refine lv_iload_n hx hb dX8_share_75 rfl (lv_at hl 1 rfl) ?_
    obtain ⟨hs, hf⟩ := gCk_b hf
    refine g_cBI hI hf (fun v9 h9 e9 l9 l9' => g_rV X hI l9 l9' ⟨Nat.le_refl _, Nat.le_refl _⟩ (As := [.int x1]) (m_X8_isNailed X.2.2.2.2.2.2.2.2.2.2.1 e9) ydX8_isNailed hs rfl rfl q1850 q1852 qs92 q131 q1853 rfl (Nat.le_of_ble_eq_true rfl) (Nat.le_of_ble_eq_true rfl) hl.1 rfl (Nat.le_of_ble_eq_true rfl) dX8_share_76) (fun r101 h H locs cells slots hf hI => ?_)
    refine lv_if_ne (tgt := 86) hx hb dX8_share_79 (by decide) (fun c79 => ?_) (fun c79 => ?_)
    · have hf := g_f c79 hf
      refine lv_bipush (v := (100 : Int32)) hx hb dX8_share_86 (by decide) ?_
      refine lv_aload_n hx hb dX8_share_88 rfl (lv_at hl 0 rfl) ?_
      refine g_fr X hI hf fX8_26 q1470 rfl rfl dX8_share_89 (fun v102 hf => ?_)
      refine lv_aload_n hx hb dX8_share_92 rfl (lv_at hl 0 rfl) ?_
      refine lv_iload_n hx hb dX8_share_93 rfl (lv_at hl 1 rfl) ?_
      refine lv_iconst (v := (3 : Int32)) hx hb dX8_share_94 (by decide) ?_
      obtain ⟨hs, hf⟩ := gCk_b hf
      refine g_cBI hI hf (fun v9 h9 e9 l9 l9' => g_rV X hI l9 l9' ⟨Nat.le_refl _, Nat.le_refl _⟩ (As := [.int x1, .int (3 : Int32)]) (m_X8_ofProp X.2.2.2.2.2.2.2.2.2.2.1 e9) ydX8_ofProp hs rfl rfl q1659 q1661 qs59 q131 q1662 rfl (Nat.le_of_ble_eq_true rfl) (Nat.le_of_ble_eq_true rfl) hl.1 rfl (Nat.le_of_ble_eq_true rfl) dX8_share_95) (fun r103 h H locs cells slots hf hI => ?_)
      refine g_ai0 X hI hf dX8_share_98 (fun v104 hf => ?_)
      refine lv_imul hx hb dX8_share_99 ?_
      refine lv_iload_n hx hb dX8_share_100 rfl (lv_at hl 2 rfl) ?_
      obtain ⟨hz101, hf⟩ := gB_gd hf
      refine lv_idiv hx hb dX8_share_101 hz101 ?_
      exact b_X8_share_102 X _ _ _ _ _ _ _ hf hI (lv_sub hl [] rfl)
    · have hf := g_t c79 hf
      exact b_X8_share_82 X _ _ _ _ _ _ hf hI (lv_sub hl [] rfl)
def f_X8_share_47 : Nat → Nat → Int32 → Int32 → Int32 → gM Int32
  | 0, _, _, _, _ => gFail
  | n + 1, a0, x1, x3, x4 =>
    gIf ((10 : Int32) ≤ x4)
    (f_X8_share_70 a0 x1 x3)
    (gB (gFR a0 7 26) fun v101 =>
    gB (gAI v101 0 x4) fun v102 =>
    f_X8_share_47 n a0 x1 (x3 + v102) (x4 + (1 : Int32)))
set_option maxHeartbeats 4000000 in
set_option maxRecDepth 100000 in
theorem b_X8_share_47 {G : gG} {l : Launch} {p : Program} {e : Env} {s : State} {m : MethodId} {args : Array Value} {below : List Frame} {meth : Method} {c : Code} {h0 : g_H} {r : Int32} {h' : g_H} (X : gX G l yX8_share.cls cX8_share 5 (some .int) [] yX8_share.name p s m args meth c) : ∀ n : Nat, w_X8_share_47 G l p e s m args below meth c h0 r h' (f_X8_share_47 n) := by
  have hx := X.1
  have hb := X.2.1
  have hown := X.2.2.2.1
  have hts := X.2.2.2.2.1
  intro n
  induction n with
  | zero =>
    intro a0 x1 x3 x4 h H locs cells slots ls hf hI hl
    exact (gFail_f hf).elim
  | succ n ih =>
    intro a0 x1 x3 x4 h H locs cells slots ls hf hI hl
    rw [f_X8_share_47] at hf
    refine lv_iload hx hb dX8_share_47 (lv_at hl 3 rfl) ?_
    refine lv_bipush (v := (10 : Int32)) hx hb dX8_share_49 (by decide) ?_
    refine lv_icmp_ge (tgt := 70) hx hb dX8_share_51 (by decide) (fun c51 => ?_) (fun c51 => ?_)
    · have hf := g_t c51 hf
      exact b_X8_share_70 X _ _ _ _ _ _ _ _ _ hf hI (lv_sub hl [0, 1, 2] rfl)
    · have hf := g_f c51 hf
      refine lv_iload_n hx hb dX8_share_54 rfl (lv_at hl 2 rfl) ?_
      refine lv_aload_n hx hb dX8_share_55 rfl (lv_at hl 0 rfl) ?_
      refine g_fr X hI hf fX8_26 q1470 rfl rfl dX8_share_56 (fun v101 hf => ?_)
      refine lv_iload hx hb dX8_share_59 (lv_at hl 3 rfl) ?_
      refine g_ai0 X hI hf dX8_share_61 (fun v102 hf => ?_)
      refine lv_iadd hx hb dX8_share_62 ?_
      refine lv_istore_n (lv' := [(3, .int (x3 + v102)), (0, .ref a0), (1, .int x1), (4, .int x4)]) hx hb dX8_share_63 rfl hl (by decide) rfl (fun ls hl => ?_)
      refine lv_iinc (v := (x4 + (1 : Int32))) (lv' := [(4, .int (x4 + (1 : Int32))), (3, .int (x3 + v102)), (0, .ref a0), (1, .int x1)]) hx hb dX8_share_64 hl (k := 3) rfl rfl (by decide) rfl (fun ls hl => ?_)
      refine lv_goto (tgt := 47) hx hb dX8_share_67 (by decide) ?_
      exact ih _ _ _ _ _ _ _ _ _ _ hf hI (lv_sub hl [2, 3, 1, 0] rfl)
def f_X8_share_27 (a0 : Nat) (x1 : Int32) (x2 : Int32) (b0 : Nat) (u1 : Int32) : gM Int32 :=
    gB (gCk b0 7) fun _ =>
    gB (f_X8_throwsIf b0 u1 (1 : Int32)) fun r101 =>
    gIf (r101 = 0)
    (gB (gCk a0 7) fun _ =>
    gB (f_X8_ridesStraight a0 x2) fun r102 =>
    f_X8_share_47 gN a0 x1 (0 : Int32) (0 : Int32))
    ((gRet (0 : Int32)))
set_option maxHeartbeats 4000000 in
set_option maxRecDepth 100000 in
theorem b_X8_share_27 {G : gG} {l : Launch} {p : Program} {e : Env} {s : State} {m : MethodId} {args : Array Value} {below : List Frame} {meth : Method} {c : Code} {h0 : g_H} {r : Int32} {h' : g_H} (X : gX G l yX8_share.cls cX8_share 5 (some .int) [] yX8_share.name p s m args meth c) : w_X8_share_27 G l p e s m args below meth c h0 r h' (f_X8_share_27) := by
  have hx := X.1
  have hb := X.2.1
  have hown := X.2.2.2.1
  have hts := X.2.2.2.2.1
  intro a0 x1 x2 b0 u1 h H locs cells slots ls hf hI hl
  unfold f_X8_share_27 at hf
  refine lv_iconst (v := (1 : Int32)) hx hb dX8_share_27 (by decide) ?_
  obtain ⟨hs, hf⟩ := gCk_b hf
  refine g_cBI hI hf (fun v9 h9 e9 l9 l9' => g_rV X hI l9 l9' ⟨Nat.le_refl _, Nat.le_refl _⟩ (As := [.int u1, .int (1 : Int32)]) (m_X8_throwsIf X.2.2.2.2.2.2.2.2.2.2.1 e9) ydX8_throwsIf hs rfl rfl q1736 q1738 qs72 q131 q1739 rfl (Nat.le_of_ble_eq_true rfl) (Nat.le_of_ble_eq_true rfl) hl.1 rfl (Nat.le_of_ble_eq_true rfl) dX8_share_28) (fun r101 h H locs cells slots hf hI => ?_)
  refine lv_if_eq (tgt := 36) hx hb dX8_share_31 (by decide) (fun c31 => ?_) (fun c31 => ?_)
  · have hf := g_t c31 hf
    refine lv_aload_n hx hb dX8_share_36 rfl (lv_at hl 0 rfl) ?_
    refine lv_iload_n hx hb dX8_share_37 rfl (lv_at hl 2 rfl) ?_
    obtain ⟨hs, hf⟩ := gCk_b hf
    refine g_cBI hI hf (fun v9 h9 e9 l9 l9' => g_rV X hI l9 l9' ⟨Nat.le_refl _, Nat.le_refl _⟩ (As := [.int x2]) (m_X8_ridesStraight X.2.2.2.2.2.2.2.2.2.2.1 e9) ydX8_ridesStraight hs rfl rfl q1886 q1888 qs94 q131 q1889 rfl (Nat.le_of_ble_eq_true rfl) (Nat.le_of_ble_eq_true rfl) hl.1 rfl (Nat.le_of_ble_eq_true rfl) dX8_share_38) (fun r102 h H locs cells slots hf hI => ?_)
    refine lv_pop hx hb dX8_share_41 rfl ?_
    refine lv_iconst (v := (0 : Int32)) hx hb dX8_share_42 (by decide) ?_
    refine lv_istore_n (lv' := [(3, .int (0 : Int32)), (0, .ref a0), (1, .int x1), (2, .int x2)]) hx hb dX8_share_43 rfl hl (by decide) rfl (fun ls hl => ?_)
    refine lv_iconst (v := (0 : Int32)) hx hb dX8_share_44 (by decide) ?_
    refine lv_istore (lv' := [(4, .int (0 : Int32)), (3, .int (0 : Int32)), (0, .ref a0), (1, .int x1), (2, .int x2)]) hx hb dX8_share_45 hl (by decide) rfl (fun ls hl => ?_)
    exact b_X8_share_47 X gN _ _ _ _ _ _ _ _ _ _ hf hI (lv_sub hl [2, 3, 1, 0] rfl)
  · have hf := g_f c31 hf
    refine lv_iconst (v := (0 : Int32)) hx hb dX8_share_34 (by decide) ?_
    cases gRet_e hf
    exact g_retI X hI rfl dX8_share_35
def f_X8_share_22 (a0 : Nat) (x1 : Int32) (x2 : Int32) (b0 : Nat) : gM Int32 :=
    f_X8_share_27 a0 x1 x2 b0 (1 : Int32)
set_option maxHeartbeats 4000000 in
set_option maxRecDepth 100000 in
theorem b_X8_share_22 {G : gG} {l : Launch} {p : Program} {e : Env} {s : State} {m : MethodId} {args : Array Value} {below : List Frame} {meth : Method} {c : Code} {h0 : g_H} {r : Int32} {h' : g_H} (X : gX G l yX8_share.cls cX8_share 5 (some .int) [] yX8_share.name p s m args meth c) : w_X8_share_22 G l p e s m args below meth c h0 r h' (f_X8_share_22) := by
  have hx := X.1
  have hb := X.2.1
  have hown := X.2.2.2.1
  have hts := X.2.2.2.2.1
  intro a0 x1 x2 b0 h H locs cells slots ls hf hI hl
  unfold f_X8_share_22 at hf
  refine lv_iconst (v := (1 : Int32)) hx hb dX8_share_22 (by decide) ?_
  refine lv_goto (tgt := 27) hx hb dX8_share_23 (by decide) ?_
  exact b_X8_share_27 X _ _ _ _ _ _ _ _ _ _ _ hf hI (lv_sub hl [0, 1, 2] rfl)
def f_X8_share (a0 : Nat) (x1 : Int32) (x2 : Int32) : gM Int32 :=
    gB (gPI a0 7 0 (0 : Int32)) fun _ =>
    gB (gCk a0 7) fun _ =>
    gB (f_X8_noProp a0 x1) fun r1 =>
    gIf (r1 = 0)
    (gB (gCk a0 7) fun _ =>
    gB (f_X8_noOne a0 x2) fun r2 =>
    gIf (r2 = 0)
    (f_X8_share_27 a0 x1 x2 a0 (0 : Int32))
    (f_X8_share_22 a0 x1 x2 a0))
    (f_X8_share_22 a0 x1 x2 a0)
set_option maxHeartbeats 4000000 in
set_option maxRecDepth 100000 in
theorem m_X8_share {G : gG} {l : Launch} (hfl : l.stackTraces = false) {a0 : Nat} {x1 : Int32} {x2 : Int32} {h h' : g_H} {r : Int32} (hf : (f_X8_share a0 x1 x2).1 h = some (r, h')) : gMet G l yX8_share (Cond.code yX8_share cX8_share 5 (some .int)) 11 249 [.ref a0, .int x1, .int x2] h (.inl (g_wI r)) h' := by
  refine g_head hfl ((f_X8_share a0 x1 x2).2 h r h' hf) (plainFor_of_name (by decide)) (Nat.le_of_ble_eq_true rfl) (fun p e s m below meth c H locs cells slots ls X hI hl9 => ?_)
  have hl : lv_has ls 5 [(0, .ref a0), (1, .int x1), (2, .int x2)] := hl9
  have hx := X.1
  have hb := X.2.1
  have hown := X.2.2.2.1
  have hts := X.2.2.2.2.1
  unfold f_X8_share at hf
  refine lv_aload_n hx hb dX8_share_0 rfl (lv_at hl 0 rfl) ?_
  refine lv_iconst (v := (0 : Int32)) hx hb dX8_share_1 (by decide) ?_
  refine g_pi X hI hf fX8_0 q1444 rfl dX8_share_2 (fun h H locs hf hI => ?_)
  refine lv_aload_n hx hb dX8_share_5 rfl (lv_at hl 0 rfl) ?_
  refine lv_aload_n hx hb dX8_share_6 rfl (lv_at hl 0 rfl) ?_
  refine lv_iload_n hx hb dX8_share_7 rfl (lv_at hl 1 rfl) ?_
  obtain ⟨hs, hf⟩ := gCk_b hf
  refine g_cBI hI hf (fun v9 h9 e9 l9 l9' => g_rV X hI l9 l9' ⟨Nat.le_refl _, Nat.le_refl _⟩ (As := [.int x1]) (m_X8_noProp X.2.2.2.2.2.2.2.2.2.2.1 e9) ydX8_noProp hs rfl rfl q1748 q1750 qs73 q131 q1751 rfl (Nat.le_of_ble_eq_true rfl) (Nat.le_of_ble_eq_true rfl) hl.1 rfl (Nat.le_of_ble_eq_true rfl) dX8_share_8) (fun r1 h H locs cells slots hf hI => ?_)
  refine lv_if_ne (tgt := 22) hx hb dX8_share_11 (by decide) (fun c11 => ?_) (fun c11 => ?_)
  · have hf := g_f c11 hf
    exact b_X8_share_22 X _ _ _ _ _ _ _ _ _ _ hf hI (lv_sub hl [0, 1, 2] rfl)
  · have hf := g_t c11 hf
    refine lv_aload_n hx hb dX8_share_14 rfl (lv_at hl 0 rfl) ?_
    refine lv_iload_n hx hb dX8_share_15 rfl (lv_at hl 2 rfl) ?_
    obtain ⟨hs, hf⟩ := gCk_b hf
    refine g_cBI hI hf (fun v9 h9 e9 l9 l9' => g_rV X hI l9 l9' ⟨Nat.le_refl _, Nat.le_refl _⟩ (As := [.int x2]) (m_X8_noOne X.2.2.2.2.2.2.2.2.2.2.1 e9) ydX8_noOne hs rfl rfl q1763 q1765 qs74 q131 q1766 rfl (Nat.le_of_ble_eq_true rfl) (Nat.le_of_ble_eq_true rfl) hl.1 rfl (Nat.le_of_ble_eq_true rfl) dX8_share_16) (fun r2 h H locs cells slots hf hI => ?_)
    refine lv_if_eq (tgt := 26) hx hb dX8_share_19 (by decide) (fun c19 => ?_) (fun c19 => ?_)
    · have hf := g_t c19 hf
      refine lv_iconst (v := (0 : Int32)) hx hb dX8_share_26 (by decide) ?_
      exact b_X8_share_27 X _ _ _ _ _ _ _ _ _ _ _ hf hI (lv_sub hl [0, 1, 2] rfl)
    · have hf := g_f c19 hf
      exact b_X8_share_22 X _ _ _ _ _ _ _ _ _ _ hf hI (lv_sub hl [0, 1, 2] rfl)
/-! X1_screamsNow -/
abbrev w_X1_screamsNow_65 (G : gG) (l : Launch) (p : Program) (e : Env) (s : State) (m : MethodId) (args : Array Value) (below : List Frame) (meth : Method) (c : Code) (h0 : g_H) (r : Int32) (h' : g_H) (k : Nat → Int32 → Int32 → gM Int32) : Prop := ∀ (a0 : Nat) (x1 : Int32) (x2 : Int32) (h : g_H) (H : Heap) (locs : List Loc) (cells slots : Nat) (ls : Array Slot), (k a0 x1 x2).1 h = some (r, h') → gI G h0 h H locs cells slots → lv_has ls 3 [(0, .ref a0), (1, .int x1), (2, .int x2)] → W p l e (g_rm 102 1892 h0 h') s m args below meth c H locs cells slots (gQ G below args s h0 h' (.inl (g_wI r))) (F0 m 65 ls [])
abbrev w_X1_screamsNow_63 (G : gG) (l : Launch) (p : Program) (e : Env) (s : State) (m : MethodId) (args : Array Value) (below : List Frame) (meth : Method) (c : Code) (h0 : g_H) (r : Int32) (h' : g_H) (k : Nat → Int32 → Int32 → Int32 → gM Int32) : Prop := ∀ (a0 : Nat) (x2 : Int32) (u0 : Int32) (u1 : Int32) (h : g_H) (H : Heap) (locs : List Loc) (cells slots : Nat) (ls : Array Slot), (k a0 x2 u0 u1).1 h = some (r, h') → gI G h0 h H locs cells slots → lv_has ls 3 [(0, .ref a0), (2, .int x2)] → W p l e (g_rm 102 1892 h0 h') s m args below meth c H locs cells slots (gQ G below args s h0 h' (.inl (g_wI r))) (F0 m 63 ls [.int u1, .int u0])
abbrev w_X1_screamsNow_71 (G : gG) (l : Launch) (p : Program) (e : Env) (s : State) (m : MethodId) (args : Array Value) (below : List Frame) (meth : Method) (c : Code) (h0 : g_H) (r : Int32) (h' : g_H) (k : Int32 → gM Int32) : Prop := ∀ (x1 : Int32) (h : g_H) (H : Heap) (locs : List Loc) (cells slots : Nat) (ls : Array Slot), (k x1).1 h = some (r, h') → gI G h0 h H locs cells slots → lv_has ls 3 [(1, .int x1)] → W p l e (g_rm 102 1892 h0 h') s m args below meth c H locs cells slots (gQ G below args s h0 h' (.inl (g_wI r))) (F0 m 71 ls [])
abbrev w_X1_screamsNow_4 (G : gG) (l : Launch) (p : Program) (e : Env) (s : State) (m : MethodId) (args : Array Value) (below : List Frame) (meth : Method) (c : Code) (h0 : g_H) (r : Int32) (h' : g_H) (k : Nat → Int32 → Int32 → gM Int32) : Prop := ∀ (a0 : Nat) (x1 : Int32) (x2 : Int32) (h : g_H) (H : Heap) (locs : List Loc) (cells slots : Nat) (ls : Array Slot), (k a0 x1 x2).1 h = some (r, h') → gI G h0 h H locs cells slots → lv_has ls 3 [(0, .ref a0), (1, .int x1), (2, .int x2)] → W p l e (g_rm 102 1892 h0 h') s m args below meth c H locs cells slots (gQ G below args s h0 h' (.inl (g_wI r))) (F0 m 4 ls [])
def f_X1_screamsNow_65 (k4 : Nat → Int32 → Int32 → gM Int32) (a0 : Nat) (x1 : Int32) (x2 : Int32) : gM Int32 :=
    k4 a0 x1 (x2 + (1 : Int32))
set_option maxHeartbeats 4000000 in
set_option maxRecDepth 100000 in
theorem b_X1_screamsNow_65 {G : gG} {l : Launch} {p : Program} {e : Env} {s : State} {m : MethodId} {args : Array Value} {below : List Frame} {meth : Method} {c : Code} {h0 : g_H} {r : Int32} {h' : g_H} (X : gX G l yX1_screamsNow.cls cX1_screamsNow 3 (some .int) [] yX1_screamsNow.name p s m args meth c) {k4 : Nat → Int32 → Int32 → gM Int32} (K4 : w_X1_screamsNow_4 G l p e s m args below meth c h0 r h' k4) : w_X1_screamsNow_65 G l p e s m args below meth c h0 r h' (f_X1_screamsNow_65 k4) := by
  have hx := X.1
  have hb := X.2.1
  have hown := X.2.2.2.1
  have hts := X.2.2.2.2.1
  intro a0 x1 x2 h H locs cells slots ls hf hI hl
  unfold f_X1_screamsNow_65 at hf
  refine lv_iinc (v := (x2 + (1 : Int32))) (lv' := [(2, .int (x2 + (1 : Int32))), (0, .ref a0), (1, .int x1)]) hx hb dX1_screamsNow_65 hl (k := 2) rfl rfl (by decide) rfl (fun ls hl => ?_)
  refine lv_goto (tgt := 4) hx hb dX1_screamsNow_68 (by decide) ?_
  exact K4 _ _ _ _ _ _ _ _ _ hf hI (lv_sub hl [1, 2, 0] rfl)
def f_X1_screamsNow_63 (k4 : Nat → Int32 → Int32 → gM Int32) (a0 : Nat) (x2 : Int32) (u0 : Int32) (u1 : Int32) : gM Int32 :=
    f_X1_screamsNow_65 k4 a0 (u0 ||| u1) x2
set_option maxHeartbeats 4000000 in
set_option maxRecDepth 100000 in
theorem b_X1_screamsNow_63 {G : gG} {l : Launch} {p : Program} {e : Env} {s : State} {m : MethodId} {args : Array Value} {below : List Frame} {meth : Method} {c : Code} {h0 : g_H} {r : Int32} {h' : g_H} (X : gX G l yX1_screamsNow.cls cX1_screamsNow 3 (some .int) [] yX1_screamsNow.name p s m args meth c) {k4 : Nat → Int32 → Int32 → gM Int32} (K4 : w_X1_screamsNow_4 G l p e s m args below meth c h0 r h' k4) : w_X1_screamsNow_63 G l p e s m args below meth c h0 r h' (f_X1_screamsNow_63 k4) := by
  have hx := X.1
  have hb := X.2.1
  have hown := X.2.2.2.1
  have hts := X.2.2.2.2.1
  intro a0 x2 u0 u1 h H locs cells slots ls hf hI hl
  unfold f_X1_screamsNow_63 at hf
  refine lv_ior hx hb dX1_screamsNow_63 ?_
  refine lv_istore_n (lv' := [(1, .int (u0 ||| u1)), (0, .ref a0), (2, .int x2)]) hx hb dX1_screamsNow_64 rfl hl (by decide) rfl (fun ls hl => ?_)
  exact b_X1_screamsNow_65 X K4 _ _ _ _ _ _ _ _ _ hf hI (lv_sub hl [1, 0, 2] rfl)
def f_X1_screamsNow_71 (x1 : Int32) : gM Int32 :=
    (gRet x1)
set_option maxHeartbeats 4000000 in
set_option maxRecDepth 100000 in
theorem b_X1_screamsNow_71 {G : gG} {l : Launch} {p : Program} {e : Env} {s : State} {m : MethodId} {args : Array Value} {below : List Frame} {meth : Method} {c : Code} {h0 : g_H} {r : Int32} {h' : g_H} (X : gX G l yX1_screamsNow.cls cX1_screamsNow 3 (some .int) [] yX1_screamsNow.name p s m args meth c) : w_X1_screamsNow_71 G l p e s m args below meth c h0 r h' (f_X1_screamsNow_71) := by
  have hx := X.1
  have hb := X.2.1
  have hown := X.2.2.2.1
  have hts := X.2.2.2.2.1
  intro x1 h H locs cells slots ls hf hI hl
  unfold f_X1_screamsNow_71 at hf
  refine lv_iload_n hx hb dX1_screamsNow_71 rfl (lv_at hl 0 rfl) ?_
  cases gRet_e hf
  exact g_retI X hI rfl dX1_screamsNow_72
def f_X1_screamsNow_4 : Nat → Nat → Int32 → Int32 → gM Int32
  | 0, _, _, _ => gFail
  | n + 1, a0, x1, x2 =>
    gB (gFR a0 0 1) fun v101 =>
    gB (gFI v101 2 7) fun v102 =>
    gIf (v102 ≤ x2)
    (f_X1_screamsNow_71 x1)
    (gB (gFR a0 0 1) fun v103 =>
    gB (gFR v103 2 1) fun v104 =>
    gB (gAR v104 5 x2) fun v105 =>
    gB (gFI v105 4 3) fun v106 =>
    gIf (v106 = 0)
    (gB (gFR a0 0 1) fun v107 =>
    gB (gFR v107 2 1) fun v108 =>
    gB (gAR v108 5 x2) fun v109 =>
    gB (gCk a0 0) fun _ =>
    gB (f_X1_rides a0 v109 (0 : Int32)) fun _ =>
    gB (gFI a0 0 14) fun v111 =>
    gIf (v111 = (-1 : Int32))
    (f_X1_screamsNow_63 (f_X1_screamsNow_4 n) a0 x2 x1 (0 : Int32))
    (f_X1_screamsNow_63 (f_X1_screamsNow_4 n) a0 x2 x1 ((1 : Int32) <<< (x2 &&& 31))))
    (f_X1_screamsNow_65 (f_X1_screamsNow_4 n) a0 x1 x2))
set_option maxHeartbeats 4000000 in
set_option maxRecDepth 100000 in
theorem b_X1_screamsNow_4 {G : gG} {l : Launch} {p : Program} {e : Env} {s : State} {m : MethodId} {args : Array Value} {below : List Frame} {meth : Method} {c : Code} {h0 : g_H} {r : Int32} {h' : g_H} (X : gX G l yX1_screamsNow.cls cX1_screamsNow 3 (some .int) [] yX1_screamsNow.name p s m args meth c) : ∀ n : Nat, w_X1_screamsNow_4 G l p e s m args below meth c h0 r h' (f_X1_screamsNow_4 n) := by
  have hx := X.1
  have hb := X.2.1
  have hown := X.2.2.2.1
  have hts := X.2.2.2.2.1
  intro n
  induction n with
  | zero =>
    intro a0 x1 x2 h H locs cells slots ls hf hI hl
    exact (gFail_f hf).elim
  | succ n ih =>
    intro a0 x1 x2 h H locs cells slots ls hf hI hl
    rw [f_X1_screamsNow_4] at hf
    refine lv_iload_n hx hb dX1_screamsNow_4 rfl (lv_at hl 2 rfl) ?_
    refine lv_aload_n hx hb dX1_screamsNow_5 rfl (lv_at hl 0 rfl) ?_
    refine g_fr X hI hf fX1_1 q461 rfl rfl dX1_screamsNow_6 (fun v101 hf => ?_)
    refine g_fiN X hI hf fX3_7 q271 rfl rfl dX1_screamsNow_9 (fun v102 hf => ?_)
    refine lv_icmp_ge (tgt := 71) hx hb dX1_screamsNow_12 (by decide) (fun c12 => ?_) (fun c12 => ?_)
    · have hf := g_t c12 hf
      exact b_X1_screamsNow_71 X _ _ _ _ _ _ _ hf hI (lv_sub hl [1] rfl)
    · have hf := g_f c12 hf
      refine lv_aload_n hx hb dX1_screamsNow_15 rfl (lv_at hl 0 rfl) ?_
      refine g_fr X hI hf fX1_1 q461 rfl rfl dX1_screamsNow_16 (fun v103 hf => ?_)
      refine g_frN X hI hf fX3_1 q257 rfl rfl dX1_screamsNow_19 (fun v104 hf => ?_)
      refine lv_iload_n hx hb dX1_screamsNow_22 rfl (lv_at hl 2 rfl) ?_
      refine g_ar5 X hI hf dX1_screamsNow_23 (fun v105 hf => ?_)
      refine g_fiN X hI hf fX5_3 q243 rfl rfl dX1_screamsNow_24 (fun v106 hf => ?_)
      refine lv_if_eq (tgt := 33) hx hb dX1_screamsNow_27 (by decide) (fun c27 => ?_) (fun c27 => ?_)
      · have hf := g_t c27 hf
        refine lv_aload_n hx hb dX1_screamsNow_33 rfl (lv_at hl 0 rfl) ?_
        refine lv_aload_n hx hb dX1_screamsNow_34 rfl (lv_at hl 0 rfl) ?_
        refine g_fr X hI hf fX1_1 q461 rfl rfl dX1_screamsNow_35 (fun v107 hf => ?_)
        refine g_frN X hI hf fX3_1 q257 rfl rfl dX1_screamsNow_38 (fun v108 hf => ?_)
        refine lv_iload_n hx hb dX1_screamsNow_41 rfl (lv_at hl 2 rfl) ?_
        refine g_ar5 X hI hf dX1_screamsNow_42 (fun v109 hf => ?_)
        refine lv_iconst (v := (0 : Int32)) hx hb dX1_screamsNow_43 (by decide) ?_
        obtain ⟨hs, hf⟩ := gCk_b hf
        refine g_cBU hI hf (fun v9 h9 e9 l9 l9' => g_rV X hI l9 l9' ⟨Nat.le_refl _, Nat.le_refl _⟩ (As := [.ref v109, .int (0 : Int32)]) (m_X1_rides X.2.2.2.2.2.2.2.2.2.2.1 e9) ydX1_rides hs rfl rfl q693 q695 qs9 q121 q696 rfl (Nat.le_of_ble_eq_true rfl) (Nat.le_of_ble_eq_true rfl) hl.1 rfl (Nat.le_of_ble_eq_true rfl) dX1_screamsNow_44) (fun r110 h H locs cells slots hf hI => ?_)
        refine lv_iload_n hx hb dX1_screamsNow_47 rfl (lv_at hl 1 rfl) ?_
        refine lv_aload_n hx hb dX1_screamsNow_48 rfl (lv_at hl 0 rfl) ?_
        refine g_fi X hI hf fX1_14 q475 rfl rfl dX1_screamsNow_49 (fun v111 hf => ?_)
        refine lv_iconst (v := (-1 : Int32)) hx hb dX1_screamsNow_52 (by decide) ?_
        refine lv_icmp_eq (tgt := 62) hx hb dX1_screamsNow_53 (by decide) (fun c53 => ?_) (fun c53 => ?_)
        · have hf := g_t c53 hf
          refine lv_iconst (v := (0 : Int32)) hx hb dX1_screamsNow_62 (by decide) ?_
          exact b_X1_screamsNow_63 X ih _ _ _ _ _ _ _ _ _ _ hf hI (lv_sub hl [0, 2] rfl)
        · have hf := g_f c53 hf
          refine lv_iconst (v := (1 : Int32)) hx hb dX1_screamsNow_56 (by decide) ?_
          refine lv_iload_n hx hb dX1_screamsNow_57 rfl (lv_at hl 2 rfl) ?_
          refine lv_ishl hx hb dX1_screamsNow_58 ?_
          refine lv_goto (tgt := 63) hx hb dX1_screamsNow_59 (by decide) ?_
          exact b_X1_screamsNow_63 X ih _ _ _ _ _ _ _ _ _ _ hf hI (lv_sub hl [0, 2] rfl)
      · have hf := g_f c27 hf
        refine lv_goto (tgt := 65) hx hb dX1_screamsNow_30 (by decide) ?_
        exact b_X1_screamsNow_65 X ih _ _ _ _ _ _ _ _ _ hf hI (lv_sub hl [0, 1, 2] rfl)
def f_X1_screamsNow (a0 : Nat) : gM Int32 :=
    f_X1_screamsNow_4 gN a0 (0 : Int32) (0 : Int32)
set_option maxHeartbeats 4000000 in
set_option maxRecDepth 100000 in
theorem m_X1_screamsNow {G : gG} {l : Launch} (hfl : l.stackTraces = false) {a0 : Nat} {h h' : g_H} {r : Int32} (hf : (f_X1_screamsNow a0).1 h = some (r, h')) : gMet G l yX1_screamsNow (Cond.code yX1_screamsNow cX1_screamsNow 3 (some .int)) 102 1892 [.ref a0] h (.inl (g_wI r)) h' := by
  refine g_head hfl ((f_X1_screamsNow a0).2 h r h' hf) (plainFor_of_name (by decide)) (Nat.le_of_ble_eq_true rfl) (fun p e s m below meth c H locs cells slots ls X hI hl9 => ?_)
  have hl : lv_has ls 3 [(0, .ref a0)] := hl9
  have hx := X.1
  have hb := X.2.1
  have hown := X.2.2.2.1
  have hts := X.2.2.2.2.1
  unfold f_X1_screamsNow at hf
  refine lv_iconst (v := (0 : Int32)) hx hb dX1_screamsNow_0 (by decide) ?_
  refine lv_istore_n (lv' := [(1, .int (0 : Int32)), (0, .ref a0)]) hx hb dX1_screamsNow_1 rfl hl (by decide) rfl (fun ls hl => ?_)
  refine lv_iconst (v := (0 : Int32)) hx hb dX1_screamsNow_2 (by decide) ?_
  refine lv_istore_n (lv' := [(2, .int (0 : Int32)), (1, .int (0 : Int32)), (0, .ref a0)]) hx hb dX1_screamsNow_3 rfl hl (by decide) rfl (fun ls hl => ?_)
  exact b_X1_screamsNow_4 X gN _ _ _ _ _ _ _ _ _ hf hI (lv_sub hl [2, 1, 0] rfl)
/-! X1_wearsOut -/
abbrev w_X1_wearsOut_61 (G : gG) (l : Launch) (p : Program) (e : Env) (s : State) (m : MethodId) (args : Array Value) (below : List Frame) (meth : Method) (c : Code) (h0 : g_H) (r : Unit) (h' : g_H) (k : Nat → Int32 → gM Unit) : Prop := ∀ (a0 : Nat) (x1 : Int32) (h : g_H) (H : Heap) (locs : List Loc) (cells slots : Nat) (ls : Array Slot), (k a0 x1).1 h = some (r, h') → gI G h0 h H locs cells slots → lv_has ls 2 [(0, .ref a0), (1, .int x1)] → W p l e (g_rm 2 41 h0 h') s m args below meth c H locs cells slots (gQ G below args s h0 h' (.inl (g_wU r))) (F0 m 61 ls [])
abbrev w_X1_wearsOut_2 (G : gG) (l : Launch) (p : Program) (e : Env) (s : State) (m : MethodId) (args : Array Value) (below : List Frame) (meth : Method) (c : Code) (h0 : g_H) (r : Unit) (h' : g_H) (k : Nat → Int32 → gM Unit) : Prop := ∀ (a0 : Nat) (x1 : Int32) (h : g_H) (H : Heap) (locs : List Loc) (cells slots : Nat) (ls : Array Slot), (k a0 x1).1 h = some (r, h') → gI G h0 h H locs cells slots → lv_has ls 2 [(0, .ref a0), (1, .int x1)] → W p l e (g_rm 2 41 h0 h') s m args below meth c H locs cells slots (gQ G below args s h0 h' (.inl (g_wU r))) (F0 m 2 ls [])
def f_X1_wearsOut_61 (k2 : Nat → Int32 → gM Unit) (a0 : Nat) (x1 : Int32) : gM Unit :=
    k2 a0 (x1 + (1 : Int32))
set_option maxHeartbeats 4000000 in
set_option maxRecDepth 100000 in
theorem b_X1_wearsOut_61 {G : gG} {l : Launch} {p : Program} {e : Env} {s : State} {m : MethodId} {args : Array Value} {below : List Frame} {meth : Method} {c : Code} {h0 : g_H} {r : Unit} {h' : g_H} (X : gX G l yX1_wearsOut.cls cX1_wearsOut 2 none [] yX1_wearsOut.name p s m args meth c) {k2 : Nat → Int32 → gM Unit} (K2 : w_X1_wearsOut_2 G l p e s m args below meth c h0 r h' k2) : w_X1_wearsOut_61 G l p e s m args below meth c h0 r h' (f_X1_wearsOut_61 k2) := by
  have hx := X.1
  have hb := X.2.1
  have hown := X.2.2.2.1
  have hts := X.2.2.2.2.1
  intro a0 x1 h H locs cells slots ls hf hI hl
  unfold f_X1_wearsOut_61 at hf
  refine lv_iinc (v := (x1 + (1 : Int32))) (lv' := [(1, .int (x1 + (1 : Int32))), (0, .ref a0)]) hx hb dX1_wearsOut_61 hl (k := 1) rfl rfl (by decide) rfl (fun ls hl => ?_)
  refine lv_goto (tgt := 2) hx hb dX1_wearsOut_64 (by decide) ?_
  exact K2 _ _ _ _ _ _ _ _ hf hI (lv_sub hl [1, 0] rfl)
def f_X1_wearsOut_2 : Nat → Nat → Int32 → gM Unit
  | 0, _, _ => gFail
  | n + 1, a0, x1 =>
    gB (gFR a0 0 1) fun v101 =>
    gB (gFI v101 2 6) fun v102 =>
    gIf (v102 ≤ x1)
    (gRet ())
    (gB (gFI a0 0 16) fun v103 =>
    gIf (((v103 >>> (x1 &&& 31)) &&& (1 : Int32)) = (1 : Int32))
    (gB (gFR a0 0 1) fun v104 =>
    gB (gFR v104 2 0) fun v105 =>
    gB (gAR v105 4 x1) fun v106 =>
    gB (gFR a0 0 1) fun v107 =>
    gB (gFR v107 2 0) fun v108 =>
    gB (gAR v108 4 x1) fun v109 =>
    gB (gFI v109 3 2) fun v110 =>
    gB (gFR a0 0 8) fun v111 =>
    gB (gAI v111 0 x1) fun v112 =>
    gB (f_J13_min (99 : Int32) (v110 + v112)) fun r113 =>
    gB (gPI v106 3 2 r113) fun _ =>
    f_X1_wearsOut_61 (f_X1_wearsOut_2 n) a0 x1)
    (f_X1_wearsOut_61 (f_X1_wearsOut_2 n) a0 x1))
set_option maxHeartbeats 4000000 in
set_option maxRecDepth 100000 in
theorem b_X1_wearsOut_2 {G : gG} {l : Launch} {p : Program} {e : Env} {s : State} {m : MethodId} {args : Array Value} {below : List Frame} {meth : Method} {c : Code} {h0 : g_H} {r : Unit} {h' : g_H} (X : gX G l yX1_wearsOut.cls cX1_wearsOut 2 none [] yX1_wearsOut.name p s m args meth c) : ∀ n : Nat, w_X1_wearsOut_2 G l p e s m args below meth c h0 r h' (f_X1_wearsOut_2 n) := by
  have hx := X.1
  have hb := X.2.1
  have hown := X.2.2.2.1
  have hts := X.2.2.2.2.1
  intro n
  induction n with
  | zero =>
    intro a0 x1 h H locs cells slots ls hf hI hl
    exact (gFail_f hf).elim
  | succ n ih =>
    intro a0 x1 h H locs cells slots ls hf hI hl
    rw [f_X1_wearsOut_2] at hf
    refine lv_iload_n hx hb dX1_wearsOut_2 rfl (lv_at hl 1 rfl) ?_
    refine lv_aload_n hx hb dX1_wearsOut_3 rfl (lv_at hl 0 rfl) ?_
    refine g_fr X hI hf fX1_1 q461 rfl rfl dX1_wearsOut_4 (fun v101 hf => ?_)
    refine g_fiN X hI hf fX3_6 q268 rfl rfl dX1_wearsOut_7 (fun v102 hf => ?_)
    refine lv_icmp_ge (tgt := 67) hx hb dX1_wearsOut_10 (by decide) (fun c10 => ?_) (fun c10 => ?_)
    · have hf := g_t c10 hf
      cases gRet_e hf
      exact g_retU X hI rfl dX1_wearsOut_67
    · have hf := g_f c10 hf
      refine lv_aload_n hx hb dX1_wearsOut_13 rfl (lv_at hl 0 rfl) ?_
      refine g_fi X hI hf fX1_16 q477 rfl rfl dX1_wearsOut_14 (fun v103 hf => ?_)
      refine lv_iload_n hx hb dX1_wearsOut_17 rfl (lv_at hl 1 rfl) ?_
      refine lv_ishr hx hb dX1_wearsOut_18 ?_
      refine lv_iconst (v := (1 : Int32)) hx hb dX1_wearsOut_19 (by decide) ?_
      refine lv_iand hx hb dX1_wearsOut_20 ?_
      refine lv_iconst (v := (1 : Int32)) hx hb dX1_wearsOut_21 (by decide) ?_
      refine lv_icmp_ne (tgt := 61) hx hb dX1_wearsOut_22 (by decide) (fun c22 => ?_) (fun c22 => ?_)
      · have hf := g_f c22 hf
        exact b_X1_wearsOut_61 X ih _ _ _ _ _ _ _ _ hf hI (lv_sub hl [0, 1] rfl)
      · have hf := g_t c22 hf
        refine lv_aload_n hx hb dX1_wearsOut_25 rfl (lv_at hl 0 rfl) ?_
        refine g_fr X hI hf fX1_1 q461 rfl rfl dX1_wearsOut_26 (fun v104 hf => ?_)
        refine g_frN X hI hf fX3_0 q254 rfl rfl dX1_wearsOut_29 (fun v105 hf => ?_)
        refine lv_iload_n hx hb dX1_wearsOut_32 rfl (lv_at hl 1 rfl) ?_
        refine g_ar4 X hI hf dX1_wearsOut_33 (fun v106 hf => ?_)
        refine lv_bipush (v := (99 : Int32)) hx hb dX1_wearsOut_34 (by decide) ?_
        refine lv_aload_n hx hb dX1_wearsOut_36 rfl (lv_at hl 0 rfl) ?_
        refine g_fr X hI hf fX1_1 q461 rfl rfl dX1_wearsOut_37 (fun v107 hf => ?_)
        refine g_frN X hI hf fX3_0 q254 rfl rfl dX1_wearsOut_40 (fun v108 hf => ?_)
        refine lv_iload_n hx hb dX1_wearsOut_43 rfl (lv_at hl 1 rfl) ?_
        refine g_ar4 X hI hf dX1_wearsOut_44 (fun v109 hf => ?_)
        refine g_fiN X hI hf fX4_2 q206 rfl rfl dX1_wearsOut_45 (fun v110 hf => ?_)
        refine lv_aload_n hx hb dX1_wearsOut_48 rfl (lv_at hl 0 rfl) ?_
        refine g_fr X hI hf fX1_8 q469 rfl rfl dX1_wearsOut_49 (fun v111 hf => ?_)
        refine lv_iload_n hx hb dX1_wearsOut_52 rfl (lv_at hl 1 rfl) ?_
        refine g_ai0 X hI hf dX1_wearsOut_53 (fun v112 hf => ?_)
        refine lv_iadd hx hb dX1_wearsOut_54 ?_
        refine g_cBI hI hf (fun v9 h9 e9 l9 l9' => g_rS (b := 0) X hI l9 l9' ⟨Nat.le_refl _, Nat.le_refl _⟩ (As := [.int (99 : Int32), .int (v110 + v112)]) (m_J13_min X.2.2.2.2.2.2.2.2.2.2.1 e9) ydJ13_min q739 q740 q151 q741 rfl (Nat.le_of_ble_eq_true rfl) (Nat.le_of_ble_eq_true rfl) hl.1 rfl (Nat.le_of_ble_eq_true rfl) dX1_wearsOut_55) (fun r113 h H locs cells slots hf hI => ?_)
        refine g_piN X hI hf fX4_2 q206 rfl dX1_wearsOut_58 (fun h H locs hf hI => ?_)
        exact b_X1_wearsOut_61 X ih _ _ _ _ _ _ _ _ hf hI (lv_sub hl [0, 1] rfl)
def f_X1_wearsOut (a0 : Nat) : gM Unit :=
    f_X1_wearsOut_2 gN a0 (0 : Int32)
set_option maxHeartbeats 4000000 in
set_option maxRecDepth 100000 in
theorem m_X1_wearsOut {G : gG} {l : Launch} (hfl : l.stackTraces = false) {a0 : Nat} {h h' : g_H} {r : Unit} (hf : (f_X1_wearsOut a0).1 h = some (r, h')) : gMet G l yX1_wearsOut (Cond.code yX1_wearsOut cX1_wearsOut 2 none) 2 41 [.ref a0] h (.inl (g_wU r)) h' := by
  refine g_head hfl ((f_X1_wearsOut a0).2 h r h' hf) (plainFor_of_name (by decide)) (Nat.le_of_ble_eq_true rfl) (fun p e s m below meth c H locs cells slots ls X hI hl9 => ?_)
  have hl : lv_has ls 2 [(0, .ref a0)] := hl9
  have hx := X.1
  have hb := X.2.1
  have hown := X.2.2.2.1
  have hts := X.2.2.2.2.1
  unfold f_X1_wearsOut at hf
  refine lv_iconst (v := (0 : Int32)) hx hb dX1_wearsOut_0 (by decide) ?_
  refine lv_istore_n (lv' := [(1, .int (0 : Int32)), (0, .ref a0)]) hx hb dX1_wearsOut_1 rfl hl (by decide) rfl (fun ls hl => ?_)
  exact b_X1_wearsOut_2 X gN _ _ _ _ _ _ _ _ hf hI (lv_sub hl [1, 0] rfl)
/-! X1_all -/
abbrev w_X1_all_89 (G : gG) (l : Launch) (p : Program) (e : Env) (s : State) (m : MethodId) (args : Array Value) (below : List Frame) (meth : Method) (c : Code) (h0 : g_H) (r : Int32) (h' : g_H) (k : Nat → Int32 → Int32 → gM Int32) : Prop := ∀ (a0 : Nat) (x2 : Int32) (x3 : Int32) (h : g_H) (H : Heap) (locs : List Loc) (cells slots : Nat) (ls : Array Slot), (k a0 x2 x3).1 h = some (r, h') → gI G h0 h H locs cells slots → lv_has ls 4 [(0, .ref a0), (2, .int x2), (3, .int x3)] → W p l e (g_rm 103 1914 h0 h') s m args below meth c H locs cells slots (gQ G below args s h0 h' (.inl (g_wI r))) (F0 m 89 ls [])
abbrev w_X1_all_87 (G : gG) (l : Launch) (p : Program) (e : Env) (s : State) (m : MethodId) (args : Array Value) (below : List Frame) (meth : Method) (c : Code) (h0 : g_H) (r : Int32) (h' : g_H) (k : Nat → Int32 → Int32 → Int32 → gM Int32) : Prop := ∀ (a0 : Nat) (x3 : Int32) (u0 : Int32) (u1 : Int32) (h : g_H) (H : Heap) (locs : List Loc) (cells slots : Nat) (ls : Array Slot), (k a0 x3 u0 u1).1 h = some (r, h') → gI G h0 h H locs cells slots → lv_has ls 4 [(0, .ref a0), (3, .int x3)] → W p l e (g_rm 103 1914 h0 h') s m args below meth c H locs cells slots (gQ G below args s h0 h' (.inl (g_wI r))) (F0 m 87 ls [.int u1, .int u0])
abbrev w_X1_all_95 (G : gG) (l : Launch) (p : Program) (e : Env) (s : State) (m : MethodId) (args : Array Value) (below : List Frame) (meth : Method) (c : Code) (h0 : g_H) (r : Int32) (h' : g_H) (k : Nat → Int32 → gM Int32) : Prop := ∀ (a0 : Nat) (x2 : Int32) (h : g_H) (H : Heap) (locs : List Loc) (cells slots : Nat) (ls : Array Slot), (k a0 x2).1 h = some (r, h') → gI G h0 h H locs cells slots → lv_has ls 4 [(0, .ref a0), (2, .int x2)] → W p l e (g_rm 103 1914 h0 h') s m args below meth c H locs cells slots (gQ G below args s h0 h' (.inl (g_wI r))) (F0 m 95 ls [])
abbrev w_X1_all_24 (G : gG) (l : Launch) (p : Program) (e : Env) (s : State) (m : MethodId) (args : Array Value) (below : List Frame) (meth : Method) (c : Code) (h0 : g_H) (r : Int32) (h' : g_H) (k : Nat → Int32 → Int32 → gM Int32) : Prop := ∀ (a0 : Nat) (x2 : Int32) (x3 : Int32) (h : g_H) (H : Heap) (locs : List Loc) (cells slots : Nat) (ls : Array Slot), (k a0 x2 x3).1 h = some (r, h') → gI G h0 h H locs cells slots → lv_has ls 4 [(0, .ref a0), (2, .int x2), (3, .int x3)] → W p l e (g_rm 103 1914 h0 h') s m args below meth c H locs cells slots (gQ G below args s h0 h' (.inl (g_wI r))) (F0 m 24 ls [])
def f_X1_all_89 (k24 : Nat → Int32 → Int32 → gM Int32) (a0 : Nat) (x2 : Int32) (x3 : Int32) : gM Int32 :=
    k24 a0 x2 (x3 + (1 : Int32))
set_option maxHeartbeats 4000000 in
set_option maxRecDepth 100000 in
theorem b_X1_all_89 {G : gG} {l : Launch} {p : Program} {e : Env} {s : State} {m : MethodId} {args : Array Value} {below : List Frame} {meth : Method} {c : Code} {h0 : g_H} {r : Int32} {h' : g_H} (X : gX G l yX1_all.cls cX1_all 4 (some .int) [] yX1_all.name p s m args meth c) {k24 : Nat → Int32 → Int32 → gM Int32} (K24 : w_X1_all_24 G l p e s m args below meth c h0 r h' k24) : w_X1_all_89 G l p e s m args below meth c h0 r h' (f_X1_all_89 k24) := by
  have hx := X.1
  have hb := X.2.1
  have hown := X.2.2.2.1
  have hts := X.2.2.2.2.1
  intro a0 x2 x3 h H locs cells slots ls hf hI hl
  unfold f_X1_all_89 at hf
  refine lv_iinc (v := (x3 + (1 : Int32))) (lv' := [(3, .int (x3 + (1 : Int32))), (0, .ref a0), (2, .int x2)]) hx hb dX1_all_89 hl (k := 2) rfl rfl (by decide) rfl (fun ls hl => ?_)
  refine lv_goto (tgt := 24) hx hb dX1_all_92 (by decide) ?_
  exact K24 _ _ _ _ _ _ _ _ _ hf hI (lv_sub hl [1, 2, 0] rfl)
def f_X1_all_87 (k24 : Nat → Int32 → Int32 → gM Int32) (a0 : Nat) (x3 : Int32) (u0 : Int32) (u1 : Int32) : gM Int32 :=
    f_X1_all_89 k24 a0 (u0 ||| u1) x3
set_option maxHeartbeats 4000000 in
set_option maxRecDepth 100000 in
theorem b_X1_all_87 {G : gG} {l : Launch} {p : Program} {e : Env} {s : State} {m : MethodId} {args : Array Value} {below : List Frame} {meth : Method} {c : Code} {h0 : g_H} {r : Int32} {h' : g_H} (X : gX G l yX1_all.cls cX1_all 4 (some .int) [] yX1_all.name p s m args meth c) {k24 : Nat → Int32 → Int32 → gM Int32} (K24 : w_X1_all_24 G l p e s m args below meth c h0 r h' k24) : w_X1_all_87 G l p e s m args below meth c h0 r h' (f_X1_all_87 k24) := by
  have hx := X.1
  have hb := X.2.1
  have hown := X.2.2.2.1
  have hts := X.2.2.2.2.1
  intro a0 x3 u0 u1 h H locs cells slots ls hf hI hl
  unfold f_X1_all_87 at hf
  refine lv_ior hx hb dX1_all_87 ?_
  refine lv_istore_n (lv' := [(2, .int (u0 ||| u1)), (0, .ref a0), (3, .int x3)]) hx hb dX1_all_88 rfl hl (by decide) rfl (fun ls hl => ?_)
  exact b_X1_all_89 X K24 _ _ _ _ _ _ _ _ _ hf hI (lv_sub hl [1, 0, 2] rfl)
def f_X1_all_95 (a0 : Nat) (x2 : Int32) : gM Int32 :=
    gB (gFR a0 0 1) fun v101 =>
    gB (gFR a0 0 3) fun v102 =>
    gB (gCk v101 2) fun _ =>
    gB (f_X3_be v101 v102) fun _ =>
    (gRet x2)
set_option maxHeartbeats 4000000 in
set_option maxRecDepth 100000 in
theorem b_X1_all_95 {G : gG} {l : Launch} {p : Program} {e : Env} {s : State} {m : MethodId} {args : Array Value} {below : List Frame} {meth : Method} {c : Code} {h0 : g_H} {r : Int32} {h' : g_H} (X : gX G l yX1_all.cls cX1_all 4 (some .int) [] yX1_all.name p s m args meth c) : w_X1_all_95 G l p e s m args below meth c h0 r h' (f_X1_all_95) := by
  have hx := X.1
  have hb := X.2.1
  have hown := X.2.2.2.1
  have hts := X.2.2.2.2.1
  intro a0 x2 h H locs cells slots ls hf hI hl
  unfold f_X1_all_95 at hf
  refine lv_aload_n hx hb dX1_all_95 rfl (lv_at hl 0 rfl) ?_
  refine g_fr X hI hf fX1_1 q461 rfl rfl dX1_all_96 (fun v101 hf => ?_)
  refine lv_aload_n hx hb dX1_all_99 rfl (lv_at hl 0 rfl) ?_
  refine g_fr X hI hf fX1_3 q464 rfl rfl dX1_all_100 (fun v102 hf => ?_)
  obtain ⟨hs, hf⟩ := gCk_b hf
  refine g_cBU hI hf (fun v9 h9 e9 l9 l9' => g_rV X hI l9 l9' ⟨Nat.le_refl _, Nat.le_refl _⟩ (As := [.ref v102]) (m_X3_be X.2.2.2.2.2.2.2.2.2.2.1 e9) ydX3_be hs rfl rfl q672 q673 q674 q123 q675 rfl (Nat.le_of_ble_eq_true rfl) (Nat.le_of_ble_eq_true rfl) hl.1 rfl (Nat.le_of_ble_eq_true rfl) dX1_all_103) (fun r103 h H locs cells slots hf hI => ?_)
  refine lv_iload_n hx hb dX1_all_106 rfl (lv_at hl 1 rfl) ?_
  cases gRet_e hf
  exact g_retI X hI rfl dX1_all_107
def f_X1_all_24 : Nat → Nat → Int32 → Int32 → gM Int32
  | 0, _, _, _ => gFail
  | n + 1, a0, x2, x3 =>
    gB (gFR a0 0 1) fun v101 =>
    gB (gFI v101 2 7) fun v102 =>
    gIf (v102 ≤ x3)
    (f_X1_all_95 a0 x2)
    (gB (gFR a0 0 1) fun v103 =>
    gB (gFR v103 2 1) fun v104 =>
    gB (gAR v104 5 x3) fun v105 =>
    gB (gFI v105 4 3) fun v106 =>
    gIf (v106 = 0)
    (gB (gFR a0 0 1) fun v107 =>
    gB (gFR v107 2 1) fun v108 =>
    gB (gAR v108 5 x3) fun v109 =>
    gB (gCk a0 0) fun _ =>
    gB (f_X1_rides a0 v109 (0 : Int32)) fun _ =>
    gB (gCk a0 0) fun _ =>
    gB (f_X1_wearsOut a0) fun _ =>
    gB (gFI a0 0 14) fun v112 =>
    gIf (v112 = (-1 : Int32))
    (f_X1_all_87 (f_X1_all_24 n) a0 x3 x2 (0 : Int32))
    (f_X1_all_87 (f_X1_all_24 n) a0 x3 x2 ((1 : Int32) <<< (x3 &&& 31))))
    (f_X1_all_89 (f_X1_all_24 n) a0 x2 x3))
set_option maxHeartbeats 4000000 in
set_option maxRecDepth 100000 in
theorem b_X1_all_24 {G : gG} {l : Launch} {p : Program} {e : Env} {s : State} {m : MethodId} {args : Array Value} {below : List Frame} {meth : Method} {c : Code} {h0 : g_H} {r : Int32} {h' : g_H} (X : gX G l yX1_all.cls cX1_all 4 (some .int) [] yX1_all.name p s m args meth c) : ∀ n : Nat, w_X1_all_24 G l p e s m args below meth c h0 r h' (f_X1_all_24 n) := by
  have hx := X.1
  have hb := X.2.1
  have hown := X.2.2.2.1
  have hts := X.2.2.2.2.1
  intro n
  induction n with
  | zero =>
    intro a0 x2 x3 h H locs cells slots ls hf hI hl
    exact (gFail_f hf).elim
  | succ n ih =>
    intro a0 x2 x3 h H locs cells slots ls hf hI hl
    rw [f_X1_all_24] at hf
    refine lv_iload_n hx hb dX1_all_24 rfl (lv_at hl 2 rfl) ?_
    refine lv_aload_n hx hb dX1_all_25 rfl (lv_at hl 0 rfl) ?_
    refine g_fr X hI hf fX1_1 q461 rfl rfl dX1_all_26 (fun v101 hf => ?_)
    refine g_fiN X hI hf fX3_7 q271 rfl rfl dX1_all_29 (fun v102 hf => ?_)
    refine lv_icmp_ge (tgt := 95) hx hb dX1_all_32 (by decide) (fun c32 => ?_) (fun c32 => ?_)
    · have hf := g_t c32 hf
      exact b_X1_all_95 X _ _ _ _ _ _ _ _ hf hI (lv_sub hl [0, 1] rfl)
    · have hf := g_f c32 hf
      refine lv_aload_n hx hb dX1_all_35 rfl (lv_at hl 0 rfl) ?_
      refine g_fr X hI hf fX1_1 q461 rfl rfl dX1_all_36 (fun v103 hf => ?_)
      refine g_frN X hI hf fX3_1 q257 rfl rfl dX1_all_39 (fun v104 hf => ?_)
      refine lv_iload_n hx hb dX1_all_42 rfl (lv_at hl 2 rfl) ?_
      refine g_ar5 X hI hf dX1_all_43 (fun v105 hf => ?_)
      refine g_fiN X hI hf fX5_3 q243 rfl rfl dX1_all_44 (fun v106 hf => ?_)
      refine lv_if_eq (tgt := 53) hx hb dX1_all_47 (by decide) (fun c47 => ?_) (fun c47 => ?_)
      · have hf := g_t c47 hf
        refine lv_aload_n hx hb dX1_all_53 rfl (lv_at hl 0 rfl) ?_
        refine lv_aload_n hx hb dX1_all_54 rfl (lv_at hl 0 rfl) ?_
        refine g_fr X hI hf fX1_1 q461 rfl rfl dX1_all_55 (fun v107 hf => ?_)
        refine g_frN X hI hf fX3_1 q257 rfl rfl dX1_all_58 (fun v108 hf => ?_)
        refine lv_iload_n hx hb dX1_all_61 rfl (lv_at hl 2 rfl) ?_
        refine g_ar5 X hI hf dX1_all_62 (fun v109 hf => ?_)
        refine lv_iconst (v := (0 : Int32)) hx hb dX1_all_63 (by decide) ?_
        obtain ⟨hs, hf⟩ := gCk_b hf
        refine g_cBU hI hf (fun v9 h9 e9 l9 l9' => g_rV X hI l9 l9' ⟨Nat.le_refl _, Nat.le_refl _⟩ (As := [.ref v109, .int (0 : Int32)]) (m_X1_rides X.2.2.2.2.2.2.2.2.2.2.1 e9) ydX1_rides hs rfl rfl q693 q695 qs9 q121 q696 rfl (Nat.le_of_ble_eq_true rfl) (Nat.le_of_ble_eq_true rfl) hl.1 rfl (Nat.le_of_ble_eq_true rfl) dX1_all_64) (fun r110 h H locs cells slots hf hI => ?_)
        refine lv_aload_n hx hb dX1_all_67 rfl (lv_at hl 0 rfl) ?_
        obtain ⟨hs, hf⟩ := gCk_b hf
        refine g_cBU hI hf (fun v9 h9 e9 l9 l9' => g_rV X hI l9 l9' ⟨Nat.le_refl _, Nat.le_refl _⟩ (As := []) (m_X1_wearsOut X.2.2.2.2.2.2.2.2.2.2.1 e9) ydX1_wearsOut hs rfl rfl q735 q737 qs11 q121 q738 rfl (Nat.le_of_ble_eq_true rfl) (Nat.le_of_ble_eq_true rfl) hl.1 rfl (Nat.le_of_ble_eq_true rfl) dX1_all_68) (fun r111 h H locs cells slots hf hI => ?_)
        refine lv_iload_n hx hb dX1_all_71 rfl (lv_at hl 1 rfl) ?_
        refine lv_aload_n hx hb dX1_all_72 rfl (lv_at hl 0 rfl) ?_
        refine g_fi X hI hf fX1_14 q475 rfl rfl dX1_all_73 (fun v112 hf => ?_)
        refine lv_iconst (v := (-1 : Int32)) hx hb dX1_all_76 (by decide) ?_
        refine lv_icmp_eq (tgt := 86) hx hb dX1_all_77 (by decide) (fun c77 => ?_) (fun c77 => ?_)
        · have hf := g_t c77 hf
          refine lv_iconst (v := (0 : Int32)) hx hb dX1_all_86 (by decide) ?_
          exact b_X1_all_87 X ih _ _ _ _ _ _ _ _ _ _ hf hI (lv_sub hl [0, 2] rfl)
        · have hf := g_f c77 hf
          refine lv_iconst (v := (1 : Int32)) hx hb dX1_all_80 (by decide) ?_
          refine lv_iload_n hx hb dX1_all_81 rfl (lv_at hl 2 rfl) ?_
          refine lv_ishl hx hb dX1_all_82 ?_
          refine lv_goto (tgt := 87) hx hb dX1_all_83 (by decide) ?_
          exact b_X1_all_87 X ih _ _ _ _ _ _ _ _ _ _ hf hI (lv_sub hl [0, 2] rfl)
      · have hf := g_f c47 hf
        refine lv_goto (tgt := 89) hx hb dX1_all_50 (by decide) ?_
        exact b_X1_all_89 X ih _ _ _ _ _ _ _ _ _ hf hI (lv_sub hl [0, 1, 2] rfl)
def f_X1_all (a0 : Nat) (x1 : Int32) : gM Int32 :=
    gIf (x1 = 0)
    (gB (gCk a0 0) fun _ =>
    gB (f_X1_screamsNow a0) fun r4 =>
    (gRet r4))
    (gB (gFR a0 0 3) fun v1 =>
    gB (gFR a0 0 1) fun v2 =>
    gB (gCk v1 2) fun _ =>
    gB (f_X3_be v1 v2) fun _ =>
    f_X1_all_24 gN a0 (0 : Int32) (0 : Int32))
set_option maxHeartbeats 4000000 in
set_option maxRecDepth 100000 in
theorem m_X1_all {G : gG} {l : Launch} (hfl : l.stackTraces = false) {a0 : Nat} {x1 : Int32} {h h' : g_H} {r : Int32} (hf : (f_X1_all a0 x1).1 h = some (r, h')) : gMet G l yX1_all (Cond.code yX1_all cX1_all 4 (some .int)) 103 1914 [.ref a0, .int x1] h (.inl (g_wI r)) h' := by
  refine g_head hfl ((f_X1_all a0 x1).2 h r h' hf) (plainFor_of_name (by decide)) (Nat.le_of_ble_eq_true rfl) (fun p e s m below meth c H locs cells slots ls X hI hl9 => ?_)
  have hl : lv_has ls 4 [(0, .ref a0), (1, .int x1)] := hl9
  have hx := X.1
  have hb := X.2.1
  have hown := X.2.2.2.1
  have hts := X.2.2.2.2.1
  unfold f_X1_all at hf
  refine lv_iload_n hx hb dX1_all_0 rfl (lv_at hl 1 rfl) ?_
  refine lv_if_ne (tgt := 9) hx hb dX1_all_1 (by decide) (fun c1 => ?_) (fun c1 => ?_)
  · have hf := g_f c1 hf
    refine lv_aload_n hx hb dX1_all_9 rfl (lv_at hl 0 rfl) ?_
    refine g_fr X hI hf fX1_3 q464 rfl rfl dX1_all_10 (fun v1 hf => ?_)
    refine lv_aload_n hx hb dX1_all_13 rfl (lv_at hl 0 rfl) ?_
    refine g_fr X hI hf fX1_1 q461 rfl rfl dX1_all_14 (fun v2 hf => ?_)
    obtain ⟨hs, hf⟩ := gCk_b hf
    refine g_cBU hI hf (fun v9 h9 e9 l9 l9' => g_rV X hI l9 l9' ⟨Nat.le_refl _, Nat.le_refl _⟩ (As := [.ref v2]) (m_X3_be X.2.2.2.2.2.2.2.2.2.2.1 e9) ydX3_be hs rfl rfl q672 q673 q674 q123 q675 rfl (Nat.le_of_ble_eq_true rfl) (Nat.le_of_ble_eq_true rfl) hl.1 rfl (Nat.le_of_ble_eq_true rfl) dX1_all_17) (fun r3 h H locs cells slots hf hI => ?_)
    refine lv_iconst (v := (0 : Int32)) hx hb dX1_all_20 (by decide) ?_
    refine lv_istore_n (lv' := [(2, .int (0 : Int32)), (0, .ref a0), (1, .int x1)]) hx hb dX1_all_21 rfl hl (by decide) rfl (fun ls hl => ?_)
    refine lv_iconst (v := (0 : Int32)) hx hb dX1_all_22 (by decide) ?_
    refine lv_istore_n (lv' := [(3, .int (0 : Int32)), (2, .int (0 : Int32)), (0, .ref a0), (1, .int x1)]) hx hb dX1_all_23 rfl hl (by decide) rfl (fun ls hl => ?_)
    exact b_X1_all_24 X gN _ _ _ _ _ _ _ _ _ hf hI (lv_sub hl [2, 1, 0] rfl)
  · have hf := g_t c1 hf
    refine lv_aload_n hx hb dX1_all_4 rfl (lv_at hl 0 rfl) ?_
    obtain ⟨hs, hf⟩ := gCk_b hf
    refine g_cBI hI hf (fun v9 h9 e9 l9 l9' => g_rV X hI l9 l9' ⟨Nat.le_refl _, Nat.le_refl _⟩ (As := []) (m_X1_screamsNow X.2.2.2.2.2.2.2.2.2.2.1 e9) ydX1_screamsNow hs rfl rfl q689 q691 qs8 q121 q692 rfl (Nat.le_of_ble_eq_true rfl) (Nat.le_of_ble_eq_true rfl) hl.1 rfl (Nat.le_of_ble_eq_true rfl) dX1_all_5) (fun r4 h H locs cells slots hf hI => ?_)
    cases gRet_e hf
    exact g_retI X hI rfl dX1_all_8
end
