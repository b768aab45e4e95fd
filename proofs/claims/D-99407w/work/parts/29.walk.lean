noncomputable section
/-! X8_greatestPart -/
abbrev w_X8_greatestPart_57 (G : gG) (l : Launch) (p : Program) (e : Env) (s : State) (m : MethodId) (args : Array Value) (below : List Frame) (meth : Method) (c : Code) (h0 : g_H) (r : Int32) (h' : g_H) (k : Nat → Int32 → Int32 → Int32 → Int32 → Int32 → Int32 → Int32 → gM Int32) : Prop := ∀ (a0 : Nat) (x1 : Int32) (x2 : Int32) (x3 : Int32) (x4 : Int32) (x6 : Int32) (u0 : Int32) (u1 : Int32) (h : g_H) (H : Heap) (locs : List Loc) (cells slots : Nat) (ls : Array Slot), (k a0 x1 x2 x3 x4 x6 u0 u1).1 h = some (r, h') → gI G h0 h H locs cells slots → lv_has ls 7 [(0, .ref a0), (1, .int x1), (2, .int x2), (3, .int x3), (4, .int x4), (6, .int x6)] → W p l e (g_rm 2 41 h0 h') s m args below meth c H locs cells slots (gQ G below args s h0 h' (.inl (g_wI r))) (F0 m 57 ls [.int u1, .int u0])
abbrev w_X8_greatestPart_66 (G : gG) (l : Launch) (p : Program) (e : Env) (s : State) (m : MethodId) (args : Array Value) (below : List Frame) (meth : Method) (c : Code) (h0 : g_H) (r : Int32) (h' : g_H) (k : Nat → Int32 → Int32 → Int32 → Int32 → Int32 → gM Int32) : Prop := ∀ (a0 : Nat) (x1 : Int32) (x2 : Int32) (x3 : Int32) (x4 : Int32) (x5 : Int32) (h : g_H) (H : Heap) (locs : List Loc) (cells slots : Nat) (ls : Array Slot), (k a0 x1 x2 x3 x4 x5).1 h = some (r, h') → gI G h0 h H locs cells slots → lv_has ls 7 [(0, .ref a0), (1, .int x1), (2, .int x2), (3, .int x3), (4, .int x4), (5, .int x5)] → W p l e (g_rm 2 41 h0 h') s m args below meth c H locs cells slots (gQ G below args s h0 h' (.inl (g_wI r))) (F0 m 66 ls [])
abbrev w_X8_greatestPart_17 (G : gG) (l : Launch) (p : Program) (e : Env) (s : State) (m : MethodId) (args : Array Value) (below : List Frame) (meth : Method) (c : Code) (h0 : g_H) (r : Int32) (h' : g_H) (k : Nat → Int32 → Int32 → Int32 → Int32 → Int32 → Int32 → gM Int32) : Prop := ∀ (a0 : Nat) (x1 : Int32) (x2 : Int32) (x3 : Int32) (x4 : Int32) (x5 : Int32) (x6 : Int32) (h : g_H) (H : Heap) (locs : List Loc) (cells slots : Nat) (ls : Array Slot), (k a0 x1 x2 x3 x4 x5 x6).1 h = some (r, h') → gI G h0 h H locs cells slots → lv_has ls 7 [(0, .ref a0), (1, .int x1), (2, .int x2), (3, .int x3), (4, .int x4), (5, .int x5), (6, .int x6)] → W p l e (g_rm 2 41 h0 h') s m args below meth c H locs cells slots (gQ G below args s h0 h' (.inl (g_wI r))) (F0 m 17 ls [])
abbrev w_X8_greatestPart_79 (G : gG) (l : Launch) (p : Program) (e : Env) (s : State) (m : MethodId) (args : Array Value) (below : List Frame) (meth : Method) (c : Code) (h0 : g_H) (r : Int32) (h' : g_H) (k : Int32 → gM Int32) : Prop := ∀ (x3 : Int32) (h : g_H) (H : Heap) (locs : List Loc) (cells slots : Nat) (ls : Array Slot), (k x3).1 h = some (r, h') → gI G h0 h H locs cells slots → lv_has ls 7 [(3, .int x3)] → W p l e (g_rm 2 41 h0 h') s m args below meth c H locs cells slots (gQ G below args s h0 h' (.inl (g_wI r))) (F0 m 79 ls [])
abbrev w_X8_greatestPart_5 (G : gG) (l : Launch) (p : Program) (e : Env) (s : State) (m : MethodId) (args : Array Value) (below : List Frame) (meth : Method) (c : Code) (h0 : g_H) (r : Int32) (h' : g_H) (k : Nat → Int32 → Int32 → Int32 → Int32 → gM Int32) : Prop := ∀ (a0 : Nat) (x1 : Int32) (x2 : Int32) (x3 : Int32) (x4 : Int32) (h : g_H) (H : Heap) (locs : List Loc) (cells slots : Nat) (ls : Array Slot), (k a0 x1 x2 x3 x4).1 h = some (r, h') → gI G h0 h H locs cells slots → lv_has ls 7 [(0, .ref a0), (1, .int x1), (2, .int x2), (3, .int x3), (4, .int x4)] → W p l e (g_rm 2 41 h0 h') s m args below meth c H locs cells slots (gQ G below args s h0 h' (.inl (g_wI r))) (F0 m 5 ls [])
def f_X8_greatestPart_57 (k17 : Nat → Int32 → Int32 → Int32 → Int32 → Int32 → Int32 → gM Int32) (a0 : Nat) (x1 : Int32) (x2 : Int32) (x3 : Int32) (x4 : Int32) (x6 : Int32) (u0 : Int32) (u1 : Int32) : gM Int32 :=
    k17 a0 x1 x2 x3 x4 (u0 + u1) (x6 + (1 : Int32))
set_option maxHeartbeats 4000000 in
set_option maxRecDepth 100000 in
theorem b_X8_greatestPart_57 {G : gG} {l : Launch} {p : Program} {e : Env} {s : State} {m : MethodId} {args : Array Value} {below : List Frame} {meth : Method} {c : Code} {h0 : g_H} {r : Int32} {h' : g_H} (X : gX G l yX8_greatestPart.cls cX8_greatestPart 7 (some .int) [] yX8_greatestPart.name p s m args meth c) {k17 : Nat → Int32 → Int32 → Int32 → Int32 → Int32 → Int32 → gM Int32} (K17 : w_X8_greatestPart_17 G l p e s m args below meth c h0 r h' k17) : w_X8_greatestPart_57 G l p e s m args below meth c h0 r h' (f_X8_greatestPart_57 k17) := by
  have hx := X.1
  have hb := X.2.1
  have hown := X.2.2.2.1
  have hts := X.2.2.2.2.1
  intro a0 x1 x2 x3 x4 x6 u0 u1 h H locs cells slots ls hf hI hl
  unfold f_X8_greatestPart_57 at hf
  refine lv_iadd hx hb dX8_greatestPart_57 ?_
  refine lv_istore (lv' := [(5, .int (u0 + u1)), (0, .ref a0), (1, .int x1), (2, .int x2), (3, .int x3), (4, .int x4), (6, .int x6)]) hx hb dX8_greatestPart_58 hl (by decide) rfl (fun ls hl => ?_)
  refine lv_iinc (v := (x6 + (1 : Int32))) (lv' := [(6, .int (x6 + (1 : Int32))), (5, .int (u0 + u1)), (0, .ref a0), (1, .int x1), (2, .int x2), (3, .int x3), (4, .int x4)]) hx hb dX8_greatestPart_60 hl (k := 6) rfl rfl (by decide) rfl (fun ls hl => ?_)
  refine lv_goto (tgt := 17) hx hb dX8_greatestPart_63 (by decide) ?_
  exact K17 _ _ _ _ _ _ _ _ _ _ _ _ _ hf hI (lv_sub hl [2, 3, 4, 5, 6, 1, 0] rfl)
def f_X8_greatestPart_66 (k5 : Nat → Int32 → Int32 → Int32 → Int32 → gM Int32) (a0 : Nat) (x1 : Int32) (x2 : Int32) (x3 : Int32) (x4 : Int32) (x5 : Int32) : gM Int32 :=
    gB (f_J13_max x3 x5) fun r101 =>
    k5 a0 x1 x2 r101 (x4 + (1 : Int32))
set_option maxHeartbeats 4000000 in
set_option maxRecDepth 100000 in
theorem b_X8_greatestPart_66 {G : gG} {l : Launch} {p : Program} {e : Env} {s : State} {m : MethodId} {args : Array Value} {below : List Frame} {meth : Method} {c : Code} {h0 : g_H} {r : Int32} {h' : g_H} (X : gX G l yX8_greatestPart.cls cX8_greatestPart 7 (some .int) [] yX8_greatestPart.name p s m args meth c) {k5 : Nat → Int32 → Int32 → Int32 → Int32 → gM Int32} (K5 : w_X8_greatestPart_5 G l p e s m args below meth c h0 r h' k5) : w_X8_greatestPart_66 G l p e s m args below meth c h0 r h' (f_X8_greatestPart_66 k5) := by
  have hx := X.1
  have hb := X.2.1
  have hown := X.2.2.2.1
  have hts := X.2.2.2.2.1
  intro a0 x1 x2 x3 x4 x5 h H locs cells slots ls hf hI hl
  unfold f_X8_greatestPart_66 at hf
  refine lv_iload_n hx hb dX8_greatestPart_66 rfl (lv_at hl 3 rfl) ?_
  refine lv_iload hx hb dX8_greatestPart_67 (lv_at hl 5 rfl) ?_
  refine g_cBI hI hf (fun v9 h9 e9 l9 l9' => g_rS (b := 0) X hI l9 l9' ⟨Nat.le_refl _, Nat.le_refl _⟩ (As := [.int x3, .int x5]) (m_J13_max X.2.2.2.2.2.2.2.2.2.2.1 e9) ydJ13_max q1799 q564 q151 q565 rfl (Nat.le_of_ble_eq_true rfl) (Nat.le_of_ble_eq_true rfl) hl.1 rfl (Nat.le_of_ble_eq_true rfl) dX8_greatestPart_69) (fun r101 h H locs cells slots hf hI => ?_)
  refine lv_istore_n (lv' := [(3, .int r101), (0, .ref a0), (1, .int x1), (2, .int x2), (4, .int x4), (5, .int x5)]) hx hb dX8_greatestPart_72 rfl hl (by decide) rfl (fun ls hl => ?_)
  refine lv_iinc (v := (x4 + (1 : Int32))) (lv' := [(4, .int (x4 + (1 : Int32))), (3, .int r101), (0, .ref a0), (1, .int x1), (2, .int x2), (5, .int x5)]) hx hb dX8_greatestPart_73 hl (k := 4) rfl rfl (by decide) rfl (fun ls hl => ?_)
  refine lv_goto (tgt := 5) hx hb dX8_greatestPart_76 (by decide) ?_
  exact K5 _ _ _ _ _ _ _ _ _ _ _ hf hI (lv_sub hl [2, 3, 4, 1, 0] rfl)
def f_X8_greatestPart_17 (k5 : Nat → Int32 → Int32 → Int32 → Int32 → gM Int32) : Nat → Nat → Int32 → Int32 → Int32 → Int32 → Int32 → Int32 → gM Int32
  | 0, _, _, _, _, _, _, _ => gFail
  | n + 1, a0, x1, x2, x3, x4, x5, x6 =>
    gIf (x1 ≤ x6)
    (f_X8_greatestPart_66 k5 a0 x1 x2 x3 x4 x5)
    (gB (gFR a0 7 37) fun v101 =>
    gB (gAI v101 0 (((10 : Int32) * x6) + x2)) fun v102 =>
    gB (gFR a0 7 37) fun v103 =>
    gB (gAI v103 0 (((10 : Int32) * x4) + x2)) fun v104 =>
    gIf (v102 = v104)
    (f_X8_greatestPart_57 (f_X8_greatestPart_17 k5 n) a0 x1 x2 x3 x4 x6 x5 (1 : Int32))
    (f_X8_greatestPart_57 (f_X8_greatestPart_17 k5 n) a0 x1 x2 x3 x4 x6 x5 (0 : Int32)))
set_option maxHeartbeats 4000000 in
set_option maxRecDepth 100000 in
theorem b_X8_greatestPart_17 {G : gG} {l : Launch} {p : Program} {e : Env} {s : State} {m : MethodId} {args : Array Value} {below : List Frame} {meth : Method} {c : Code} {h0 : g_H} {r : Int32} {h' : g_H} (X : gX G l yX8_greatestPart.cls cX8_greatestPart 7 (some .int) [] yX8_greatestPart.name p s m args meth c) {k5 : Nat → Int32 → Int32 → Int32 → Int32 → gM Int32} (K5 : w_X8_greatestPart_5 G l p e s m args below meth c h0 r h' k5) : ∀ n : Nat, w_X8_greatestPart_17 G l p e s m args below meth c h0 r h' (f_X8_greatestPart_17 k5 n) := by
  have hx := X.1
  have hb := X.2.1
  have hown := X.2.2.2.1
  have hts := X.2.2.2.2.1
  intro n
  induction n with
  | zero =>
    intro a0 x1 x2 x3 x4 x5 x6 h H locs cells slots ls hf hI hl
    exact (gFail_f hf).elim
  | succ n ih =>
    intro a0 x1 x2 x3 x4 x5 x6 h H locs cells slots ls hf hI hl
    rw [f_X8_greatestPart_17] at hf
    refine lv_iload hx hb dX8_greatestPart_17 (lv_at hl 6 rfl) ?_
    refine lv_iload_n hx hb dX8_greatestPart_19 rfl (lv_at hl 1 rfl) ?_
    refine lv_icmp_ge (tgt := 66) hx hb dX8_greatestPart_20 (by decide) (fun c20 => ?_) (fun c20 => ?_)
    · have hf := g_t c20 hf
      exact b_X8_greatestPart_66 X K5 _ _ _ _ _ _ _ _ _ _ _ _ hf hI (lv_sub hl [0, 1, 2, 3, 4, 5] rfl)
    · have hf := g_f c20 hf
      refine lv_iload hx hb dX8_greatestPart_23 (lv_at hl 5 rfl) ?_
      refine lv_aload_n hx hb dX8_greatestPart_25 rfl (lv_at hl 0 rfl) ?_
      refine g_fr X hI hf fX8_37 q1481 rfl rfl dX8_greatestPart_26 (fun v101 hf => ?_)
      refine lv_bipush (v := (10 : Int32)) hx hb dX8_greatestPart_29 (by decide) ?_
      refine lv_iload hx hb dX8_greatestPart_31 (lv_at hl 6 rfl) ?_
      refine lv_imul hx hb dX8_greatestPart_33 ?_
      refine lv_iload_n hx hb dX8_greatestPart_34 rfl (lv_at hl 2 rfl) ?_
      refine lv_iadd hx hb dX8_greatestPart_35 ?_
      refine g_ai0 X hI hf dX8_greatestPart_36 (fun v102 hf => ?_)
      refine lv_aload_n hx hb dX8_greatestPart_37 rfl (lv_at hl 0 rfl) ?_
      refine g_fr X hI hf fX8_37 q1481 rfl rfl dX8_greatestPart_38 (fun v103 hf => ?_)
      refine lv_bipush (v := (10 : Int32)) hx hb dX8_greatestPart_41 (by decide) ?_
      refine lv_iload hx hb dX8_greatestPart_43 (lv_at hl 4 rfl) ?_
      refine lv_imul hx hb dX8_greatestPart_45 ?_
      refine lv_iload_n hx hb dX8_greatestPart_46 rfl (lv_at hl 2 rfl) ?_
      refine lv_iadd hx hb dX8_greatestPart_47 ?_
      refine g_ai0 X hI hf dX8_greatestPart_48 (fun v104 hf => ?_)
      refine lv_icmp_ne (tgt := 56) hx hb dX8_greatestPart_49 (by decide) (fun c49 => ?_) (fun c49 => ?_)
      · have hf := g_f c49 hf
        refine lv_iconst (v := (0 : Int32)) hx hb dX8_greatestPart_56 (by decide) ?_
        exact b_X8_greatestPart_57 X ih _ _ _ _ _ _ _ _ _ _ _ _ _ _ hf hI (lv_sub hl [0, 1, 2, 3, 4, 6] rfl)
      · have hf := g_t c49 hf
        refine lv_iconst (v := (1 : Int32)) hx hb dX8_greatestPart_52 (by decide) ?_
        refine lv_goto (tgt := 57) hx hb dX8_greatestPart_53 (by decide) ?_
        exact b_X8_greatestPart_57 X ih _ _ _ _ _ _ _ _ _ _ _ _ _ _ hf hI (lv_sub hl [0, 1, 2, 3, 4, 6] rfl)
def f_X8_greatestPart_79 (x3 : Int32) : gM Int32 :=
    (gRet x3)
set_option maxHeartbeats 4000000 in
set_option maxRecDepth 100000 in
theorem b_X8_greatestPart_79 {G : gG} {l : Launch} {p : Program} {e : Env} {s : State} {m : MethodId} {args : Array Value} {below : List Frame} {meth : Method} {c : Code} {h0 : g_H} {r : Int32} {h' : g_H} (X : gX G l yX8_greatestPart.cls cX8_greatestPart 7 (some .int) [] yX8_greatestPart.name p s m args meth c) : w_X8_greatestPart_79 G l p e s m args below meth c h0 r h' (f_X8_greatestPart_79) := by
  have hx := X.1
  have hb := X.2.1
  have hown := X.2.2.2.1
  have hts := X.2.2.2.2.1
  intro x3 h H locs cells slots ls hf hI hl
  unfold f_X8_greatestPart_79 at hf
  refine lv_iload_n hx hb dX8_greatestPart_79 rfl (lv_at hl 0 rfl) ?_
  cases gRet_e hf
  exact g_retI X hI rfl dX8_greatestPart_80
def f_X8_greatestPart_5 : Nat → Nat → Int32 → Int32 → Int32 → Int32 → gM Int32
  | 0, _, _, _, _, _ => gFail
  | n + 1, a0, x1, x2, x3, x4 =>
    gIf (x1 ≤ x4)
    (f_X8_greatestPart_79 x3)
    (f_X8_greatestPart_17 (f_X8_greatestPart_5 n) gN a0 x1 x2 x3 x4 (0 : Int32) (0 : Int32))
set_option maxHeartbeats 4000000 in
set_option maxRecDepth 100000 in
theorem b_X8_greatestPart_5 {G : gG} {l : Launch} {p : Program} {e : Env} {s : State} {m : MethodId} {args : Array Value} {below : List Frame} {meth : Method} {c : Code} {h0 : g_H} {r : Int32} {h' : g_H} (X : gX G l yX8_greatestPart.cls cX8_greatestPart 7 (some .int) [] yX8_greatestPart.name p s m args meth c) : ∀ n : Nat, w_X8_greatestPart_5 G l p e s m args below meth c h0 r h' (f_X8_greatestPart_5 n) := by
  have hx := X.1
  have hb := X.2.1
  have hown := X.2.2.2.1
  have hts := X.2.2.2.2.1
  intro n
  induction n with
  | zero =>
    intro a0 x1 x2 x3 x4 h H locs cells slots ls hf hI hl
    exact (gFail_f hf).elim
  | succ n ih =>
    intro a0 x1 x2 x3 x4 h H locs cells slots ls hf hI hl
    rw [f_X8_greatestPart_5] at hf
    refine lv_iload hx hb dX8_greatestPart_5 (lv_at hl 4 rfl) ?_
    refine lv_iload_n hx hb dX8_greatestPart_7 rfl (lv_at hl 1 rfl) ?_
    refine lv_icmp_ge (tgt := 79) hx hb dX8_greatestPart_8 (by decide) (fun c8 => ?_) (fun c8 => ?_)
    · have hf := g_t c8 hf
      exact b_X8_greatestPart_79 X _ _ _ _ _ _ _ hf hI (lv_sub hl [3] rfl)
    · have hf := g_f c8 hf
      refine lv_iconst (v := (0 : Int32)) hx hb dX8_greatestPart_11 (by decide) ?_
      refine lv_istore (lv' := [(5, .int (0 : Int32)), (0, .ref a0), (1, .int x1), (2, .int x2), (3, .int x3), (4, .int x4)]) hx hb dX8_greatestPart_12 hl (by decide) rfl (fun ls hl => ?_)
      refine lv_iconst (v := (0 : Int32)) hx hb dX8_greatestPart_14 (by decide) ?_
      refine lv_istore (lv' := [(6, .int (0 : Int32)), (5, .int (0 : Int32)), (0, .ref a0), (1, .int x1), (2, .int x2), (3, .int x3), (4, .int x4)]) hx hb dX8_greatestPart_15 hl (by decide) rfl (fun ls hl => ?_)
      exact b_X8_greatestPart_17 X ih gN _ _ _ _ _ _ _ _ _ _ _ _ _ hf hI (lv_sub hl [2, 3, 4, 5, 6, 1, 0] rfl)
def f_X8_greatestPart (a0 : Nat) (x1 : Int32) (x2 : Int32) : gM Int32 :=
    f_X8_greatestPart_5 gN a0 x1 x2 (0 : Int32) (0 : Int32)
set_option maxHeartbeats 4000000 in
set_option maxRecDepth 100000 in
theorem m_X8_greatestPart {G : gG} {l : Launch} (hfl : l.stackTraces = false) {a0 : Nat} {x1 : Int32} {x2 : Int32} {h h' : g_H} {r : Int32} (hf : (f_X8_greatestPart a0 x1 x2).1 h = some (r, h')) : gMet G l yX8_greatestPart (Cond.code yX8_greatestPart cX8_greatestPart 7 (some .int)) 2 41 [.ref a0, .int x1, .int x2] h (.inl (g_wI r)) h' := by
  refine g_head hfl ((f_X8_greatestPart a0 x1 x2).2 h r h' hf) (plainFor_of_name (by decide)) (Nat.le_of_ble_eq_true rfl) (fun p e s m below meth c H locs cells slots ls X hI hl9 => ?_)
  have hl : lv_has ls 7 [(0, .ref a0), (1, .int x1), (2, .int x2)] := hl9
  have hx := X.1
  have hb := X.2.1
  have hown := X.2.2.2.1
  have hts := X.2.2.2.2.1
  unfold f_X8_greatestPart at hf
  refine lv_iconst (v := (0 : Int32)) hx hb dX8_greatestPart_0 (by decide) ?_
  refine lv_istore_n (lv' := [(3, .int (0 : Int32)), (0, .ref a0), (1, .int x1), (2, .int x2)]) hx hb dX8_greatestPart_1 rfl hl (by decide) rfl (fun ls hl => ?_)
  refine lv_iconst (v := (0 : Int32)) hx hb dX8_greatestPart_2 (by decide) ?_
  refine lv_istore (lv' := [(4, .int (0 : Int32)), (3, .int (0 : Int32)), (0, .ref a0), (1, .int x1), (2, .int x2)]) hx hb dX8_greatestPart_3 hl (by decide) rfl (fun ls hl => ?_)
  exact b_X8_greatestPart_5 X gN _ _ _ _ _ _ _ _ _ _ _ hf hI (lv_sub hl [2, 3, 4, 1, 0] rfl)
/-! X8_ask -/
abbrev w_X8_ask_87 (G : gG) (l : Launch) (p : Program) (e : Env) (s : State) (m : MethodId) (args : Array Value) (below : List Frame) (meth : Method) (c : Code) (h0 : g_H) (r : Int32) (h' : g_H) (k : Nat → Int32 → Int32 → Int32 → gM Int32) : Prop := ∀ (a0 : Nat) (x1 : Int32) (x2 : Int32) (x3 : Int32) (h : g_H) (H : Heap) (locs : List Loc) (cells slots : Nat) (ls : Array Slot), (k a0 x1 x2 x3).1 h = some (r, h') → gI G h0 h H locs cells slots → lv_has ls 7 [(0, .ref a0), (1, .int x1), (2, .int x2), (3, .int x3)] → W p l e (g_rm 11 252 h0 h') s m args below meth c H locs cells slots (gQ G below args s h0 h' (.inl (g_wI r))) (F0 m 87 ls [])
abbrev w_X8_ask_84 (G : gG) (l : Launch) (p : Program) (e : Env) (s : State) (m : MethodId) (args : Array Value) (below : List Frame) (meth : Method) (c : Code) (h0 : g_H) (r : Int32) (h' : g_H) (k : Nat → Int32 → Int32 → Int32 → gM Int32) : Prop := ∀ (a0 : Nat) (x1 : Int32) (x2 : Int32) (x3 : Int32) (h : g_H) (H : Heap) (locs : List Loc) (cells slots : Nat) (ls : Array Slot), (k a0 x1 x2 x3).1 h = some (r, h') → gI G h0 h H locs cells slots → lv_has ls 7 [(0, .ref a0), (1, .int x1), (2, .int x2), (3, .int x3)] → W p l e (g_rm 11 252 h0 h') s m args below meth c H locs cells slots (gQ G below args s h0 h' (.inl (g_wI r))) (F0 m 84 ls [])
abbrev w_X8_ask_52 (G : gG) (l : Launch) (p : Program) (e : Env) (s : State) (m : MethodId) (args : Array Value) (below : List Frame) (meth : Method) (c : Code) (h0 : g_H) (r : Int32) (h' : g_H) (k : Nat → Int32 → Int32 → Int32 → Int32 → gM Int32) : Prop := ∀ (a0 : Nat) (x1 : Int32) (x2 : Int32) (x3 : Int32) (x4 : Int32) (h : g_H) (H : Heap) (locs : List Loc) (cells slots : Nat) (ls : Array Slot), (k a0 x1 x2 x3 x4).1 h = some (r, h') → gI G h0 h H locs cells slots → lv_has ls 7 [(0, .ref a0), (1, .int x1), (2, .int x2), (3, .int x3), (4, .int x4)] → W p l e (g_rm 11 252 h0 h') s m args below meth c H locs cells slots (gQ G below args s h0 h' (.inl (g_wI r))) (F0 m 52 ls [])
abbrev w_X8_ask_153 (G : gG) (l : Launch) (p : Program) (e : Env) (s : State) (m : MethodId) (args : Array Value) (below : List Frame) (meth : Method) (c : Code) (h0 : g_H) (r : Int32) (h' : g_H) (k : Nat → Int32 → Int32 → Int32 → Int32 → Int32 → gM Int32) : Prop := ∀ (a0 : Nat) (x2 : Int32) (x4 : Int32) (x5 : Int32) (x6 : Int32) (u0 : Int32) (h : g_H) (H : Heap) (locs : List Loc) (cells slots : Nat) (ls : Array Slot), (k a0 x2 x4 x5 x6 u0).1 h = some (r, h') → gI G h0 h H locs cells slots → lv_has ls 7 [(0, .ref a0), (2, .int x2), (4, .int x4), (5, .int x5), (6, .int x6)] → W p l e (g_rm 11 252 h0 h') s m args below meth c H locs cells slots (gQ G below args s h0 h' (.inl (g_wI r))) (F0 m 153 ls [.int u0])
abbrev w_X8_ask_138 (G : gG) (l : Launch) (p : Program) (e : Env) (s : State) (m : MethodId) (args : Array Value) (below : List Frame) (meth : Method) (c : Code) (h0 : g_H) (r : Int32) (h' : g_H) (k : Nat → Int32 → Int32 → Int32 → Int32 → Int32 → gM Int32) : Prop := ∀ (a0 : Nat) (x2 : Int32) (x3 : Int32) (x4 : Int32) (x5 : Int32) (u0 : Int32) (h : g_H) (H : Heap) (locs : List Loc) (cells slots : Nat) (ls : Array Slot), (k a0 x2 x3 x4 x5 u0).1 h = some (r, h') → gI G h0 h H locs cells slots → lv_has ls 7 [(0, .ref a0), (2, .int x2), (3, .int x3), (4, .int x4), (5, .int x5)] → W p l e (g_rm 11 252 h0 h') s m args below meth c H locs cells slots (gQ G below args s h0 h' (.inl (g_wI r))) (F0 m 138 ls [.int u0])
abbrev w_X8_ask_169 (G : gG) (l : Launch) (p : Program) (e : Env) (s : State) (m : MethodId) (args : Array Value) (below : List Frame) (meth : Method) (c : Code) (h0 : g_H) (r : Int32) (h' : g_H) (k : Int32 → gM Int32) : Prop := ∀ (x3 : Int32) (h : g_H) (H : Heap) (locs : List Loc) (cells slots : Nat) (ls : Array Slot), (k x3).1 h = some (r, h') → gI G h0 h H locs cells slots → lv_has ls 7 [(3, .int x3)] → W p l e (g_rm 11 252 h0 h') s m args below meth c H locs cells slots (gQ G below args s h0 h' (.inl (g_wI r))) (F0 m 169 ls [])
abbrev w_X8_ask_103 (G : gG) (l : Launch) (p : Program) (e : Env) (s : State) (m : MethodId) (args : Array Value) (below : List Frame) (meth : Method) (c : Code) (h0 : g_H) (r : Int32) (h' : g_H) (k : Nat → Int32 → Int32 → Int32 → Int32 → gM Int32) : Prop := ∀ (a0 : Nat) (x2 : Int32) (x3 : Int32) (x4 : Int32) (x5 : Int32) (h : g_H) (H : Heap) (locs : List Loc) (cells slots : Nat) (ls : Array Slot), (k a0 x2 x3 x4 x5).1 h = some (r, h') → gI G h0 h H locs cells slots → lv_has ls 7 [(0, .ref a0), (2, .int x2), (3, .int x3), (4, .int x4), (5, .int x5)] → W p l e (g_rm 11 252 h0 h') s m args below meth c H locs cells slots (gQ G below args s h0 h' (.inl (g_wI r))) (F0 m 103 ls [])
abbrev w_X8_ask_93 (G : gG) (l : Launch) (p : Program) (e : Env) (s : State) (m : MethodId) (args : Array Value) (below : List Frame) (meth : Method) (c : Code) (h0 : g_H) (r : Int32) (h' : g_H) (k : Nat → Int32 → gM Int32) : Prop := ∀ (a0 : Nat) (x2 : Int32) (h : g_H) (H : Heap) (locs : List Loc) (cells slots : Nat) (ls : Array Slot), (k a0 x2).1 h = some (r, h') → gI G h0 h H locs cells slots → lv_has ls 7 [(0, .ref a0), (2, .int x2)] → W p l e (g_rm 11 252 h0 h') s m args below meth c H locs cells slots (gQ G below args s h0 h' (.inl (g_wI r))) (F0 m 93 ls [])
abbrev w_X8_ask_31 (G : gG) (l : Launch) (p : Program) (e : Env) (s : State) (m : MethodId) (args : Array Value) (below : List Frame) (meth : Method) (c : Code) (h0 : g_H) (r : Int32) (h' : g_H) (k : Nat → Int32 → Int32 → Int32 → gM Int32) : Prop := ∀ (a0 : Nat) (x1 : Int32) (x2 : Int32) (x3 : Int32) (h : g_H) (H : Heap) (locs : List Loc) (cells slots : Nat) (ls : Array Slot), (k a0 x1 x2 x3).1 h = some (r, h') → gI G h0 h H locs cells slots → lv_has ls 7 [(0, .ref a0), (1, .int x1), (2, .int x2), (3, .int x3)] → W p l e (g_rm 11 252 h0 h') s m args below meth c H locs cells slots (gQ G below args s h0 h' (.inl (g_wI r))) (F0 m 31 ls [])
abbrev w_X8_ask_18 (G : gG) (l : Launch) (p : Program) (e : Env) (s : State) (m : MethodId) (args : Array Value) (below : List Frame) (meth : Method) (c : Code) (h0 : g_H) (r : Int32) (h' : g_H) (k : Nat → Int32 → Nat → Int32 → gM Int32) : Prop := ∀ (a0 : Nat) (x1 : Int32) (b0 : Nat) (u1 : Int32) (h : g_H) (H : Heap) (locs : List Loc) (cells slots : Nat) (ls : Array Slot), (k a0 x1 b0 u1).1 h = some (r, h') → gI G h0 h H locs cells slots → lv_has ls 7 [(0, .ref a0), (1, .int x1)] → W p l e (g_rm 11 252 h0 h') s m args below meth c H locs cells slots (gQ G below args s h0 h' (.inl (g_wI r))) (F0 m 18 ls [.int u1, .ref b0])
def f_X8_ask_87 (k31 : Nat → Int32 → Int32 → Int32 → gM Int32) (a0 : Nat) (x1 : Int32) (x2 : Int32) (x3 : Int32) : gM Int32 :=
    k31 a0 x1 x2 (x3 + (1 : Int32))
set_option maxHeartbeats 4000000 in
set_option maxRecDepth 100000 in
theorem b_X8_ask_87 {G : gG} {l : Launch} {p : Program} {e : Env} {s : State} {m : MethodId} {args : Array Value} {below : List Frame} {meth : Method} {c : Code} {h0 : g_H} {r : Int32} {h' : g_H} (X : gX G l yX8_ask.cls cX8_ask 7 (some .int) [] yX8_ask.name p s m args meth c) {k31 : Nat → Int32 → Int32 → Int32 → gM Int32} (K31 : w_X8_ask_31 G l p e s m args below meth c h0 r h' k31) : w_X8_ask_87 G l p e s m args below meth c h0 r h' (f_X8_ask_87 k31) := by
  have hx := X.1
  have hb := X.2.1
  have hown := X.2.2.2.1
  have hts := X.2.2.2.2.1
  intro a0 x1 x2 x3 h H locs cells slots ls hf hI hl
  unfold f_X8_ask_87 at hf
  refine lv_iinc (v := (x3 + (1 : Int32))) (lv' := [(3, .int (x3 + (1 : Int32))), (0, .ref a0), (1, .int x1), (2, .int x2)]) hx hb dX8_ask_87 hl (k := 3) rfl rfl (by decide) rfl (fun ls hl => ?_)
  refine lv_goto (tgt := 31) hx hb dX8_ask_90 (by decide) ?_
  exact K31 _ _ _ _ _ _ _ _ _ _ hf hI (lv_sub hl [1, 2, 3, 0] rfl)
def f_X8_ask_84 (k31 : Nat → Int32 → Int32 → Int32 → gM Int32) (a0 : Nat) (x1 : Int32) (x2 : Int32) (x3 : Int32) : gM Int32 :=
    f_X8_ask_87 k31 a0 x1 (x2 + (1 : Int32)) x3
set_option maxHeartbeats 4000000 in
set_option maxRecDepth 100000 in
theorem b_X8_ask_84 {G : gG} {l : Launch} {p : Program} {e : Env} {s : State} {m : MethodId} {args : Array Value} {below : List Frame} {meth : Method} {c : Code} {h0 : g_H} {r : Int32} {h' : g_H} (X : gX G l yX8_ask.cls cX8_ask 7 (some .int) [] yX8_ask.name p s m args meth c) {k31 : Nat → Int32 → Int32 → Int32 → gM Int32} (K31 : w_X8_ask_31 G l p e s m args below meth c h0 r h' k31) : w_X8_ask_84 G l p e s m args below meth c h0 r h' (f_X8_ask_84 k31) := by
  have hx := X.1
  have hb := X.2.1
  have hown := X.2.2.2.1
  have hts := X.2.2.2.2.1
  intro a0 x1 x2 x3 h H locs cells slots ls hf hI hl
  unfold f_X8_ask_84 at hf
  refine lv_iinc (v := (x2 + (1 : Int32))) (lv' := [(2, .int (x2 + (1 : Int32))), (0, .ref a0), (1, .int x1), (3, .int x3)]) hx hb dX8_ask_84 hl (k := 2) rfl rfl (by decide) rfl (fun ls hl => ?_)
  exact b_X8_ask_87 X K31 _ _ _ _ _ _ _ _ _ _ hf hI (lv_sub hl [1, 2, 0, 3] rfl)
def f_X8_ask_52 (k31 : Nat → Int32 → Int32 → Int32 → gM Int32) : Nat → Nat → Int32 → Int32 → Int32 → Int32 → gM Int32
  | 0, _, _, _, _, _ => gFail
  | n + 1, a0, x1, x2, x3, x4 =>
    gIf ((10 : Int32) ≤ x4)
    (f_X8_ask_84 k31 a0 x1 x2 x3)
    (gB (gFR a0 7 37) fun v101 =>
    gB (gFR a0 7 26) fun v102 =>
    gB (gAI v102 0 x4) fun v103 =>
    gB (gSI v101 0 (((10 : Int32) * x2) + x4) v103) fun _ =>
    f_X8_ask_52 k31 n a0 x1 x2 x3 (x4 + (1 : Int32)))
set_option maxHeartbeats 4000000 in
set_option maxRecDepth 100000 in
theorem b_X8_ask_52 {G : gG} {l : Launch} {p : Program} {e : Env} {s : State} {m : MethodId} {args : Array Value} {below : List Frame} {meth : Method} {c : Code} {h0 : g_H} {r : Int32} {h' : g_H} (X : gX G l yX8_ask.cls cX8_ask 7 (some .int) [] yX8_ask.name p s m args meth c) {k31 : Nat → Int32 → Int32 → Int32 → gM Int32} (K31 : w_X8_ask_31 G l p e s m args below meth c h0 r h' k31) : ∀ n : Nat, w_X8_ask_52 G l p e s m args below meth c h0 r h' (f_X8_ask_52 k31 n) := by
  have hx := X.1
  have hb := X.2.1
  have hown := X.2.2.2.1
  have hts := X.2.2.2.2.1
  intro n
  induction n with
  | zero =>
    intro a0 x1 x2 x3 x4 h H locs cells slots ls hf hI hl
    exact (gFail_f hf).elim
  | succ n ih =>
    intro a0 x1 x2 x3 x4 h H locs cells slots ls hf hI hl
    rw [f_X8_ask_52] at hf
    refine lv_iload hx hb dX8_ask_52 (lv_at hl 4 rfl) ?_
    refine lv_bipush (v := (10 : Int32)) hx hb dX8_ask_54 (by decide) ?_
    refine lv_icmp_ge (tgt := 84) hx hb dX8_ask_56 (by decide) (fun c56 => ?_) (fun c56 => ?_)
    · have hf := g_t c56 hf
      exact b_X8_ask_84 X K31 _ _ _ _ _ _ _ _ _ _ hf hI (lv_sub hl [0, 1, 2, 3] rfl)
    · have hf := g_f c56 hf
      refine lv_aload_n hx hb dX8_ask_59 rfl (lv_at hl 0 rfl) ?_
      refine g_fr X hI hf fX8_37 q1481 rfl rfl dX8_ask_60 (fun v101 hf => ?_)
      refine lv_bipush (v := (10 : Int32)) hx hb dX8_ask_63 (by decide) ?_
      refine lv_iload_n hx hb dX8_ask_65 rfl (lv_at hl 2 rfl) ?_
      refine lv_imul hx hb dX8_ask_66 ?_
      refine lv_iload hx hb dX8_ask_67 (lv_at hl 4 rfl) ?_
      refine lv_iadd hx hb dX8_ask_69 ?_
      refine lv_aload_n hx hb dX8_ask_70 rfl (lv_at hl 0 rfl) ?_
      refine g_fr X hI hf fX8_26 q1470 rfl rfl dX8_ask_71 (fun v102 hf => ?_)
      refine lv_iload hx hb dX8_ask_74 (lv_at hl 4 rfl) ?_
      refine g_ai0 X hI hf dX8_ask_76 (fun v103 hf => ?_)
      refine g_si0 X hI hf dX8_ask_77 (fun h H locs hf hI => ?_)
      refine lv_iinc (v := (x4 + (1 : Int32))) (lv' := [(4, .int (x4 + (1 : Int32))), (0, .ref a0), (1, .int x1), (2, .int x2), (3, .int x3)]) hx hb dX8_ask_78 hl (k := 4) rfl rfl (by decide) rfl (fun ls hl => ?_)
      refine lv_goto (tgt := 52) hx hb dX8_ask_81 (by decide) ?_
      exact ih _ _ _ _ _ _ _ _ _ _ _ hf hI (lv_sub hl [1, 2, 3, 4, 0] rfl)
def f_X8_ask_153 (k103 : Nat → Int32 → Int32 → Int32 → Int32 → gM Int32) (a0 : Nat) (x2 : Int32) (x4 : Int32) (x5 : Int32) (x6 : Int32) (u0 : Int32) : gM Int32 :=
    gB (f_J13_min x4 x6) fun r101 =>
    k103 a0 x2 u0 r101 (x5 + (1 : Int32))
set_option maxHeartbeats 4000000 in
set_option maxRecDepth 100000 in
theorem b_X8_ask_153 {G : gG} {l : Launch} {p : Program} {e : Env} {s : State} {m : MethodId} {args : Array Value} {below : List Frame} {meth : Method} {c : Code} {h0 : g_H} {r : Int32} {h' : g_H} (X : gX G l yX8_ask.cls cX8_ask 7 (some .int) [] yX8_ask.name p s m args meth c) {k103 : Nat → Int32 → Int32 → Int32 → Int32 → gM Int32} (K103 : w_X8_ask_103 G l p e s m args below meth c h0 r h' k103) : w_X8_ask_153 G l p e s m args below meth c h0 r h' (f_X8_ask_153 k103) := by
  have hx := X.1
  have hb := X.2.1
  have hown := X.2.2.2.1
  have hts := X.2.2.2.2.1
  intro a0 x2 x4 x5 x6 u0 h H locs cells slots ls hf hI hl
  unfold f_X8_ask_153 at hf
  refine lv_istore_n (lv' := [(3, .int u0), (0, .ref a0), (2, .int x2), (4, .int x4), (5, .int x5), (6, .int x6)]) hx hb dX8_ask_153 rfl hl (by decide) rfl (fun ls hl => ?_)
  refine lv_iload hx hb dX8_ask_154 (lv_at hl 3 rfl) ?_
  refine lv_iload hx hb dX8_ask_156 (lv_at hl 5 rfl) ?_
  refine g_cBI hI hf (fun v9 h9 e9 l9 l9' => g_rS (b := 0) X hI l9 l9' ⟨Nat.le_refl _, Nat.le_refl _⟩ (As := [.int x4, .int x6]) (m_J13_min X.2.2.2.2.2.2.2.2.2.2.1 e9) ydJ13_min q1845 q740 q151 q741 rfl (Nat.le_of_ble_eq_true rfl) (Nat.le_of_ble_eq_true rfl) hl.1 rfl (Nat.le_of_ble_eq_true rfl) dX8_ask_158) (fun r101 h H locs cells slots hf hI => ?_)
  refine lv_istore (lv' := [(4, .int r101), (3, .int u0), (0, .ref a0), (2, .int x2), (5, .int x5), (6, .int x6)]) hx hb dX8_ask_161 hl (by decide) rfl (fun ls hl => ?_)
  refine lv_iinc (v := (x5 + (1 : Int32))) (lv' := [(5, .int (x5 + (1 : Int32))), (4, .int r101), (3, .int u0), (0, .ref a0), (2, .int x2), (6, .int x6)]) hx hb dX8_ask_163 hl (k := 4) rfl rfl (by decide) rfl (fun ls hl => ?_)
  refine lv_goto (tgt := 103) hx hb dX8_ask_166 (by decide) ?_
  exact K103 _ _ _ _ _ _ _ _ _ _ _ hf hI (lv_sub hl [3, 4, 2, 1, 0] rfl)
def f_X8_ask_138 (k103 : Nat → Int32 → Int32 → Int32 → Int32 → gM Int32) (a0 : Nat) (x2 : Int32) (x3 : Int32) (x4 : Int32) (x5 : Int32) (u0 : Int32) : gM Int32 :=
    gIf (x4 ≤ u0)
    (f_X8_ask_153 k103 a0 x2 x4 x5 u0 x3)
    (f_X8_ask_153 k103 a0 x2 x4 x5 u0 x5)
set_option maxHeartbeats 4000000 in
set_option maxRecDepth 100000 in
theorem b_X8_ask_138 {G : gG} {l : Launch} {p : Program} {e : Env} {s : State} {m : MethodId} {args : Array Value} {below : List Frame} {meth : Method} {c : Code} {h0 : g_H} {r : Int32} {h' : g_H} (X : gX G l yX8_ask.cls cX8_ask 7 (some .int) [] yX8_ask.name p s m args meth c) {k103 : Nat → Int32 → Int32 → Int32 → Int32 → gM Int32} (K103 : w_X8_ask_103 G l p e s m args below meth c h0 r h' k103) : w_X8_ask_138 G l p e s m args below meth c h0 r h' (f_X8_ask_138 k103) := by
  have hx := X.1
  have hb := X.2.1
  have hown := X.2.2.2.1
  have hts := X.2.2.2.2.1
  intro a0 x2 x3 x4 x5 u0 h H locs cells slots ls hf hI hl
  unfold f_X8_ask_138 at hf
  refine lv_istore (lv' := [(6, .int u0), (0, .ref a0), (2, .int x2), (3, .int x3), (4, .int x4), (5, .int x5)]) hx hb dX8_ask_138 hl (by decide) rfl (fun ls hl => ?_)
  refine lv_iload hx hb dX8_ask_140 (lv_at hl 0 rfl) ?_
  refine lv_iload hx hb dX8_ask_142 (lv_at hl 4 rfl) ?_
  refine lv_icmp_ge (tgt := 152) hx hb dX8_ask_144 (by decide) (fun c144 => ?_) (fun c144 => ?_)
  · have hf := g_t c144 hf
    refine lv_iload_n hx hb dX8_ask_152 rfl (lv_at hl 3 rfl) ?_
    exact b_X8_ask_153 X K103 _ _ _ _ _ _ _ _ _ _ _ _ hf hI (lv_sub hl [1, 2, 4, 5, 0] rfl)
  · have hf := g_f c144 hf
    refine lv_iload hx hb dX8_ask_147 (lv_at hl 5 rfl) ?_
    refine lv_goto (tgt := 153) hx hb dX8_ask_149 (by decide) ?_
    exact b_X8_ask_153 X K103 _ _ _ _ _ _ _ _ _ _ _ _ hf hI (lv_sub hl [1, 2, 4, 5, 0] rfl)
def f_X8_ask_169 (x3 : Int32) : gM Int32 :=
    (gRet x3)
set_option maxHeartbeats 4000000 in
set_option maxRecDepth 100000 in
theorem b_X8_ask_169 {G : gG} {l : Launch} {p : Program} {e : Env} {s : State} {m : MethodId} {args : Array Value} {below : List Frame} {meth : Method} {c : Code} {h0 : g_H} {r : Int32} {h' : g_H} (X : gX G l yX8_ask.cls cX8_ask 7 (some .int) [] yX8_ask.name p s m args meth c) : w_X8_ask_169 G l p e s m args below meth c h0 r h' (f_X8_ask_169) := by
  have hx := X.1
  have hb := X.2.1
  have hown := X.2.2.2.1
  have hts := X.2.2.2.2.1
  intro x3 h H locs cells slots ls hf hI hl
  unfold f_X8_ask_169 at hf
  refine lv_iload_n hx hb dX8_ask_169 rfl (lv_at hl 0 rfl) ?_
  cases gRet_e hf
  exact g_retI X hI rfl dX8_ask_170
def f_X8_ask_103 : Nat → Nat → Int32 → Int32 → Int32 → Int32 → gM Int32
  | 0, _, _, _, _, _ => gFail
  | n + 1, a0, x2, x3, x4, x5 =>
    gIf ((10 : Int32) ≤ x5)
    (f_X8_ask_169 x3)
    (gIf (x2 ≤ (1 : Int32))
    (f_X8_ask_169 x3)
    (gB (gCk a0 7) fun _ =>
    gB (f_X8_propIn a0 x5) fun r101 =>
    gIf (r101 = (-1 : Int32))
    (f_X8_ask_138 (f_X8_ask_103 n) a0 x2 x3 x4 x5 (100000000 : Int32))
    (gB (gCk a0 7) fun _ =>
    gB (f_X8_greatestPart a0 x2 x5) fun r102 =>
    f_X8_ask_138 (f_X8_ask_103 n) a0 x2 x3 x4 x5 r102)))
set_option maxHeartbeats 4000000 in
set_option maxRecDepth 100000 in
theorem b_X8_ask_103 {G : gG} {l : Launch} {p : Program} {e : Env} {s : State} {m : MethodId} {args : Array Value} {below : List Frame} {meth : Method} {c : Code} {h0 : g_H} {r : Int32} {h' : g_H} (X : gX G l yX8_ask.cls cX8_ask 7 (some .int) [] yX8_ask.name p s m args meth c) : ∀ n : Nat, w_X8_ask_103 G l p e s m args below meth c h0 r h' (f_X8_ask_103 n) := by
  have hx := X.1
  have hb := X.2.1
  have hown := X.2.2.2.1
  have hts := X.2.2.2.2.1
  intro n
  induction n with
  | zero =>
    intro a0 x2 x3 x4 x5 h H locs cells slots ls hf hI hl
    exact (gFail_f hf).elim
  | succ n ih =>
    intro a0 x2 x3 x4 x5 h H locs cells slots ls hf hI hl
    rw [f_X8_ask_103] at hf
    refine lv_iload hx hb dX8_ask_103 (lv_at hl 4 rfl) ?_
    refine lv_bipush (v := (10 : Int32)) hx hb dX8_ask_105 (by decide) ?_
    refine lv_icmp_ge (tgt := 169) hx hb dX8_ask_107 (by decide) (fun c107 => ?_) (fun c107 => ?_)
    · have hf := g_t c107 hf
      exact b_X8_ask_169 X _ _ _ _ _ _ _ hf hI (lv_sub hl [2] rfl)
    · have hf := g_f c107 hf
      refine lv_iload_n hx hb dX8_ask_110 rfl (lv_at hl 1 rfl) ?_
      refine lv_iconst (v := (1 : Int32)) hx hb dX8_ask_111 (by decide) ?_
      refine lv_icmp_le (tgt := 169) hx hb dX8_ask_112 (by decide) (fun c112 => ?_) (fun c112 => ?_)
      · have hf := g_t c112 hf
        exact b_X8_ask_169 X _ _ _ _ _ _ _ hf hI (lv_sub hl [2] rfl)
      · have hf := g_f c112 hf
        refine lv_aload_n hx hb dX8_ask_115 rfl (lv_at hl 0 rfl) ?_
        refine lv_iload hx hb dX8_ask_116 (lv_at hl 4 rfl) ?_
        obtain ⟨hs, hf⟩ := gCk_b hf
        refine g_cBI hI hf (fun v9 h9 e9 l9 l9' => g_rV X hI l9 l9' ⟨Nat.le_refl _, Nat.le_refl _⟩ (As := [.int x5]) (m_X8_propIn X.2.2.2.2.2.2.2.2.2.2.1 e9) ydX8_propIn hs rfl rfl q1655 q1657 qs58 q131 q1658 rfl (Nat.le_of_ble_eq_true rfl) (Nat.le_of_ble_eq_true rfl) hl.1 rfl (Nat.le_of_ble_eq_true rfl) dX8_ask_118) (fun r101 h H locs cells slots hf hI => ?_)
        refine lv_iconst (v := (-1 : Int32)) hx hb dX8_ask_121 (by decide) ?_
        refine lv_icmp_ne (tgt := 131) hx hb dX8_ask_122 (by decide) (fun c122 => ?_) (fun c122 => ?_)
        · have hf := g_f c122 hf
          refine lv_aload_n hx hb dX8_ask_131 rfl (lv_at hl 0 rfl) ?_
          refine lv_iload_n hx hb dX8_ask_132 rfl (lv_at hl 1 rfl) ?_
          refine lv_iload hx hb dX8_ask_133 (lv_at hl 4 rfl) ?_
          obtain ⟨hs, hf⟩ := gCk_b hf
          refine g_cBI hI hf (fun v9 h9 e9 l9 l9' => g_rV X hI l9 l9' ⟨Nat.le_refl _, Nat.le_refl _⟩ (As := [.int x2, .int x5]) (m_X8_greatestPart X.2.2.2.2.2.2.2.2.2.2.1 e9) ydX8_greatestPart hs rfl rfl q2057 q2059 qs115 q131 q2060 rfl (Nat.le_of_ble_eq_true rfl) (Nat.le_of_ble_eq_true rfl) hl.1 rfl (Nat.le_of_ble_eq_true rfl) dX8_ask_135) (fun r102 h H locs cells slots hf hI => ?_)
          exact b_X8_ask_138 X ih _ _ _ _ _ _ _ _ _ _ _ _ hf hI (lv_sub hl [0, 1, 2, 3, 4] rfl)
        · have hf := g_t c122 hf
          refine lv_ldcw (v := (100000000 : Int32)) hx hb hown (hts _ q1983) dX8_ask_125 ?_
          refine lv_goto (tgt := 138) hx hb dX8_ask_128 (by decide) ?_
          exact b_X8_ask_138 X ih _ _ _ _ _ _ _ _ _ _ _ _ hf hI (lv_sub hl [0, 1, 2, 3, 4] rfl)
def f_X8_ask_93 (a0 : Nat) (x2 : Int32) : gM Int32 :=
    f_X8_ask_103 gN a0 x2 (-1 : Int32) (100000000 : Int32) (0 : Int32)
set_option maxHeartbeats 4000000 in
set_option maxRecDepth 100000 in
theorem b_X8_ask_93 {G : gG} {l : Launch} {p : Program} {e : Env} {s : State} {m : MethodId} {args : Array Value} {below : List Frame} {meth : Method} {c : Code} {h0 : g_H} {r : Int32} {h' : g_H} (X : gX G l yX8_ask.cls cX8_ask 7 (some .int) [] yX8_ask.name p s m args meth c) : w_X8_ask_93 G l p e s m args below meth c h0 r h' (f_X8_ask_93) := by
  have hx := X.1
  have hb := X.2.1
  have hown := X.2.2.2.1
  have hts := X.2.2.2.2.1
  intro a0 x2 h H locs cells slots ls hf hI hl
  unfold f_X8_ask_93 at hf
  refine lv_iconst (v := (-1 : Int32)) hx hb dX8_ask_93 (by decide) ?_
  refine lv_istore_n (lv' := [(3, .int (-1 : Int32)), (0, .ref a0), (2, .int x2)]) hx hb dX8_ask_94 rfl hl (by decide) rfl (fun ls hl => ?_)
  refine lv_ldcw (v := (100000000 : Int32)) hx hb hown (hts _ q1983) dX8_ask_95 ?_
  refine lv_istore (lv' := [(4, .int (100000000 : Int32)), (3, .int (-1 : Int32)), (0, .ref a0), (2, .int x2)]) hx hb dX8_ask_98 hl (by decide) rfl (fun ls hl => ?_)
  refine lv_iconst (v := (0 : Int32)) hx hb dX8_ask_100 (by decide) ?_
  refine lv_istore (lv' := [(5, .int (0 : Int32)), (4, .int (100000000 : Int32)), (3, .int (-1 : Int32)), (0, .ref a0), (2, .int x2)]) hx hb dX8_ask_101 hl (by decide) rfl (fun ls hl => ?_)
  exact b_X8_ask_103 X gN _ _ _ _ _ _ _ _ _ _ _ hf hI (lv_sub hl [3, 4, 2, 1, 0] rfl)
def f_X8_ask_31 : Nat → Nat → Int32 → Int32 → Int32 → gM Int32
  | 0, _, _, _, _ => gFail
  | n + 1, a0, x1, x2, x3 =>
    gIf ((64 : Int32) ≤ x3)
    (f_X8_ask_93 a0 x2)
    (gB (gCk a0 7) fun _ =>
    gB (f_X8_fits a0 x3 x1) fun r101 =>
    gIf (r101 = 0)
    (f_X8_ask_87 (f_X8_ask_31 n) a0 x1 x2 x3)
    (f_X8_ask_52 (f_X8_ask_31 n) gN a0 x1 x2 x3 (0 : Int32)))
set_option maxHeartbeats 4000000 in
set_option maxRecDepth 100000 in
theorem b_X8_ask_31 {G : gG} {l : Launch} {p : Program} {e : Env} {s : State} {m : MethodId} {args : Array Value} {below : List Frame} {meth : Method} {c : Code} {h0 : g_H} {r : Int32} {h' : g_H} (X : gX G l yX8_ask.cls cX8_ask 7 (some .int) [] yX8_ask.name p s m args meth c) : ∀ n : Nat, w_X8_ask_31 G l p e s m args below meth c h0 r h' (f_X8_ask_31 n) := by
  have hx := X.1
  have hb := X.2.1
  have hown := X.2.2.2.1
  have hts := X.2.2.2.2.1
  intro n
  induction n with
  | zero =>
    intro a0 x1 x2 x3 h H locs cells slots ls hf hI hl
    exact (gFail_f hf).elim
  | succ n ih =>
    intro a0 x1 x2 x3 h H locs cells slots ls hf hI hl
    rw [f_X8_ask_31] at hf
    refine lv_iload_n hx hb dX8_ask_31 rfl (lv_at hl 3 rfl) ?_
    refine lv_bipush (v := (64 : Int32)) hx hb dX8_ask_32 (by decide) ?_
    refine lv_icmp_ge (tgt := 93) hx hb dX8_ask_34 (by decide) (fun c34 => ?_) (fun c34 => ?_)
    · have hf := g_t c34 hf
      exact b_X8_ask_93 X _ _ _ _ _ _ _ _ hf hI (lv_sub hl [0, 2] rfl)
    · have hf := g_f c34 hf
      refine lv_aload_n hx hb dX8_ask_37 rfl (lv_at hl 0 rfl) ?_
      refine lv_iload_n hx hb dX8_ask_38 rfl (lv_at hl 3 rfl) ?_
      refine lv_iload_n hx hb dX8_ask_39 rfl (lv_at hl 1 rfl) ?_
      obtain ⟨hs, hf⟩ := gCk_b hf
      refine g_cBI hI hf (fun v9 h9 e9 l9 l9' => g_rV X hI l9 l9' ⟨Nat.le_refl _, Nat.le_refl _⟩ (As := [.int x3, .int x1]) (m_X8_fits X.2.2.2.2.2.2.2.2.2.2.1 e9) ydX8_fits hs rfl rfl q2049 q2051 qs114 q131 q2052 rfl (Nat.le_of_ble_eq_true rfl) (Nat.le_of_ble_eq_true rfl) hl.1 rfl (Nat.le_of_ble_eq_true rfl) dX8_ask_40) (fun r101 h H locs cells slots hf hI => ?_)
      refine lv_if_ne (tgt := 49) hx hb dX8_ask_43 (by decide) (fun c43 => ?_) (fun c43 => ?_)
      · have hf := g_f c43 hf
        refine lv_iconst (v := (0 : Int32)) hx hb dX8_ask_49 (by decide) ?_
        refine lv_istore (lv' := [(4, .int (0 : Int32)), (0, .ref a0), (1, .int x1), (2, .int x2), (3, .int x3)]) hx hb dX8_ask_50 hl (by decide) rfl (fun ls hl => ?_)
        exact b_X8_ask_52 X ih gN _ _ _ _ _ _ _ _ _ _ _ hf hI (lv_sub hl [1, 2, 3, 4, 0] rfl)
      · have hf := g_t c43 hf
        refine lv_goto (tgt := 87) hx hb dX8_ask_46 (by decide) ?_
        exact b_X8_ask_87 X ih _ _ _ _ _ _ _ _ _ _ hf hI (lv_sub hl [0, 1, 2, 3] rfl)
def f_X8_ask_18 (a0 : Nat) (x1 : Int32) (b0 : Nat) (u1 : Int32) : gM Int32 :=
    gB (gCk b0 7) fun _ =>
    gB (f_X8_throwsIf b0 u1 (1 : Int32)) fun r101 =>
    gIf (r101 = 0)
    (f_X8_ask_31 gN a0 x1 (0 : Int32) (0 : Int32))
    ((gRet (0 : Int32)))
set_option maxHeartbeats 4000000 in
set_option maxRecDepth 100000 in
theorem b_X8_ask_18 {G : gG} {l : Launch} {p : Program} {e : Env} {s : State} {m : MethodId} {args : Array Value} {below : List Frame} {meth : Method} {c : Code} {h0 : g_H} {r : Int32} {h' : g_H} (X : gX G l yX8_ask.cls cX8_ask 7 (some .int) [] yX8_ask.name p s m args meth c) : w_X8_ask_18 G l p e s m args below meth c h0 r h' (f_X8_ask_18) := by
  have hx := X.1
  have hb := X.2.1
  have hown := X.2.2.2.1
  have hts := X.2.2.2.2.1
  intro a0 x1 b0 u1 h H locs cells slots ls hf hI hl
  unfold f_X8_ask_18 at hf
  refine lv_iconst (v := (1 : Int32)) hx hb dX8_ask_18 (by decide) ?_
  obtain ⟨hs, hf⟩ := gCk_b hf
  refine g_cBI hI hf (fun v9 h9 e9 l9 l9' => g_rV X hI l9 l9' ⟨Nat.le_refl _, Nat.le_refl _⟩ (As := [.int u1, .int (1 : Int32)]) (m_X8_throwsIf X.2.2.2.2.2.2.2.2.2.2.1 e9) ydX8_throwsIf hs rfl rfl q1736 q1738 qs72 q131 q1739 rfl (Nat.le_of_ble_eq_true rfl) (Nat.le_of_ble_eq_true rfl) hl.1 rfl (Nat.le_of_ble_eq_true rfl) dX8_ask_19) (fun r101 h H locs cells slots hf hI => ?_)
  refine lv_if_eq (tgt := 27) hx hb dX8_ask_22 (by decide) (fun c22 => ?_) (fun c22 => ?_)
  · have hf := g_t c22 hf
    refine lv_iconst (v := (0 : Int32)) hx hb dX8_ask_27 (by decide) ?_
    refine lv_istore_n (lv' := [(2, .int (0 : Int32)), (0, .ref a0), (1, .int x1)]) hx hb dX8_ask_28 rfl hl (by decide) rfl (fun ls hl => ?_)
    refine lv_iconst (v := (0 : Int32)) hx hb dX8_ask_29 (by decide) ?_
    refine lv_istore_n (lv' := [(3, .int (0 : Int32)), (2, .int (0 : Int32)), (0, .ref a0), (1, .int x1)]) hx hb dX8_ask_30 rfl hl (by decide) rfl (fun ls hl => ?_)
    exact b_X8_ask_31 X gN _ _ _ _ _ _ _ _ _ _ hf hI (lv_sub hl [2, 3, 1, 0] rfl)
  · have hf := g_f c22 hf
    refine lv_iconst (v := (0 : Int32)) hx hb dX8_ask_25 (by decide) ?_
    cases gRet_e hf
    exact g_retI X hI rfl dX8_ask_26
def f_X8_ask (a0 : Nat) (x1 : Int32) : gM Int32 :=
    gB (gCk a0 7) fun _ =>
    gB (f_X8_uses a0) fun _ =>
    gB (gCk a0 7) fun _ =>
    gB (f_X8_isTold a0 x1) fun r2 =>
    gIf (r2 = 0)
    (f_X8_ask_18 a0 x1 a0 (1 : Int32))
    (f_X8_ask_18 a0 x1 a0 (0 : Int32))
set_option maxHeartbeats 4000000 in
set_option maxRecDepth 100000 in
theorem m_X8_ask {G : gG} {l : Launch} (hfl : l.stackTraces = false) {a0 : Nat} {x1 : Int32} {h h' : g_H} {r : Int32} (hf : (f_X8_ask a0 x1).1 h = some (r, h')) : gMet G l yX8_ask (Cond.code yX8_ask cX8_ask 7 (some .int)) 11 252 [.ref a0, .int x1] h (.inl (g_wI r)) h' := by
  refine g_head hfl ((f_X8_ask a0 x1).2 h r h' hf) (plainFor_of_name (by decide)) (Nat.le_of_ble_eq_true rfl) (fun p e s m below meth c H locs cells slots ls X hI hl9 => ?_)
  have hl : lv_has ls 7 [(0, .ref a0), (1, .int x1)] := hl9
  have hx := X.1
  have hb := X.2.1
  have hown := X.2.2.2.1
  have hts := X.2.2.2.2.1
  unfold f_X8_ask at hf
  refine lv_aload_n hx hb dX8_ask_0 rfl (lv_at hl 0 rfl) ?_
  obtain ⟨hs, hf⟩ := gCk_b hf
  refine g_cBU hI hf (fun v9 h9 e9 l9 l9' => g_rV X hI l9 l9' ⟨Nat.le_refl _, Nat.le_refl _⟩ (As := []) (m_X8_uses X.2.2.2.2.2.2.2.2.2.2.1 e9) ydX8_uses hs rfl rfl q1591 q1593 qs45 q131 q1594 rfl (Nat.le_of_ble_eq_true rfl) (Nat.le_of_ble_eq_true rfl) hl.1 rfl (Nat.le_of_ble_eq_true rfl) dX8_ask_1) (fun r1 h H locs cells slots hf hI => ?_)
  refine lv_aload_n hx hb dX8_ask_4 rfl (lv_at hl 0 rfl) ?_
  refine lv_aload_n hx hb dX8_ask_5 rfl (lv_at hl 0 rfl) ?_
  refine lv_iload_n hx hb dX8_ask_6 rfl (lv_at hl 1 rfl) ?_
  obtain ⟨hs, hf⟩ := gCk_b hf
  refine g_cBI hI hf (fun v9 h9 e9 l9 l9' => g_rV X hI l9 l9' ⟨Nat.le_refl _, Nat.le_refl _⟩ (As := [.int x1]) (m_X8_isTold X.2.2.2.2.2.2.2.2.2.2.1 e9) ydX8_isTold hs rfl rfl q2045 q2047 qs113 q131 q2048 rfl (Nat.le_of_ble_eq_true rfl) (Nat.le_of_ble_eq_true rfl) hl.1 rfl (Nat.le_of_ble_eq_true rfl) dX8_ask_7) (fun r2 h H locs cells slots hf hI => ?_)
  refine lv_if_ne (tgt := 17) hx hb dX8_ask_10 (by decide) (fun c10 => ?_) (fun c10 => ?_)
  · have hf := g_f c10 hf
    refine lv_iconst (v := (0 : Int32)) hx hb dX8_ask_17 (by decide) ?_
    exact b_X8_ask_18 X _ _ _ _ _ _ _ _ _ _ hf hI (lv_sub hl [0, 1] rfl)
  · have hf := g_t c10 hf
    refine lv_iconst (v := (1 : Int32)) hx hb dX8_ask_13 (by decide) ?_
    refine lv_goto (tgt := 18) hx hb dX8_ask_14 (by decide) ?_
    exact b_X8_ask_18 X _ _ _ _ _ _ _ _ _ _ hf hI (lv_sub hl [0, 1] rfl)
/-! X1_found -/
abbrev w_X1_found_53 (G : gG) (l : Launch) (p : Program) (e : Env) (s : State) (m : MethodId) (args : Array Value) (below : List Frame) (meth : Method) (c : Code) (h0 : g_H) (r : (Int32 ⊕ gE)) (h' : g_H) (k : Nat → Int32 → Int32 → Int32 → gM (Int32 ⊕ gE)) : Prop := ∀ (a0 : Nat) (x5 : Int32) (u0 : Int32) (u1 : Int32) (h : g_H) (H : Heap) (locs : List Loc) (cells slots : Nat) (ls : Array Slot), (k a0 x5 u0 u1).1 h = some (r, h') → gI G h0 h H locs cells slots → lv_has ls 6 [(0, .ref a0), (5, .int x5)] → W p l e (g_rm 102 1893 h0 h') s m args below meth c H locs cells slots (gQ G below args s h0 h' (g_w g_wI r)) (F0 m 53 ls [.int u1, .int u0])
abbrev w_X1_found_62 (G : gG) (l : Launch) (p : Program) (e : Env) (s : State) (m : MethodId) (args : Array Value) (below : List Frame) (meth : Method) (c : Code) (h0 : g_H) (r : (Int32 ⊕ gE)) (h' : g_H) (k : Int32 → gM (Int32 ⊕ gE)) : Prop := ∀ (x4 : Int32) (h : g_H) (H : Heap) (locs : List Loc) (cells slots : Nat) (ls : Array Slot), (k x4).1 h = some (r, h') → gI G h0 h H locs cells slots → lv_has ls 6 [(4, .int x4)] → W p l e (g_rm 102 1893 h0 h') s m args below meth c H locs cells slots (gQ G below args s h0 h' (g_w g_wI r)) (F0 m 62 ls [])
abbrev w_X1_found_27 (G : gG) (l : Launch) (p : Program) (e : Env) (s : State) (m : MethodId) (args : Array Value) (below : List Frame) (meth : Method) (c : Code) (h0 : g_H) (r : (Int32 ⊕ gE)) (h' : g_H) (k : Nat → Int32 → Int32 → gM (Int32 ⊕ gE)) : Prop := ∀ (a0 : Nat) (x4 : Int32) (x5 : Int32) (h : g_H) (H : Heap) (locs : List Loc) (cells slots : Nat) (ls : Array Slot), (k a0 x4 x5).1 h = some (r, h') → gI G h0 h H locs cells slots → lv_has ls 6 [(0, .ref a0), (4, .int x4), (5, .int x5)] → W p l e (g_rm 102 1893 h0 h') s m args below meth c H locs cells slots (gQ G below args s h0 h' (g_w g_wI r)) (F0 m 27 ls [])
abbrev w_X1_found_22 (G : gG) (l : Launch) (p : Program) (e : Env) (s : State) (m : MethodId) (args : Array Value) (below : List Frame) (meth : Method) (c : Code) (h0 : g_H) (r : (Int32 ⊕ gE)) (h' : g_H) (k : Nat → Int32 → gM (Int32 ⊕ gE)) : Prop := ∀ (a0 : Nat) (u0 : Int32) (h : g_H) (H : Heap) (locs : List Loc) (cells slots : Nat) (ls : Array Slot), (k a0 u0).1 h = some (r, h') → gI G h0 h H locs cells slots → lv_has ls 6 [(0, .ref a0)] → W p l e (g_rm 102 1893 h0 h') s m args below meth c H locs cells slots (gQ G below args s h0 h' (g_w g_wI r)) (F0 m 22 ls [.int u0])
def f_X1_found_53 (k27 : Nat → Int32 → Int32 → gM (Int32 ⊕ gE)) (a0 : Nat) (x5 : Int32) (u0 : Int32) (u1 : Int32) : gM (Int32 ⊕ gE) :=
    k27 a0 (u0 &&& u1) (x5 + (1 : Int32))
set_option maxHeartbeats 4000000 in
set_option maxRecDepth 100000 in
theorem b_X1_found_53 {G : gG} {l : Launch} {p : Program} {e : Env} {s : State} {m : MethodId} {args : Array Value} {below : List Frame} {meth : Method} {c : Code} {h0 : g_H} {r : (Int32 ⊕ gE)} {h' : g_H} (X : gX G l yX1_found.cls cX1_found 6 (some .int) [] yX1_found.name p s m args meth c) {k27 : Nat → Int32 → Int32 → gM (Int32 ⊕ gE)} (K27 : w_X1_found_27 G l p e s m args below meth c h0 r h' k27) : w_X1_found_53 G l p e s m args below meth c h0 r h' (f_X1_found_53 k27) := by
  have hx := X.1
  have hb := X.2.1
  have hown := X.2.2.2.1
  have hts := X.2.2.2.2.1
  intro a0 x5 u0 u1 h H locs cells slots ls hf hI hl
  unfold f_X1_found_53 at hf
  refine lv_iand hx hb dX1_found_53 ?_
  refine lv_istore (lv' := [(4, .int (u0 &&& u1)), (0, .ref a0), (5, .int x5)]) hx hb dX1_found_54 hl (by decide) rfl (fun ls hl => ?_)
  refine lv_iinc (v := (x5 + (1 : Int32))) (lv' := [(5, .int (x5 + (1 : Int32))), (4, .int (u0 &&& u1)), (0, .ref a0)]) hx hb dX1_found_56 hl (k := 2) rfl rfl (by decide) rfl (fun ls hl => ?_)
  refine lv_goto (tgt := 27) hx hb dX1_found_59 (by decide) ?_
  exact K27 _ _ _ _ _ _ _ _ _ hf hI (lv_sub hl [2, 1, 0] rfl)
def f_X1_found_62 (x4 : Int32) : gM (Int32 ⊕ gE) :=
    (gRet (.inl x4))
set_option maxHeartbeats 4000000 in
set_option maxRecDepth 100000 in
theorem b_X1_found_62 {G : gG} {l : Launch} {p : Program} {e : Env} {s : State} {m : MethodId} {args : Array Value} {below : List Frame} {meth : Method} {c : Code} {h0 : g_H} {r : (Int32 ⊕ gE)} {h' : g_H} (X : gX G l yX1_found.cls cX1_found 6 (some .int) [] yX1_found.name p s m args meth c) : w_X1_found_62 G l p e s m args below meth c h0 r h' (f_X1_found_62) := by
  have hx := X.1
  have hb := X.2.1
  have hown := X.2.2.2.1
  have hts := X.2.2.2.2.1
  intro x4 h H locs cells slots ls hf hI hl
  unfold f_X1_found_62 at hf
  refine lv_iload hx hb dX1_found_62 (lv_at hl 0 rfl) ?_
  cases gRet_e hf
  exact g_retI X hI rfl dX1_found_64
def f_X1_found_27 : Nat → Nat → Int32 → Int32 → gM (Int32 ⊕ gE)
  | 0, _, _, _ => gFail
  | n + 1, a0, x4, x5 =>
    gIf ((64 : Int32) ≤ x5)
    (f_X1_found_62 x4)
    (gB (gFR a0 0 10) fun v101 =>
    gB (gAI v101 3 x5) fun v102 =>
    gIf (v102 = 0)
    (f_X1_found_53 (f_X1_found_27 n) a0 x5 x4 x4)
    (f_X1_found_53 (f_X1_found_27 n) a0 x5 x4 x5))
set_option maxHeartbeats 4000000 in
set_option maxRecDepth 100000 in
theorem b_X1_found_27 {G : gG} {l : Launch} {p : Program} {e : Env} {s : State} {m : MethodId} {args : Array Value} {below : List Frame} {meth : Method} {c : Code} {h0 : g_H} {r : (Int32 ⊕ gE)} {h' : g_H} (X : gX G l yX1_found.cls cX1_found 6 (some .int) [] yX1_found.name p s m args meth c) : ∀ n : Nat, w_X1_found_27 G l p e s m args below meth c h0 r h' (f_X1_found_27 n) := by
  have hx := X.1
  have hb := X.2.1
  have hown := X.2.2.2.1
  have hts := X.2.2.2.2.1
  intro n
  induction n with
  | zero =>
    intro a0 x4 x5 h H locs cells slots ls hf hI hl
    exact (gFail_f hf).elim
  | succ n ih =>
    intro a0 x4 x5 h H locs cells slots ls hf hI hl
    rw [f_X1_found_27] at hf
    refine lv_iload hx hb dX1_found_27 (lv_at hl 2 rfl) ?_
    refine lv_bipush (v := (64 : Int32)) hx hb dX1_found_29 (by decide) ?_
    refine lv_icmp_ge (tgt := 62) hx hb dX1_found_31 (by decide) (fun c31 => ?_) (fun c31 => ?_)
    · have hf := g_t c31 hf
      exact b_X1_found_62 X _ _ _ _ _ _ _ hf hI (lv_sub hl [1] rfl)
    · have hf := g_f c31 hf
      refine lv_iload hx hb dX1_found_34 (lv_at hl 1 rfl) ?_
      refine lv_aload_n hx hb dX1_found_36 rfl (lv_at hl 0 rfl) ?_
      refine g_fr X hI hf fX1_10 q471 rfl rfl dX1_found_37 (fun v101 hf => ?_)
      refine lv_iload hx hb dX1_found_40 (lv_at hl 2 rfl) ?_
      refine g_ai3 X hI hf dX1_found_42 (fun v102 hf => ?_)
      refine lv_if_eq (tgt := 51) hx hb dX1_found_43 (by decide) (fun c43 => ?_) (fun c43 => ?_)
      · have hf := g_t c43 hf
        refine lv_iload hx hb dX1_found_51 (lv_at hl 1 rfl) ?_
        exact b_X1_found_53 X ih _ _ _ _ _ _ _ _ _ _ hf hI (lv_sub hl [0, 2] rfl)
      · have hf := g_f c43 hf
        refine lv_iload hx hb dX1_found_46 (lv_at hl 2 rfl) ?_
        refine lv_goto (tgt := 53) hx hb dX1_found_48 (by decide) ?_
        exact b_X1_found_53 X ih _ _ _ _ _ _ _ _ _ _ hf hI (lv_sub hl [0, 2] rfl)
def f_X1_found_22 (a0 : Nat) (u0 : Int32) : gM (Int32 ⊕ gE) :=
    f_X1_found_27 gN a0 u0 (0 : Int32)
set_option maxHeartbeats 4000000 in
set_option maxRecDepth 100000 in
theorem b_X1_found_22 {G : gG} {l : Launch} {p : Program} {e : Env} {s : State} {m : MethodId} {args : Array Value} {below : List Frame} {meth : Method} {c : Code} {h0 : g_H} {r : (Int32 ⊕ gE)} {h' : g_H} (X : gX G l yX1_found.cls cX1_found 6 (some .int) [] yX1_found.name p s m args meth c) : w_X1_found_22 G l p e s m args below meth c h0 r h' (f_X1_found_22) := by
  have hx := X.1
  have hb := X.2.1
  have hown := X.2.2.2.1
  have hts := X.2.2.2.2.1
  intro a0 u0 h H locs cells slots ls hf hI hl
  unfold f_X1_found_22 at hf
  refine lv_istore (lv' := [(4, .int u0), (0, .ref a0)]) hx hb dX1_found_22 hl (by decide) rfl (fun ls hl => ?_)
  refine lv_iconst (v := (0 : Int32)) hx hb dX1_found_24 (by decide) ?_
  refine lv_istore (lv' := [(5, .int (0 : Int32)), (4, .int u0), (0, .ref a0)]) hx hb dX1_found_25 hl (by decide) rfl (fun ls hl => ?_)
  exact b_X1_found_27 X gN _ _ _ _ _ _ _ _ _ hf hI (lv_sub hl [2, 1, 0] rfl)
def f_X1_found (a0 : Nat) (x1 : Int32) (x2 : Int32) : gM (Int32 ⊕ gE) :=
    gB (gCk a0 0) fun _ =>
    gT (f_X1_hears a0 x1) fun r1 =>
    gIf (x2 = 0)
    ((gRet (.inl r1)))
    (gIf (r1 = 0)
    (f_X1_found_22 a0 (0 : Int32))
    (f_X1_found_22 a0 (63 : Int32)))
set_option maxHeartbeats 4000000 in
set_option maxRecDepth 100000 in
theorem m_X1_found {G : gG} {l : Launch} (hfl : l.stackTraces = false) {a0 : Nat} {x1 : Int32} {x2 : Int32} {h h' : g_H} {r : (Int32 ⊕ gE)} (hf : (f_X1_found a0 x1 x2).1 h = some (r, h')) : gMet G l yX1_found (Cond.code yX1_found cX1_found 6 (some .int)) 102 1893 [.ref a0, .int x1, .int x2] h (g_w g_wI r) h' := by
  refine g_head hfl ((f_X1_found a0 x1 x2).2 h r h' hf) (plainFor_of_name (by decide)) (Nat.le_of_ble_eq_true rfl) (fun p e s m below meth c H locs cells slots ls X hI hl9 => ?_)
  have hl : lv_has ls 6 [(0, .ref a0), (1, .int x1), (2, .int x2)] := hl9
  have hx := X.1
  have hb := X.2.1
  have hown := X.2.2.2.1
  have hts := X.2.2.2.2.1
  unfold f_X1_found at hf
  refine lv_aload_n hx hb dX1_found_0 rfl (lv_at hl 0 rfl) ?_
  refine lv_iload_n hx hb dX1_found_1 rfl (lv_at hl 1 rfl) ?_
  obtain ⟨hs, hf⟩ := gCk_b hf
  refine g_cTI X hI (by decide) hf (fun v9 h9 e9 l9 l9' => g_rV X hI l9 l9' ⟨Nat.le_refl _, Nat.le_refl _⟩ (As := [.int x1]) (m_X1_hears X.2.2.2.2.2.2.2.2.2.2.1 e9) ydX1_hears hs rfl rfl q1331 q1333 qs39 q121 q1334 rfl (Nat.le_of_ble_eq_true rfl) (Nat.le_of_ble_eq_true rfl) hl.1 rfl (Nat.le_of_ble_eq_true rfl) dX1_found_2) (fun r1 h H locs cells slots hf hI => ?_)
  refine lv_istore_n (lv' := [(3, .int r1), (0, .ref a0), (1, .int x1), (2, .int x2)]) hx hb dX1_found_5 rfl hl (by decide) rfl (fun ls hl => ?_)
  refine lv_iload_n hx hb dX1_found_6 rfl (lv_at hl 3 rfl) ?_
  refine lv_if_ne (tgt := 12) hx hb dX1_found_7 (by decide) (fun c7 => ?_) (fun c7 => ?_)
  · have hf := g_f c7 hf
    refine lv_iload_n hx hb dX1_found_12 rfl (lv_at hl 0 rfl) ?_
    refine lv_if_ne (tgt := 20) hx hb dX1_found_13 (by decide) (fun c13 => ?_) (fun c13 => ?_)
    · have hf := g_f c13 hf
      refine lv_bipush (v := (63 : Int32)) hx hb dX1_found_20 (by decide) ?_
      exact b_X1_found_22 X _ _ _ _ _ _ _ _ hf hI (lv_sub hl [1] rfl)
    · have hf := g_t c13 hf
      refine lv_iconst (v := (0 : Int32)) hx hb dX1_found_16 (by decide) ?_
      refine lv_goto (tgt := 22) hx hb dX1_found_17 (by decide) ?_
      exact b_X1_found_22 X _ _ _ _ _ _ _ _ hf hI (lv_sub hl [1] rfl)
  · have hf := g_t c7 hf
    refine lv_iload_n hx hb dX1_found_10 rfl (lv_at hl 0 rfl) ?_
    cases gRet_e hf
    exact g_retI X hI rfl dX1_found_11
/-! X0_found -/
def f_X0_found (a0 : Nat) (x1 : Int32) (x2 : Int32) (a3 : Nat) : gM Int32 :=
    gB (gCk a0 0) fun _ =>
    gB (f_X1_found a0 x1 x2) fun r9 => match r9 with
    | .inl r1 => (gB (gSI a3 2 (0 : Int32) (r1)) fun _ =>
    (gRet (0 : Int32)))
    | .inr x9 => (gIf (x9.1 = 17)
    ((gRet (1 : Int32)))
    (gFail))
set_option maxHeartbeats 4000000 in
set_option maxRecDepth 100000 in
theorem m_X0_found {G : gG} {l : Launch} (hfl : l.stackTraces = false) {a0 : Nat} {x1 : Int32} {x2 : Int32} {a3 : Nat} {h h' : g_H} {r : Int32} (hf : (f_X0_found a0 x1 x2 a3).1 h = some (r, h')) : gMet G l yX0_found (Cond.codeWith yX0_found cX0_found 5 (some .int) [(0, 10, 13, 13)]) 103 1918 [.ref a0, .int x1, .int x2, .ref a3] h (.inl (g_wI r)) h' := by
  refine g_headW hfl ((f_X0_found a0 x1 x2 a3).2 h r h' hf) (plainFor_of_name (by decide)) (Nat.le_of_ble_eq_true rfl) (fun p e s m below meth c H locs cells slots ls X hI hl9 => ?_)
  have hl : lv_has ls 5 [(0, .ref a0), (1, .int x1), (2, .int x2), (3, .ref a3)] := hl9
  have hx := X.1
  have hb := X.2.1
  have hown := X.2.2.2.1
  have hts := X.2.2.2.2.1
  unfold f_X0_found at hf
  refine lv_aload_n hx hb dX0_found_0 rfl (lv_at hl 3 rfl) ?_
  refine lv_iconst (v := (0 : Int32)) hx hb dX0_found_1 (by decide) ?_
  refine lv_aload_n hx hb dX0_found_2 rfl (lv_at hl 0 rfl) ?_
  refine lv_iload_n hx hb dX0_found_3 rfl (lv_at hl 1 rfl) ?_
  refine lv_iload_n hx hb dX0_found_4 rfl (lv_at hl 2 rfl) ?_
  obtain ⟨hs, hf⟩ := gCk_b hf
  refine g_cHI hI hf (fun v9 h9 e9 l9 l9' => g_rV X hI l9 l9' ⟨Nat.le_refl _, Nat.le_refl _⟩ (As := [.int x1, .int x2]) (m_X1_found X.2.2.2.2.2.2.2.2.2.2.1 e9) ydX1_found hs rfl rfl q1327 q1328 q1329 q121 q1330 rfl (Nat.le_of_ble_eq_true rfl) (Nat.le_of_ble_eq_true rfl) hl.1 rfl (Nat.le_of_ble_eq_true rfl) dX0_found_5) (fun r1 h H locs cells slots hf hI => ?_) ?_
  · refine lv_i2l hx hb dX0_found_8 rfl ?_
    refine g_si2 X hI hf dX0_found_9 (fun h H locs hf hI => ?_)
    refine lv_goto (tgt := 17) hx hb dX0_found_10 (by decide) ?_
    refine lv_iconst (v := (0 : Int32)) hx hb dX0_found_17 (by decide) ?_
    cases gRet_e hf
    exact g_retI X hI rfl dX0_found_18
  · intro ci9 x9 h H locs cells slots r9 ce9 hf hr9 hI hce hcv hcl
    by_cases k0 : ci9 = 17
    · subst k0
      cases hr9
      have hf := g_t rfl hf
      refine g_catch0 X hI (name := "java/lang/IllegalArgumentException") rfl (by rfl) (by decide) (by decide) q785 q922 hce hcv hcl ?_
      refine lv_astore (lv' := [(4, .ref x9), (0, .ref a0), (1, .int x1), (2, .int x2), (3, .ref a3)]) hx hb dX0_found_13 hl (by decide) rfl (fun ls hl => ?_)
      refine lv_iconst (v := (1 : Int32)) hx hb dX0_found_15 (by decide) ?_
      cases gRet_e hf
      exact g_retI X hI rfl dX0_found_16
    have hf := g_f k0 hf
    exact (gFail_f hf).elim
/-! X8_found -/
abbrev w_X8_found_66 (G : gG) (l : Launch) (p : Program) (e : Env) (s : State) (m : MethodId) (args : Array Value) (below : List Frame) (meth : Method) (c : Code) (h0 : g_H) (r : Int32) (h' : g_H) (k : Nat → Int32 → Int32 → Int32 → Int32 → Int32 → gM Int32) : Prop := ∀ (a0 : Nat) (x1 : Int32) (x2 : Int32) (x3 : Int32) (x4 : Int32) (x5 : Int32) (h : g_H) (H : Heap) (locs : List Loc) (cells slots : Nat) (ls : Array Slot), (k a0 x1 x2 x3 x4 x5).1 h = some (r, h') → gI G h0 h H locs cells slots → lv_has ls 6 [(0, .ref a0), (1, .int x1), (2, .int x2), (3, .int x3), (4, .int x4), (5, .int x5)] → W p l e (g_rm 11 252 h0 h') s m args below meth c H locs cells slots (gQ G below args s h0 h' (.inl (g_wI r))) (F0 m 66 ls [])
abbrev w_X8_found_90 (G : gG) (l : Launch) (p : Program) (e : Env) (s : State) (m : MethodId) (args : Array Value) (below : List Frame) (meth : Method) (c : Code) (h0 : g_H) (r : Int32) (h' : g_H) (k : Int32 → gM Int32) : Prop := ∀ (u0 : Int32) (h : g_H) (H : Heap) (locs : List Loc) (cells slots : Nat) (ls : Array Slot), (k u0).1 h = some (r, h') → gI G h0 h H locs cells slots → lv_has ls 6 [] → W p l e (g_rm 11 252 h0 h') s m args below meth c H locs cells slots (gQ G below args s h0 h' (.inl (g_wI r))) (F0 m 90 ls [.int u0])
abbrev w_X8_found_72 (G : gG) (l : Launch) (p : Program) (e : Env) (s : State) (m : MethodId) (args : Array Value) (below : List Frame) (meth : Method) (c : Code) (h0 : g_H) (r : Int32) (h' : g_H) (k : Int32 → Int32 → Int32 → gM Int32) : Prop := ∀ (x2 : Int32) (x3 : Int32) (x4 : Int32) (h : g_H) (H : Heap) (locs : List Loc) (cells slots : Nat) (ls : Array Slot), (k x2 x3 x4).1 h = some (r, h') → gI G h0 h H locs cells slots → lv_has ls 6 [(2, .int x2), (3, .int x3), (4, .int x4)] → W p l e (g_rm 11 252 h0 h') s m args below meth c H locs cells slots (gQ G below args s h0 h' (.inl (g_wI r))) (F0 m 72 ls [])
abbrev w_X8_found_36 (G : gG) (l : Launch) (p : Program) (e : Env) (s : State) (m : MethodId) (args : Array Value) (below : List Frame) (meth : Method) (c : Code) (h0 : g_H) (r : Int32) (h' : g_H) (k : Nat → Int32 → Int32 → Int32 → Int32 → Int32 → gM Int32) : Prop := ∀ (a0 : Nat) (x1 : Int32) (x2 : Int32) (x3 : Int32) (x4 : Int32) (x5 : Int32) (h : g_H) (H : Heap) (locs : List Loc) (cells slots : Nat) (ls : Array Slot), (k a0 x1 x2 x3 x4 x5).1 h = some (r, h') → gI G h0 h H locs cells slots → lv_has ls 6 [(0, .ref a0), (1, .int x1), (2, .int x2), (3, .int x3), (4, .int x4), (5, .int x5)] → W p l e (g_rm 11 252 h0 h') s m args below meth c H locs cells slots (gQ G below args s h0 h' (.inl (g_wI r))) (F0 m 36 ls [])
abbrev w_X8_found_18 (G : gG) (l : Launch) (p : Program) (e : Env) (s : State) (m : MethodId) (args : Array Value) (below : List Frame) (meth : Method) (c : Code) (h0 : g_H) (r : Int32) (h' : g_H) (k : Nat → Int32 → Int32 → Nat → Int32 → gM Int32) : Prop := ∀ (a0 : Nat) (x1 : Int32) (x2 : Int32) (b0 : Nat) (u1 : Int32) (h : g_H) (H : Heap) (locs : List Loc) (cells slots : Nat) (ls : Array Slot), (k a0 x1 x2 b0 u1).1 h = some (r, h') → gI G h0 h H locs cells slots → lv_has ls 6 [(0, .ref a0), (1, .int x1), (2, .int x2)] → W p l e (g_rm 11 252 h0 h') s m args below meth c H locs cells slots (gQ G below args s h0 h' (.inl (g_wI r))) (F0 m 18 ls [.int u1, .ref b0])
def f_X8_found_66 (k36 : Nat → Int32 → Int32 → Int32 → Int32 → Int32 → gM Int32) (a0 : Nat) (x1 : Int32) (x2 : Int32) (x3 : Int32) (x4 : Int32) (x5 : Int32) : gM Int32 :=
    k36 a0 x1 x2 x3 x4 (x5 + (1 : Int32))
set_option maxHeartbeats 4000000 in
set_option maxRecDepth 100000 in
theorem b_X8_found_66 {G : gG} {l : Launch} {p : Program} {e : Env} {s : State} {m : MethodId} {args : Array Value} {below : List Frame} {meth : Method} {c : Code} {h0 : g_H} {r : Int32} {h' : g_H} (X : gX G l yX8_found.cls cX8_found 6 (some .int) [] yX8_found.name p s m args meth c) {k36 : Nat → Int32 → Int32 → Int32 → Int32 → Int32 → gM Int32} (K36 : w_X8_found_36 G l p e s m args below meth c h0 r h' k36) : w_X8_found_66 G l p e s m args below meth c h0 r h' (f_X8_found_66 k36) := by
  have hx := X.1
  have hb := X.2.1
  have hown := X.2.2.2.1
  have hts := X.2.2.2.2.1
  intro a0 x1 x2 x3 x4 x5 h H locs cells slots ls hf hI hl
  unfold f_X8_found_66 at hf
  refine lv_iinc (v := (x5 + (1 : Int32))) (lv' := [(5, .int (x5 + (1 : Int32))), (0, .ref a0), (1, .int x1), (2, .int x2), (3, .int x3), (4, .int x4)]) hx hb dX8_found_66 hl (k := 5) rfl rfl (by decide) rfl (fun ls hl => ?_)
  refine lv_goto (tgt := 36) hx hb dX8_found_69 (by decide) ?_
  exact K36 _ _ _ _ _ _ _ _ _ _ _ _ hf hI (lv_sub hl [1, 2, 3, 4, 5, 0] rfl)
def f_X8_found_90 (u0 : Int32) : gM Int32 :=
    (gRet u0)
set_option maxHeartbeats 4000000 in
set_option maxRecDepth 100000 in
theorem b_X8_found_90 {G : gG} {l : Launch} {p : Program} {e : Env} {s : State} {m : MethodId} {args : Array Value} {below : List Frame} {meth : Method} {c : Code} {h0 : g_H} {r : Int32} {h' : g_H} (X : gX G l yX8_found.cls cX8_found 6 (some .int) [] yX8_found.name p s m args meth c) : w_X8_found_90 G l p e s m args below meth c h0 r h' (f_X8_found_90) := by
  have hx := X.1
  have hb := X.2.1
  have hown := X.2.2.2.1
  have hts := X.2.2.2.2.1
  intro u0 h H locs cells slots ls hf hI hl
  unfold f_X8_found_90 at hf
  cases gRet_e hf
  exact g_retI X hI rfl dX8_found_90
def f_X8_found_72 (x2 : Int32) (x3 : Int32) (x4 : Int32) : gM Int32 :=
    gIf (x2 = 0)
    (f_X8_found_90 x3)
    (gIf (x3 = 0)
    (f_X8_found_90 (0 : Int32))
    (f_X8_found_90 x4))
set_option maxHeartbeats 4000000 in
set_option maxRecDepth 100000 in
theorem b_X8_found_72 {G : gG} {l : Launch} {p : Program} {e : Env} {s : State} {m : MethodId} {args : Array Value} {below : List Frame} {meth : Method} {c : Code} {h0 : g_H} {r : Int32} {h' : g_H} (X : gX G l yX8_found.cls cX8_found 6 (some .int) [] yX8_found.name p s m args meth c) : w_X8_found_72 G l p e s m args below meth c h0 r h' (f_X8_found_72) := by
  have hx := X.1
  have hb := X.2.1
  have hown := X.2.2.2.1
  have hts := X.2.2.2.2.1
  intro x2 x3 x4 h H locs cells slots ls hf hI hl
  unfold f_X8_found_72 at hf
  refine lv_iload_n hx hb dX8_found_72 rfl (lv_at hl 0 rfl) ?_
  refine lv_if_ne (tgt := 80) hx hb dX8_found_73 (by decide) (fun c73 => ?_) (fun c73 => ?_)
  · have hf := g_f c73 hf
    refine lv_iload_n hx hb dX8_found_80 rfl (lv_at hl 1 rfl) ?_
    refine lv_if_ne (tgt := 88) hx hb dX8_found_81 (by decide) (fun c81 => ?_) (fun c81 => ?_)
    · have hf := g_f c81 hf
      refine lv_iload hx hb dX8_found_88 (lv_at hl 2 rfl) ?_
      exact b_X8_found_90 X _ _ _ _ _ _ _ hf hI (lv_sub hl [] rfl)
    · have hf := g_t c81 hf
      refine lv_iconst (v := (0 : Int32)) hx hb dX8_found_84 (by decide) ?_
      refine lv_goto (tgt := 90) hx hb dX8_found_85 (by decide) ?_
      exact b_X8_found_90 X _ _ _ _ _ _ _ hf hI (lv_sub hl [] rfl)
  · have hf := g_t c73 hf
    refine lv_iload_n hx hb dX8_found_76 rfl (lv_at hl 1 rfl) ?_
    refine lv_goto (tgt := 90) hx hb dX8_found_77 (by decide) ?_
    exact b_X8_found_90 X _ _ _ _ _ _ _ hf hI (lv_sub hl [] rfl)
def f_X8_found_36 : Nat → Nat → Int32 → Int32 → Int32 → Int32 → Int32 → gM Int32
  | 0, _, _, _, _, _, _ => gFail
  | n + 1, a0, x1, x2, x3, x4, x5 =>
    gIf ((64 : Int32) ≤ x5)
    (f_X8_found_72 x2 x3 x4)
    (gB (gCk a0 7) fun _ =>
    gB (f_X8_fits a0 x5 x1) fun r101 =>
    gIf (r101 = 0)
    (f_X8_found_66 (f_X8_found_36 n) a0 x1 x2 x3 x4 x5)
    (f_X8_found_66 (f_X8_found_36 n) a0 x1 x2 (x3 + (1 : Int32)) (x4 &&& x5) x5))
set_option maxHeartbeats 4000000 in
set_option maxRecDepth 100000 in
theorem b_X8_found_36 {G : gG} {l : Launch} {p : Program} {e : Env} {s : State} {m : MethodId} {args : Array Value} {below : List Frame} {meth : Method} {c : Code} {h0 : g_H} {r : Int32} {h' : g_H} (X : gX G l yX8_found.cls cX8_found 6 (some .int) [] yX8_found.name p s m args meth c) : ∀ n : Nat, w_X8_found_36 G l p e s m args below meth c h0 r h' (f_X8_found_36 n) := by
  have hx := X.1
  have hb := X.2.1
  have hown := X.2.2.2.1
  have hts := X.2.2.2.2.1
  intro n
  induction n with
  | zero =>
    intro a0 x1 x2 x3 x4 x5 h H locs cells slots ls hf hI hl
    exact (gFail_f hf).elim
  | succ n ih =>
    intro a0 x1 x2 x3 x4 x5 h H locs cells slots ls hf hI hl
    rw [f_X8_found_36] at hf
    refine lv_iload hx hb dX8_found_36 (lv_at hl 5 rfl) ?_
    refine lv_bipush (v := (64 : Int32)) hx hb dX8_found_38 (by decide) ?_
    refine lv_icmp_ge (tgt := 72) hx hb dX8_found_40 (by decide) (fun c40 => ?_) (fun c40 => ?_)
    · have hf := g_t c40 hf
      exact b_X8_found_72 X _ _ _ _ _ _ _ _ _ hf hI (lv_sub hl [2, 3, 4] rfl)
    · have hf := g_f c40 hf
      refine lv_aload_n hx hb dX8_found_43 rfl (lv_at hl 0 rfl) ?_
      refine lv_iload hx hb dX8_found_44 (lv_at hl 5 rfl) ?_
      refine lv_iload_n hx hb dX8_found_46 rfl (lv_at hl 1 rfl) ?_
      obtain ⟨hs, hf⟩ := gCk_b hf
      refine g_cBI hI hf (fun v9 h9 e9 l9 l9' => g_rV X hI l9 l9' ⟨Nat.le_refl _, Nat.le_refl _⟩ (As := [.int x5, .int x1]) (m_X8_fits X.2.2.2.2.2.2.2.2.2.2.1 e9) ydX8_fits hs rfl rfl q2049 q2051 qs114 q131 q2052 rfl (Nat.le_of_ble_eq_true rfl) (Nat.le_of_ble_eq_true rfl) hl.1 rfl (Nat.le_of_ble_eq_true rfl) dX8_found_47) (fun r101 h H locs cells slots hf hI => ?_)
      refine lv_if_ne (tgt := 56) hx hb dX8_found_50 (by decide) (fun c50 => ?_) (fun c50 => ?_)
      · have hf := g_f c50 hf
        refine lv_iinc (v := (x3 + (1 : Int32))) (lv' := [(3, .int (x3 + (1 : Int32))), (0, .ref a0), (1, .int x1), (2, .int x2), (4, .int x4), (5, .int x5)]) hx hb dX8_found_56 hl (k := 3) rfl rfl (by decide) rfl (fun ls hl => ?_)
        refine lv_iload hx hb dX8_found_59 (lv_at hl 4 rfl) ?_
        refine lv_iload hx hb dX8_found_61 (lv_at hl 5 rfl) ?_
        refine lv_iand hx hb dX8_found_63 ?_
        refine lv_istore (lv' := [(4, .int (x4 &&& x5)), (3, .int (x3 + (1 : Int32))), (0, .ref a0), (1, .int x1), (2, .int x2), (5, .int x5)]) hx hb dX8_found_64 hl (by decide) rfl (fun ls hl => ?_)
        exact b_X8_found_66 X ih _ _ _ _ _ _ _ _ _ _ _ _ hf hI (lv_sub hl [2, 3, 4, 1, 0, 5] rfl)
      · have hf := g_t c50 hf
        refine lv_goto (tgt := 66) hx hb dX8_found_53 (by decide) ?_
        exact b_X8_found_66 X ih _ _ _ _ _ _ _ _ _ _ _ _ hf hI (lv_sub hl [0, 1, 2, 3, 4, 5] rfl)
def f_X8_found_18 (a0 : Nat) (x1 : Int32) (x2 : Int32) (b0 : Nat) (u1 : Int32) : gM Int32 :=
    gB (gCk b0 7) fun _ =>
    gB (f_X8_throwsIf b0 u1 (1 : Int32)) fun r101 =>
    gIf (r101 = 0)
    (f_X8_found_36 gN a0 x1 x2 (0 : Int32) (63 : Int32) (0 : Int32))
    ((gRet (0 : Int32)))
set_option maxHeartbeats 4000000 in
set_option maxRecDepth 100000 in
theorem b_X8_found_18 {G : gG} {l : Launch} {p : Program} {e : Env} {s : State} {m : MethodId} {args : Array Value} {below : List Frame} {meth : Method} {c : Code} {h0 : g_H} {r : Int32} {h' : g_H} (X : gX G l yX8_found.cls cX8_found 6 (some .int) [] yX8_found.name p s m args meth c) : w_X8_found_18 G l p e s m args below meth c h0 r h' (f_X8_found_18) := by
  have hx := X.1
  have hb := X.2.1
  have hown := X.2.2.2.1
  have hts := X.2.2.2.2.1
  intro a0 x1 x2 b0 u1 h H locs cells slots ls hf hI hl
  unfold f_X8_found_18 at hf
  refine lv_iconst (v := (1 : Int32)) hx hb dX8_found_18 (by decide) ?_
  obtain ⟨hs, hf⟩ := gCk_b hf
  refine g_cBI hI hf (fun v9 h9 e9 l9 l9' => g_rV X hI l9 l9' ⟨Nat.le_refl _, Nat.le_refl _⟩ (As := [.int u1, .int (1 : Int32)]) (m_X8_throwsIf X.2.2.2.2.2.2.2.2.2.2.1 e9) ydX8_throwsIf hs rfl rfl q1736 q1738 qs72 q131 q1739 rfl (Nat.le_of_ble_eq_true rfl) (Nat.le_of_ble_eq_true rfl) hl.1 rfl (Nat.le_of_ble_eq_true rfl) dX8_found_19) (fun r101 h H locs cells slots hf hI => ?_)
  refine lv_if_eq (tgt := 27) hx hb dX8_found_22 (by decide) (fun c22 => ?_) (fun c22 => ?_)
  · have hf := g_t c22 hf
    refine lv_iconst (v := (0 : Int32)) hx hb dX8_found_27 (by decide) ?_
    refine lv_istore_n (lv' := [(3, .int (0 : Int32)), (0, .ref a0), (1, .int x1), (2, .int x2)]) hx hb dX8_found_28 rfl hl (by decide) rfl (fun ls hl => ?_)
    refine lv_bipush (v := (63 : Int32)) hx hb dX8_found_29 (by decide) ?_
    refine lv_istore (lv' := [(4, .int (63 : Int32)), (3, .int (0 : Int32)), (0, .ref a0), (1, .int x1), (2, .int x2)]) hx hb dX8_found_31 hl (by decide) rfl (fun ls hl => ?_)
    refine lv_iconst (v := (0 : Int32)) hx hb dX8_found_33 (by decide) ?_
    refine lv_istore (lv' := [(5, .int (0 : Int32)), (4, .int (63 : Int32)), (3, .int (0 : Int32)), (0, .ref a0), (1, .int x1), (2, .int x2)]) hx hb dX8_found_34 hl (by decide) rfl (fun ls hl => ?_)
    exact b_X8_found_36 X gN _ _ _ _ _ _ _ _ _ _ _ _ hf hI (lv_sub hl [3, 4, 5, 2, 1, 0] rfl)
  · have hf := g_f c22 hf
    refine lv_iconst (v := (0 : Int32)) hx hb dX8_found_25 (by decide) ?_
    cases gRet_e hf
    exact g_retI X hI rfl dX8_found_26
def f_X8_found (a0 : Nat) (x1 : Int32) (x2 : Int32) : gM Int32 :=
    gB (gCk a0 7) fun _ =>
    gB (f_X8_uses a0) fun _ =>
    gB (gCk a0 7) fun _ =>
    gB (f_X8_isTold a0 x1) fun r2 =>
    gIf (r2 = 0)
    (f_X8_found_18 a0 x1 x2 a0 (1 : Int32))
    (f_X8_found_18 a0 x1 x2 a0 (0 : Int32))
set_option maxHeartbeats 4000000 in
set_option maxRecDepth 100000 in
theorem m_X8_found {G : gG} {l : Launch} (hfl : l.stackTraces = false) {a0 : Nat} {x1 : Int32} {x2 : Int32} {h h' : g_H} {r : Int32} (hf : (f_X8_found a0 x1 x2).1 h = some (r, h')) : gMet G l yX8_found (Cond.code yX8_found cX8_found 6 (some .int)) 11 252 [.ref a0, .int x1, .int x2] h (.inl (g_wI r)) h' := by
  refine g_head hfl ((f_X8_found a0 x1 x2).2 h r h' hf) (plainFor_of_name (by decide)) (Nat.le_of_ble_eq_true rfl) (fun p e s m below meth c H locs cells slots ls X hI hl9 => ?_)
  have hl : lv_has ls 6 [(0, .ref a0), (1, .int x1), (2, .int x2)] := hl9
  have hx := X.1
  have hb := X.2.1
  have hown := X.2.2.2.1
  have hts := X.2.2.2.2.1
  unfold f_X8_found at hf
  refine lv_aload_n hx hb dX8_found_0 rfl (lv_at hl 0 rfl) ?_
  obtain ⟨hs, hf⟩ := gCk_b hf
  refine g_cBU hI hf (fun v9 h9 e9 l9 l9' => g_rV X hI l9 l9' ⟨Nat.le_refl _, Nat.le_refl _⟩ (As := []) (m_X8_uses X.2.2.2.2.2.2.2.2.2.2.1 e9) ydX8_uses hs rfl rfl q1591 q1593 qs45 q131 q1594 rfl (Nat.le_of_ble_eq_true rfl) (Nat.le_of_ble_eq_true rfl) hl.1 rfl (Nat.le_of_ble_eq_true rfl) dX8_found_1) (fun r1 h H locs cells slots hf hI => ?_)
  refine lv_aload_n hx hb dX8_found_4 rfl (lv_at hl 0 rfl) ?_
  refine lv_aload_n hx hb dX8_found_5 rfl (lv_at hl 0 rfl) ?_
  refine lv_iload_n hx hb dX8_found_6 rfl (lv_at hl 1 rfl) ?_
  obtain ⟨hs, hf⟩ := gCk_b hf
  refine g_cBI hI hf (fun v9 h9 e9 l9 l9' => g_rV X hI l9 l9' ⟨Nat.le_refl _, Nat.le_refl _⟩ (As := [.int x1]) (m_X8_isTold X.2.2.2.2.2.2.2.2.2.2.1 e9) ydX8_isTold hs rfl rfl q2045 q2047 qs113 q131 q2048 rfl (Nat.le_of_ble_eq_true rfl) (Nat.le_of_ble_eq_true rfl) hl.1 rfl (Nat.le_of_ble_eq_true rfl) dX8_found_7) (fun r2 h H locs cells slots hf hI => ?_)
  refine lv_if_ne (tgt := 17) hx hb dX8_found_10 (by decide) (fun c10 => ?_) (fun c10 => ?_)
  · have hf := g_f c10 hf
    refine lv_iconst (v := (0 : Int32)) hx hb dX8_found_17 (by decide) ?_
    exact b_X8_found_18 X _ _ _ _ _ _ _ _ _ _ _ hf hI (lv_sub hl [0, 1, 2] rfl)
  · have hf := g_t c10 hf
    refine lv_iconst (v := (1 : Int32)) hx hb dX8_found_13 (by decide) ?_
    refine lv_goto (tgt := 18) hx hb dX8_found_14 (by decide) ?_
    exact b_X8_found_18 X _ _ _ _ _ _ _ _ _ _ _ hf hI (lv_sub hl [0, 1, 2] rfl)
/-! X1_gap -/
abbrev w_X1_gap_62 (G : gG) (l : Launch) (p : Program) (e : Env) (s : State) (m : MethodId) (args : Array Value) (below : List Frame) (meth : Method) (c : Code) (h0 : g_H) (r : Int32) (h' : g_H) (k : Nat → Int32 → Int32 → gM Int32) : Prop := ∀ (a0 : Nat) (x1 : Int32) (x2 : Int32) (h : g_H) (H : Heap) (locs : List Loc) (cells slots : Nat) (ls : Array Slot), (k a0 x1 x2).1 h = some (r, h') → gI G h0 h H locs cells slots → lv_has ls 3 [(0, .ref a0), (1, .int x1), (2, .int x2)] → W p l e (g_rm 104 1939 h0 h') s m args below meth c H locs cells slots (gQ G below args s h0 h' (.inl (g_wI r))) (F0 m 62 ls [])
abbrev w_X1_gap_60 (G : gG) (l : Launch) (p : Program) (e : Env) (s : State) (m : MethodId) (args : Array Value) (below : List Frame) (meth : Method) (c : Code) (h0 : g_H) (r : Int32) (h' : g_H) (k : Nat → Int32 → Int32 → Int32 → gM Int32) : Prop := ∀ (a0 : Nat) (x2 : Int32) (u0 : Int32) (u1 : Int32) (h : g_H) (H : Heap) (locs : List Loc) (cells slots : Nat) (ls : Array Slot), (k a0 x2 u0 u1).1 h = some (r, h') → gI G h0 h H locs cells slots → lv_has ls 3 [(0, .ref a0), (2, .int x2)] → W p l e (g_rm 104 1939 h0 h') s m args below meth c H locs cells slots (gQ G below args s h0 h' (.inl (g_wI r))) (F0 m 60 ls [.int u1, .int u0])
abbrev w_X1_gap_68 (G : gG) (l : Launch) (p : Program) (e : Env) (s : State) (m : MethodId) (args : Array Value) (below : List Frame) (meth : Method) (c : Code) (h0 : g_H) (r : Int32) (h' : g_H) (k : Int32 → gM Int32) : Prop := ∀ (x1 : Int32) (h : g_H) (H : Heap) (locs : List Loc) (cells slots : Nat) (ls : Array Slot), (k x1).1 h = some (r, h') → gI G h0 h H locs cells slots → lv_has ls 3 [(1, .int x1)] → W p l e (g_rm 104 1939 h0 h') s m args below meth c H locs cells slots (gQ G below args s h0 h' (.inl (g_wI r))) (F0 m 68 ls [])
abbrev w_X1_gap_4 (G : gG) (l : Launch) (p : Program) (e : Env) (s : State) (m : MethodId) (args : Array Value) (below : List Frame) (meth : Method) (c : Code) (h0 : g_H) (r : Int32) (h' : g_H) (k : Nat → Int32 → Int32 → gM Int32) : Prop := ∀ (a0 : Nat) (x1 : Int32) (x2 : Int32) (h : g_H) (H : Heap) (locs : List Loc) (cells slots : Nat) (ls : Array Slot), (k a0 x1 x2).1 h = some (r, h') → gI G h0 h H locs cells slots → lv_has ls 3 [(0, .ref a0), (1, .int x1), (2, .int x2)] → W p l e (g_rm 104 1939 h0 h') s m args below meth c H locs cells slots (gQ G below args s h0 h' (.inl (g_wI r))) (F0 m 4 ls [])
def f_X1_gap_62 (k4 : Nat → Int32 → Int32 → gM Int32) (a0 : Nat) (x1 : Int32) (x2 : Int32) : gM Int32 :=
    k4 a0 x1 (x2 + (1 : Int32))
set_option maxHeartbeats 4000000 in
set_option maxRecDepth 100000 in
theorem b_X1_gap_62 {G : gG} {l : Launch} {p : Program} {e : Env} {s : State} {m : MethodId} {args : Array Value} {below : List Frame} {meth : Method} {c : Code} {h0 : g_H} {r : Int32} {h' : g_H} (X : gX G l yX1_gap.cls cX1_gap 3 (some .int) [] yX1_gap.name p s m args meth c) {k4 : Nat → Int32 → Int32 → gM Int32} (K4 : w_X1_gap_4 G l p e s m args below meth c h0 r h' k4) : w_X1_gap_62 G l p e s m args below meth c h0 r h' (f_X1_gap_62 k4) := by
  have hx := X.1
  have hb := X.2.1
  have hown := X.2.2.2.1
  have hts := X.2.2.2.2.1
  intro a0 x1 x2 h H locs cells slots ls hf hI hl
  unfold f_X1_gap_62 at hf
  refine lv_iinc (v := (x2 + (1 : Int32))) (lv' := [(2, .int (x2 + (1 : Int32))), (0, .ref a0), (1, .int x1)]) hx hb dX1_gap_62 hl (k := 2) rfl rfl (by decide) rfl (fun ls hl => ?_)
  refine lv_goto (tgt := 4) hx hb dX1_gap_65 (by decide) ?_
  exact K4 _ _ _ _ _ _ _ _ _ hf hI (lv_sub hl [1, 2, 0] rfl)
def f_X1_gap_60 (k4 : Nat → Int32 → Int32 → gM Int32) (a0 : Nat) (x2 : Int32) (u0 : Int32) (u1 : Int32) : gM Int32 :=
    f_X1_gap_62 k4 a0 (u0 + u1) x2
set_option maxHeartbeats 4000000 in
set_option maxRecDepth 100000 in
theorem b_X1_gap_60 {G : gG} {l : Launch} {p : Program} {e : Env} {s : State} {m : MethodId} {args : Array Value} {below : List Frame} {meth : Method} {c : Code} {h0 : g_H} {r : Int32} {h' : g_H} (X : gX G l yX1_gap.cls cX1_gap 3 (some .int) [] yX1_gap.name p s m args meth c) {k4 : Nat → Int32 → Int32 → gM Int32} (K4 : w_X1_gap_4 G l p e s m args below meth c h0 r h' k4) : w_X1_gap_60 G l p e s m args below meth c h0 r h' (f_X1_gap_60 k4) := by
  have hx := X.1
  have hb := X.2.1
  have hown := X.2.2.2.1
  have hts := X.2.2.2.2.1
  intro a0 x2 u0 u1 h H locs cells slots ls hf hI hl
  unfold f_X1_gap_60 at hf
  refine lv_iadd hx hb dX1_gap_60 ?_
  refine lv_istore_n (lv' := [(1, .int (u0 + u1)), (0, .ref a0), (2, .int x2)]) hx hb dX1_gap_61 rfl hl (by decide) rfl (fun ls hl => ?_)
  exact b_X1_gap_62 X K4 _ _ _ _ _ _ _ _ _ hf hI (lv_sub hl [1, 0, 2] rfl)
def f_X1_gap_68 (x1 : Int32) : gM Int32 :=
    (gRet x1)
set_option maxHeartbeats 4000000 in
set_option maxRecDepth 100000 in
theorem b_X1_gap_68 {G : gG} {l : Launch} {p : Program} {e : Env} {s : State} {m : MethodId} {args : Array Value} {below : List Frame} {meth : Method} {c : Code} {h0 : g_H} {r : Int32} {h' : g_H} (X : gX G l yX1_gap.cls cX1_gap 3 (some .int) [] yX1_gap.name p s m args meth c) : w_X1_gap_68 G l p e s m args below meth c h0 r h' (f_X1_gap_68) := by
  have hx := X.1
  have hb := X.2.1
  have hown := X.2.2.2.1
  have hts := X.2.2.2.2.1
  intro x1 h H locs cells slots ls hf hI hl
  unfold f_X1_gap_68 at hf
  refine lv_iload_n hx hb dX1_gap_68 rfl (lv_at hl 0 rfl) ?_
  cases gRet_e hf
  exact g_retI X hI rfl dX1_gap_69
def f_X1_gap_4 : Nat → Nat → Int32 → Int32 → gM Int32
  | 0, _, _, _ => gFail
  | n + 1, a0, x1, x2 =>
    gB (gFR a0 0 1) fun v101 =>
    gB (gFI v101 2 7) fun v102 =>
    gIf (v102 ≤ x2)
    (f_X1_gap_68 x1)
    (gB (gFR a0 0 1) fun v103 =>
    gB (gFR v103 2 1) fun v104 =>
    gB (gAR v104 5 x2) fun v105 =>
    gB (gFI v105 4 3) fun v106 =>
    gIf (v106 = 0)
    (gB (gFR a0 0 1) fun v107 =>
    gB (gFR v107 2 1) fun v108 =>
    gB (gAR v108 5 x2) fun v109 =>
    gB (gFI v109 4 0) fun v110 =>
    gIf (v110 = 0)
    (gB (gCk a0 0) fun _ =>
    gB (f_X1_oddsOf a0 x2) fun r112 =>
    f_X1_gap_60 (f_X1_gap_4 n) a0 x2 x1 r112)
    (gB (gCk a0 0) fun _ =>
    gB (f_X1_oddsOf a0 x2) fun r111 =>
    f_X1_gap_60 (f_X1_gap_4 n) a0 x2 x1 (-r111)))
    (f_X1_gap_62 (f_X1_gap_4 n) a0 x1 x2))
set_option maxHeartbeats 4000000 in
set_option maxRecDepth 100000 in
theorem b_X1_gap_4 {G : gG} {l : Launch} {p : Program} {e : Env} {s : State} {m : MethodId} {args : Array Value} {below : List Frame} {meth : Method} {c : Code} {h0 : g_H} {r : Int32} {h' : g_H} (X : gX G l yX1_gap.cls cX1_gap 3 (some .int) [] yX1_gap.name p s m args meth c) : ∀ n : Nat, w_X1_gap_4 G l p e s m args below meth c h0 r h' (f_X1_gap_4 n) := by
  have hx := X.1
  have hb := X.2.1
  have hown := X.2.2.2.1
  have hts := X.2.2.2.2.1
  intro n
  induction n with
  | zero =>
    intro a0 x1 x2 h H locs cells slots ls hf hI hl
    exact (gFail_f hf).elim
  | succ n ih =>
    intro a0 x1 x2 h H locs cells slots ls hf hI hl
    rw [f_X1_gap_4] at hf
    refine lv_iload_n hx hb dX1_gap_4 rfl (lv_at hl 2 rfl) ?_
    refine lv_aload_n hx hb dX1_gap_5 rfl (lv_at hl 0 rfl) ?_
    refine g_fr X hI hf fX1_1 q461 rfl rfl dX1_gap_6 (fun v101 hf => ?_)
    refine g_fiN X hI hf fX3_7 q271 rfl rfl dX1_gap_9 (fun v102 hf => ?_)
    refine lv_icmp_ge (tgt := 68) hx hb dX1_gap_12 (by decide) (fun c12 => ?_) (fun c12 => ?_)
    · have hf := g_t c12 hf
      exact b_X1_gap_68 X _ _ _ _ _ _ _ hf hI (lv_sub hl [1] rfl)
    · have hf := g_f c12 hf
      refine lv_aload_n hx hb dX1_gap_15 rfl (lv_at hl 0 rfl) ?_
      refine g_fr X hI hf fX1_1 q461 rfl rfl dX1_gap_16 (fun v103 hf => ?_)
      refine g_frN X hI hf fX3_1 q257 rfl rfl dX1_gap_19 (fun v104 hf => ?_)
      refine lv_iload_n hx hb dX1_gap_22 rfl (lv_at hl 2 rfl) ?_
      refine g_ar5 X hI hf dX1_gap_23 (fun v105 hf => ?_)
      refine g_fiN X hI hf fX5_3 q243 rfl rfl dX1_gap_24 (fun v106 hf => ?_)
      refine lv_if_ne (tgt := 62) hx hb dX1_gap_27 (by decide) (fun c27 => ?_) (fun c27 => ?_)
      · have hf := g_f c27 hf
        exact b_X1_gap_62 X ih _ _ _ _ _ _ _ _ _ hf hI (lv_sub hl [0, 1, 2] rfl)
      · have hf := g_t c27 hf
        refine lv_iload_n hx hb dX1_gap_30 rfl (lv_at hl 1 rfl) ?_
        refine lv_aload_n hx hb dX1_gap_31 rfl (lv_at hl 0 rfl) ?_
        refine g_fr X hI hf fX1_1 q461 rfl rfl dX1_gap_32 (fun v107 hf => ?_)
        refine g_frN X hI hf fX3_1 q257 rfl rfl dX1_gap_35 (fun v108 hf => ?_)
        refine lv_iload_n hx hb dX1_gap_38 rfl (lv_at hl 2 rfl) ?_
        refine g_ar5 X hI hf dX1_gap_39 (fun v109 hf => ?_)
        refine g_fiN X hI hf fX5_0 q230 rfl rfl dX1_gap_40 (fun v110 hf => ?_)
        refine lv_if_ne (tgt := 54) hx hb dX1_gap_43 (by decide) (fun c43 => ?_) (fun c43 => ?_)
        · have hf := g_f c43 hf
          refine lv_aload_n hx hb dX1_gap_54 rfl (lv_at hl 0 rfl) ?_
          refine lv_iload_n hx hb dX1_gap_55 rfl (lv_at hl 2 rfl) ?_
          obtain ⟨hs, hf⟩ := gCk_b hf
          refine g_cBI hI hf (fun v9 h9 e9 l9 l9' => g_rV X hI l9 l9' ⟨Nat.le_refl _, Nat.le_refl _⟩ (As := [.int x2]) (m_X1_oddsOf X.2.2.2.2.2.2.2.2.2.2.1 e9) ydX1_oddsOf hs rfl rfl q543 q545 qs2 q121 q546 rfl (Nat.le_of_ble_eq_true rfl) (Nat.le_of_ble_eq_true rfl) hl.1 rfl (Nat.le_of_ble_eq_true rfl) dX1_gap_56) (fun r111 h H locs cells slots hf hI => ?_)
          refine lv_ineg hx hb dX1_gap_59 ?_
          exact b_X1_gap_60 X ih _ _ _ _ _ _ _ _ _ _ hf hI (lv_sub hl [0, 2] rfl)
        · have hf := g_t c43 hf
          refine lv_aload_n hx hb dX1_gap_46 rfl (lv_at hl 0 rfl) ?_
          refine lv_iload_n hx hb dX1_gap_47 rfl (lv_at hl 2 rfl) ?_
          obtain ⟨hs, hf⟩ := gCk_b hf
          refine g_cBI hI hf (fun v9 h9 e9 l9 l9' => g_rV X hI l9 l9' ⟨Nat.le_refl _, Nat.le_refl _⟩ (As := [.int x2]) (m_X1_oddsOf X.2.2.2.2.2.2.2.2.2.2.1 e9) ydX1_oddsOf hs rfl rfl q543 q545 qs2 q121 q546 rfl (Nat.le_of_ble_eq_true rfl) (Nat.le_of_ble_eq_true rfl) hl.1 rfl (Nat.le_of_ble_eq_true rfl) dX1_gap_48) (fun r112 h H locs cells slots hf hI => ?_)
          refine lv_goto (tgt := 60) hx hb dX1_gap_51 (by decide) ?_
          exact b_X1_gap_60 X ih _ _ _ _ _ _ _ _ _ _ hf hI (lv_sub hl [0, 2] rfl)
def f_X1_gap (a0 : Nat) : gM Int32 :=
    f_X1_gap_4 gN a0 (0 : Int32) (0 : Int32)
set_option maxHeartbeats 4000000 in
set_option maxRecDepth 100000 in
theorem m_X1_gap {G : gG} {l : Launch} (hfl : l.stackTraces = false) {a0 : Nat} {h h' : g_H} {r : Int32} (hf : (f_X1_gap a0).1 h = some (r, h')) : gMet G l yX1_gap (Cond.code yX1_gap cX1_gap 3 (some .int)) 104 1939 [.ref a0] h (.inl (g_wI r)) h' := by
  refine g_head hfl ((f_X1_gap a0).2 h r h' hf) (plainFor_of_name (by decide)) (Nat.le_of_ble_eq_true rfl) (fun p e s m below meth c H locs cells slots ls X hI hl9 => ?_)
  have hl : lv_has ls 3 [(0, .ref a0)] := hl9
  have hx := X.1
  have hb := X.2.1
  have hown := X.2.2.2.1
  have hts := X.2.2.2.2.1
  unfold f_X1_gap at hf
  refine lv_iconst (v := (0 : Int32)) hx hb dX1_gap_0 (by decide) ?_
  refine lv_istore_n (lv' := [(1, .int (0 : Int32)), (0, .ref a0)]) hx hb dX1_gap_1 rfl hl (by decide) rfl (fun ls hl => ?_)
  refine lv_iconst (v := (0 : Int32)) hx hb dX1_gap_2 (by decide) ?_
  refine lv_istore_n (lv' := [(2, .int (0 : Int32)), (1, .int (0 : Int32)), (0, .ref a0)]) hx hb dX1_gap_3 rfl hl (by decide) rfl (fun ls hl => ?_)
  exact b_X1_gap_4 X gN _ _ _ _ _ _ _ _ _ hf hI (lv_sub hl [2, 1, 0] rfl)
/-! X1_next -/
abbrev w_X1_next_110 (G : gG) (l : Launch) (p : Program) (e : Env) (s : State) (m : MethodId) (args : Array Value) (below : List Frame) (meth : Method) (c : Code) (h0 : g_H) (r : Int32) (h' : g_H) (k : Nat → Int32 → Int32 → Int32 → Int32 → gM Int32) : Prop := ∀ (a0 : Nat) (x1 : Int32) (x2 : Int32) (x3 : Int32) (x4 : Int32) (h : g_H) (H : Heap) (locs : List Loc) (cells slots : Nat) (ls : Array Slot), (k a0 x1 x2 x3 x4).1 h = some (r, h') → gI G h0 h H locs cells slots → lv_has ls 6 [(0, .ref a0), (1, .int x1), (2, .int x2), (3, .int x3), (4, .int x4)] → W p l e (g_rm 105 1961 h0 h') s m args below meth c H locs cells slots (gQ G below args s h0 h' (.inl (g_wI r))) (F0 m 110 ls [])
abbrev w_X1_next_116 (G : gG) (l : Launch) (p : Program) (e : Env) (s : State) (m : MethodId) (args : Array Value) (below : List Frame) (meth : Method) (c : Code) (h0 : g_H) (r : Int32) (h' : g_H) (k : Nat → Int32 → Int32 → Int32 → gM Int32) : Prop := ∀ (a0 : Nat) (x1 : Int32) (x2 : Int32) (x3 : Int32) (h : g_H) (H : Heap) (locs : List Loc) (cells slots : Nat) (ls : Array Slot), (k a0 x1 x2 x3).1 h = some (r, h') → gI G h0 h H locs cells slots → lv_has ls 6 [(0, .ref a0), (1, .int x1), (2, .int x2), (3, .int x3)] → W p l e (g_rm 105 1961 h0 h') s m args below meth c H locs cells slots (gQ G below args s h0 h' (.inl (g_wI r))) (F0 m 116 ls [])
abbrev w_X1_next_22 (G : gG) (l : Launch) (p : Program) (e : Env) (s : State) (m : MethodId) (args : Array Value) (below : List Frame) (meth : Method) (c : Code) (h0 : g_H) (r : Int32) (h' : g_H) (k : Nat → Int32 → Int32 → Int32 → Int32 → gM Int32) : Prop := ∀ (a0 : Nat) (x1 : Int32) (x2 : Int32) (x3 : Int32) (x4 : Int32) (h : g_H) (H : Heap) (locs : List Loc) (cells slots : Nat) (ls : Array Slot), (k a0 x1 x2 x3 x4).1 h = some (r, h') → gI G h0 h H locs cells slots → lv_has ls 6 [(0, .ref a0), (1, .int x1), (2, .int x2), (3, .int x3), (4, .int x4)] → W p l e (g_rm 105 1961 h0 h') s m args below meth c H locs cells slots (gQ G below args s h0 h' (.inl (g_wI r))) (F0 m 22 ls [])
abbrev w_X1_next_122 (G : gG) (l : Launch) (p : Program) (e : Env) (s : State) (m : MethodId) (args : Array Value) (below : List Frame) (meth : Method) (c : Code) (h0 : g_H) (r : Int32) (h' : g_H) (k : Int32 → gM Int32) : Prop := ∀ (x2 : Int32) (h : g_H) (H : Heap) (locs : List Loc) (cells slots : Nat) (ls : Array Slot), (k x2).1 h = some (r, h') → gI G h0 h H locs cells slots → lv_has ls 6 [(2, .int x2)] → W p l e (g_rm 105 1961 h0 h') s m args below meth c H locs cells slots (gQ G below args s h0 h' (.inl (g_wI r))) (F0 m 122 ls [])
abbrev w_X1_next_8 (G : gG) (l : Launch) (p : Program) (e : Env) (s : State) (m : MethodId) (args : Array Value) (below : List Frame) (meth : Method) (c : Code) (h0 : g_H) (r : Int32) (h' : g_H) (k : Nat → Int32 → Int32 → Int32 → gM Int32) : Prop := ∀ (a0 : Nat) (x1 : Int32) (x2 : Int32) (x3 : Int32) (h : g_H) (H : Heap) (locs : List Loc) (cells slots : Nat) (ls : Array Slot), (k a0 x1 x2 x3).1 h = some (r, h') → gI G h0 h H locs cells slots → lv_has ls 6 [(0, .ref a0), (1, .int x1), (2, .int x2), (3, .int x3)] → W p l e (g_rm 105 1961 h0 h') s m args below meth c H locs cells slots (gQ G below args s h0 h' (.inl (g_wI r))) (F0 m 8 ls [])
def f_X1_next_110 (k22 : Nat → Int32 → Int32 → Int32 → Int32 → gM Int32) (a0 : Nat) (x1 : Int32) (x2 : Int32) (x3 : Int32) (x4 : Int32) : gM Int32 :=
    k22 a0 x1 x2 x3 (x4 + (1 : Int32))
set_option maxHeartbeats 4000000 in
set_option maxRecDepth 100000 in
theorem b_X1_next_110 {G : gG} {l : Launch} {p : Program} {e : Env} {s : State} {m : MethodId} {args : Array Value} {below : List Frame} {meth : Method} {c : Code} {h0 : g_H} {r : Int32} {h' : g_H} (X : gX G l yX1_next.cls cX1_next 6 (some .int) [] yX1_next.name p s m args meth c) {k22 : Nat → Int32 → Int32 → Int32 → Int32 → gM Int32} (K22 : w_X1_next_22 G l p e s m args below meth c h0 r h' k22) : w_X1_next_110 G l p e s m args below meth c h0 r h' (f_X1_next_110 k22) := by
  have hx := X.1
  have hb := X.2.1
  have hown := X.2.2.2.1
  have hts := X.2.2.2.2.1
  intro a0 x1 x2 x3 x4 h H locs cells slots ls hf hI hl
  unfold f_X1_next_110 at hf
  refine lv_iinc (v := (x4 + (1 : Int32))) (lv' := [(4, .int (x4 + (1 : Int32))), (0, .ref a0), (1, .int x1), (2, .int x2), (3, .int x3)]) hx hb dX1_next_110 hl (k := 4) rfl rfl (by decide) rfl (fun ls hl => ?_)
  refine lv_goto (tgt := 22) hx hb dX1_next_113 (by decide) ?_
  exact K22 _ _ _ _ _ _ _ _ _ _ _ hf hI (lv_sub hl [1, 2, 3, 4, 0] rfl)
def f_X1_next_116 (k8 : Nat → Int32 → Int32 → Int32 → gM Int32) (a0 : Nat) (x1 : Int32) (x2 : Int32) (x3 : Int32) : gM Int32 :=
    k8 a0 x1 x2 (x3 + (1 : Int32))
set_option maxHeartbeats 4000000 in
set_option maxRecDepth 100000 in
theorem b_X1_next_116 {G : gG} {l : Launch} {p : Program} {e : Env} {s : State} {m : MethodId} {args : Array Value} {below : List Frame} {meth : Method} {c : Code} {h0 : g_H} {r : Int32} {h' : g_H} (X : gX G l yX1_next.cls cX1_next 6 (some .int) [] yX1_next.name p s m args meth c) {k8 : Nat → Int32 → Int32 → Int32 → gM Int32} (K8 : w_X1_next_8 G l p e s m args below meth c h0 r h' k8) : w_X1_next_116 G l p e s m args below meth c h0 r h' (f_X1_next_116 k8) := by
  have hx := X.1
  have hb := X.2.1
  have hown := X.2.2.2.1
  have hts := X.2.2.2.2.1
  intro a0 x1 x2 x3 h H locs cells slots ls hf hI hl
  unfold f_X1_next_116 at hf
  refine lv_iinc (v := (x3 + (1 : Int32))) (lv' := [(3, .int (x3 + (1 : Int32))), (0, .ref a0), (1, .int x1), (2, .int x2)]) hx hb dX1_next_116 hl (k := 3) rfl rfl (by decide) rfl (fun ls hl => ?_)
  refine lv_goto (tgt := 8) hx hb dX1_next_119 (by decide) ?_
  exact K8 _ _ _ _ _ _ _ _ _ _ hf hI (lv_sub hl [1, 2, 3, 0] rfl)
def f_X1_next_22 (k8 : Nat → Int32 → Int32 → Int32 → gM Int32) : Nat → Nat → Int32 → Int32 → Int32 → Int32 → gM Int32
  | 0, _, _, _, _, _ => gFail
  | n + 1, a0, x1, x2, x3, x4 =>
    gIf ((10 : Int32) ≤ x4)
    (f_X1_next_116 k8 a0 x1 x2 x3)
    (gB (gFR a0 0 1) fun v101 =>
    gB (gFR v101 2 0) fun v102 =>
    gB (gAR v102 4 x3) fun v103 =>
    gB (gFI v103 3 3) fun v104 =>
    gIf (v104 = (-1 : Int32))
    (gB (gFR a0 0 1) fun v105 =>
    gB (gFR v105 2 3) fun v106 =>
    gB (gAI v106 0 x4) fun v107 =>
    gIf (v107 = (-1 : Int32))
    (gB (gFR a0 0 1) fun v108 =>
    gB (gFR v108 2 3) fun v109 =>
    gB (gSI v109 0 x4 x3) fun _ =>
    gB (gCk a0 0) fun _ =>
    gB (f_X1_gap a0) fun r110 =>
    gB (gFR a0 0 1) fun v111 =>
    gB (gFR v111 2 3) fun v112 =>
    gB (gSI v112 0 x4 (-1 : Int32)) fun _ =>
    gIf (x1 < r110)
    (f_X1_next_110 (f_X1_next_22 k8 n) a0 r110 (((10 : Int32) * x3) + x4) x3 x4)
    (f_X1_next_110 (f_X1_next_22 k8 n) a0 x1 x2 x3 x4))
    (f_X1_next_110 (f_X1_next_22 k8 n) a0 x1 x2 x3 x4))
    (f_X1_next_110 (f_X1_next_22 k8 n) a0 x1 x2 x3 x4))
set_option maxHeartbeats 4000000 in
set_option maxRecDepth 100000 in
theorem b_X1_next_22 {G : gG} {l : Launch} {p : Program} {e : Env} {s : State} {m : MethodId} {args : Array Value} {below : List Frame} {meth : Method} {c : Code} {h0 : g_H} {r : Int32} {h' : g_H} (X : gX G l yX1_next.cls cX1_next 6 (some .int) [] yX1_next.name p s m args meth c) {k8 : Nat → Int32 → Int32 → Int32 → gM Int32} (K8 : w_X1_next_8 G l p e s m args below meth c h0 r h' k8) : ∀ n : Nat, w_X1_next_22 G l p e s m args below meth c h0 r h' (f_X1_next_22 k8 n) := by
  have hx := X.1
  have hb := X.2.1
  have hown := X.2.2.2.1
  have hts := X.2.2.2.2.1
  intro n
  induction n with
  | zero =>
    intro a0 x1 x2 x3 x4 h H locs cells slots ls hf hI hl
    exact (gFail_f hf).elim
  | succ n ih =>
    intro a0 x1 x2 x3 x4 h H locs cells slots ls hf hI hl
    rw [f_X1_next_22] at hf
    refine lv_iload hx hb dX1_next_22 (lv_at hl 4 rfl) ?_
    refine lv_bipush (v := (10 : Int32)) hx hb dX1_next_24 (by decide) ?_
    refine lv_icmp_ge (tgt := 116) hx hb dX1_next_26 (by decide) (fun c26 => ?_) (fun c26 => ?_)
    · have hf := g_t c26 hf
      exact b_X1_next_116 X K8 _ _ _ _ _ _ _ _ _ _ hf hI (lv_sub hl [0, 1, 2, 3] rfl)
    · have hf := g_f c26 hf
      refine lv_aload_n hx hb dX1_next_29 rfl (lv_at hl 0 rfl) ?_
      refine g_fr X hI hf fX1_1 q461 rfl rfl dX1_next_30 (fun v101 hf => ?_)
      refine g_frN X hI hf fX3_0 q254 rfl rfl dX1_next_33 (fun v102 hf => ?_)
      refine lv_iload_n hx hb dX1_next_36 rfl (lv_at hl 3 rfl) ?_
      refine g_ar4 X hI hf dX1_next_37 (fun v103 hf => ?_)
      refine g_fiN X hI hf fX4_3 q210 rfl rfl dX1_next_38 (fun v104 hf => ?_)
      refine lv_iconst (v := (-1 : Int32)) hx hb dX1_next_41 (by decide) ?_
      refine lv_icmp_ne (tgt := 110) hx hb dX1_next_42 (by decide) (fun c42 => ?_) (fun c42 => ?_)
      · have hf := g_f c42 hf
        exact b_X1_next_110 X ih _ _ _ _ _ _ _ _ _ _ _ hf hI (lv_sub hl [0, 1, 2, 3, 4] rfl)
      · have hf := g_t c42 hf
        refine lv_aload_n hx hb dX1_next_45 rfl (lv_at hl 0 rfl) ?_
        refine g_fr X hI hf fX1_1 q461 rfl rfl dX1_next_46 (fun v105 hf => ?_)
        refine g_frN X hI hf fX3_3 q264 rfl rfl dX1_next_49 (fun v106 hf => ?_)
        refine lv_iload hx hb dX1_next_52 (lv_at hl 4 rfl) ?_
        refine g_ai0 X hI hf dX1_next_54 (fun v107 hf => ?_)
        refine lv_iconst (v := (-1 : Int32)) hx hb dX1_next_55 (by decide) ?_
        refine lv_icmp_eq (tgt := 62) hx hb dX1_next_56 (by decide) (fun c56 => ?_) (fun c56 => ?_)
        · have hf := g_t c56 hf
          refine lv_aload_n hx hb dX1_next_62 rfl (lv_at hl 0 rfl) ?_
          refine g_fr X hI hf fX1_1 q461 rfl rfl dX1_next_63 (fun v108 hf => ?_)
          refine g_frN X hI hf fX3_3 q264 rfl rfl dX1_next_66 (fun v109 hf => ?_)
          refine lv_iload hx hb dX1_next_69 (lv_at hl 4 rfl) ?_
          refine lv_iload_n hx hb dX1_next_71 rfl (lv_at hl 3 rfl) ?_
          refine g_si0 X hI hf dX1_next_72 (fun h H locs hf hI => ?_)
          refine lv_aload_n hx hb dX1_next_73 rfl (lv_at hl 0 rfl) ?_
          obtain ⟨hs, hf⟩ := gCk_b hf
          refine g_cBI hI hf (fun v9 h9 e9 l9 l9' => g_rV X hI l9 l9' ⟨Nat.le_refl _, Nat.le_refl _⟩ (As := []) (m_X1_gap X.2.2.2.2.2.2.2.2.2.2.1 e9) ydX1_gap hs rfl rfl q640 q540 q541 q121 q542 rfl (Nat.le_of_ble_eq_true rfl) (Nat.le_of_ble_eq_true rfl) hl.1 rfl (Nat.le_of_ble_eq_true rfl) dX1_next_74) (fun r110 h H locs cells slots hf hI => ?_)
          refine lv_istore (lv' := [(5, .int r110), (0, .ref a0), (1, .int x1), (2, .int x2), (3, .int x3), (4, .int x4)]) hx hb dX1_next_77 hl (by decide) rfl (fun ls hl => ?_)
          refine lv_aload_n hx hb dX1_next_79 rfl (lv_at hl 1 rfl) ?_
          refine g_fr X hI hf fX1_1 q461 rfl rfl dX1_next_80 (fun v111 hf => ?_)
          refine g_frN X hI hf fX3_3 q264 rfl rfl dX1_next_83 (fun v112 hf => ?_)
          refine lv_iload hx hb dX1_next_86 (lv_at hl 5 rfl) ?_
          refine lv_iconst (v := (-1 : Int32)) hx hb dX1_next_88 (by decide) ?_
          refine g_si0 X hI hf dX1_next_89 (fun h H locs hf hI => ?_)
          refine lv_iload hx hb dX1_next_90 (lv_at hl 0 rfl) ?_
          refine lv_iload_n hx hb dX1_next_92 rfl (lv_at hl 2 rfl) ?_
          refine lv_icmp_gt (tgt := 99) hx hb dX1_next_93 (by decide) (fun c93 => ?_) (fun c93 => ?_)
          · have hf := g_t c93 hf
            refine lv_iload hx hb dX1_next_99 (lv_at hl 0 rfl) ?_
            refine lv_istore_n (lv' := [(1, .int r110), (5, .int r110), (0, .ref a0), (2, .int x2), (3, .int x3), (4, .int x4)]) hx hb dX1_next_101 rfl hl (by decide) rfl (fun ls hl => ?_)
            refine lv_bipush (v := (10 : Int32)) hx hb dX1_next_102 (by decide) ?_
            refine lv_iload_n hx hb dX1_next_104 rfl (lv_at hl 4 rfl) ?_
            refine lv_imul hx hb dX1_next_105 ?_
            refine lv_iload hx hb dX1_next_106 (lv_at hl 5 rfl) ?_
            refine lv_iadd hx hb dX1_next_108 ?_
            refine lv_istore_n (lv' := [(2, .int (((10 : Int32) * x3) + x4)), (1, .int r110), (5, .int r110), (0, .ref a0), (3, .int x3), (4, .int x4)]) hx hb dX1_next_109 rfl hl (by decide) rfl (fun ls hl => ?_)
            exact b_X1_next_110 X ih _ _ _ _ _ _ _ _ _ _ _ hf hI (lv_sub hl [3, 1, 0, 4, 5] rfl)
          · have hf := g_f c93 hf
            refine lv_goto (tgt := 110) hx hb dX1_next_96 (by decide) ?_
            exact b_X1_next_110 X ih _ _ _ _ _ _ _ _ _ _ _ hf hI (lv_sub hl [1, 2, 3, 4, 5] rfl)
        · have hf := g_f c56 hf
          refine lv_goto (tgt := 110) hx hb dX1_next_59 (by decide) ?_
          exact b_X1_next_110 X ih _ _ _ _ _ _ _ _ _ _ _ hf hI (lv_sub hl [0, 1, 2, 3, 4] rfl)
def f_X1_next_122 (x2 : Int32) : gM Int32 :=
    (gRet x2)
set_option maxHeartbeats 4000000 in
set_option maxRecDepth 100000 in
theorem b_X1_next_122 {G : gG} {l : Launch} {p : Program} {e : Env} {s : State} {m : MethodId} {args : Array Value} {below : List Frame} {meth : Method} {c : Code} {h0 : g_H} {r : Int32} {h' : g_H} (X : gX G l yX1_next.cls cX1_next 6 (some .int) [] yX1_next.name p s m args meth c) : w_X1_next_122 G l p e s m args below meth c h0 r h' (f_X1_next_122) := by
  have hx := X.1
  have hb := X.2.1
  have hown := X.2.2.2.1
  have hts := X.2.2.2.2.1
  intro x2 h H locs cells slots ls hf hI hl
  unfold f_X1_next_122 at hf
  refine lv_iload_n hx hb dX1_next_122 rfl (lv_at hl 0 rfl) ?_
  cases gRet_e hf
  exact g_retI X hI rfl dX1_next_123
def f_X1_next_8 : Nat → Nat → Int32 → Int32 → Int32 → gM Int32
  | 0, _, _, _, _ => gFail
  | n + 1, a0, x1, x2, x3 =>
    gB (gFR a0 0 1) fun v101 =>
    gB (gFI v101 2 6) fun v102 =>
    gIf (v102 ≤ x3)
    (f_X1_next_122 x2)
    (f_X1_next_22 (f_X1_next_8 n) gN a0 x1 x2 x3 (0 : Int32))
set_option maxHeartbeats 4000000 in
set_option maxRecDepth 100000 in
theorem b_X1_next_8 {G : gG} {l : Launch} {p : Program} {e : Env} {s : State} {m : MethodId} {args : Array Value} {below : List Frame} {meth : Method} {c : Code} {h0 : g_H} {r : Int32} {h' : g_H} (X : gX G l yX1_next.cls cX1_next 6 (some .int) [] yX1_next.name p s m args meth c) : ∀ n : Nat, w_X1_next_8 G l p e s m args below meth c h0 r h' (f_X1_next_8 n) := by
  have hx := X.1
  have hb := X.2.1
  have hown := X.2.2.2.1
  have hts := X.2.2.2.2.1
  intro n
  induction n with
  | zero =>
    intro a0 x1 x2 x3 h H locs cells slots ls hf hI hl
    exact (gFail_f hf).elim
  | succ n ih =>
    intro a0 x1 x2 x3 h H locs cells slots ls hf hI hl
    rw [f_X1_next_8] at hf
    refine lv_iload_n hx hb dX1_next_8 rfl (lv_at hl 3 rfl) ?_
    refine lv_aload_n hx hb dX1_next_9 rfl (lv_at hl 0 rfl) ?_
    refine g_fr X hI hf fX1_1 q461 rfl rfl dX1_next_10 (fun v101 hf => ?_)
    refine g_fiN X hI hf fX3_6 q268 rfl rfl dX1_next_13 (fun v102 hf => ?_)
    refine lv_icmp_ge (tgt := 122) hx hb dX1_next_16 (by decide) (fun c16 => ?_) (fun c16 => ?_)
    · have hf := g_t c16 hf
      exact b_X1_next_122 X _ _ _ _ _ _ _ hf hI (lv_sub hl [2] rfl)
    · have hf := g_f c16 hf
      refine lv_iconst (v := (0 : Int32)) hx hb dX1_next_19 (by decide) ?_
      refine lv_istore (lv' := [(4, .int (0 : Int32)), (0, .ref a0), (1, .int x1), (2, .int x2), (3, .int x3)]) hx hb dX1_next_20 hl (by decide) rfl (fun ls hl => ?_)
      exact b_X1_next_22 X ih gN _ _ _ _ _ _ _ _ _ _ _ hf hI (lv_sub hl [1, 2, 3, 4, 0] rfl)
def f_X1_next (a0 : Nat) : gM Int32 :=
    f_X1_next_8 gN a0 (-100000000 : Int32) (-1 : Int32) (0 : Int32)
set_option maxHeartbeats 4000000 in
set_option maxRecDepth 100000 in
theorem m_X1_next {G : gG} {l : Launch} (hfl : l.stackTraces = false) {a0 : Nat} {h h' : g_H} {r : Int32} (hf : (f_X1_next a0).1 h = some (r, h')) : gMet G l yX1_next (Cond.code yX1_next cX1_next 6 (some .int)) 105 1961 [.ref a0] h (.inl (g_wI r)) h' := by
  refine g_head hfl ((f_X1_next a0).2 h r h' hf) (plainFor_of_name (by decide)) (Nat.le_of_ble_eq_true rfl) (fun p e s m below meth c H locs cells slots ls X hI hl9 => ?_)
  have hl : lv_has ls 6 [(0, .ref a0)] := hl9
  have hx := X.1
  have hb := X.2.1
  have hown := X.2.2.2.1
  have hts := X.2.2.2.2.1
  unfold f_X1_next at hf
  refine lv_ldcw (v := (-100000000 : Int32)) hx hb hown (hts _ q649) dX1_next_0 ?_
  refine lv_istore_n (lv' := [(1, .int (-100000000 : Int32)), (0, .ref a0)]) hx hb dX1_next_3 rfl hl (by decide) rfl (fun ls hl => ?_)
  refine lv_iconst (v := (-1 : Int32)) hx hb dX1_next_4 (by decide) ?_
  refine lv_istore_n (lv' := [(2, .int (-1 : Int32)), (1, .int (-100000000 : Int32)), (0, .ref a0)]) hx hb dX1_next_5 rfl hl (by decide) rfl (fun ls hl => ?_)
  refine lv_iconst (v := (0 : Int32)) hx hb dX1_next_6 (by decide) ?_
  refine lv_istore_n (lv' := [(3, .int (0 : Int32)), (2, .int (-1 : Int32)), (1, .int (-100000000 : Int32)), (0, .ref a0)]) hx hb dX1_next_7 rfl hl (by decide) rfl (fun ls hl => ?_)
  exact b_X1_next_8 X gN _ _ _ _ _ _ _ _ _ _ hf hI (lv_sub hl [3, 2, 1, 0] rfl)
/-! X8_gapNow -/
abbrev w_X8_gapNow_45 (G : gG) (l : Launch) (p : Program) (e : Env) (s : State) (m : MethodId) (args : Array Value) (below : List Frame) (meth : Method) (c : Code) (h0 : g_H) (r : Int32) (h' : g_H) (k : Nat → Int32 → Int32 → gM Int32) : Prop := ∀ (a0 : Nat) (x1 : Int32) (x2 : Int32) (h : g_H) (H : Heap) (locs : List Loc) (cells slots : Nat) (ls : Array Slot), (k a0 x1 x2).1 h = some (r, h') → gI G h0 h H locs cells slots → lv_has ls 3 [(0, .ref a0), (1, .int x1), (2, .int x2)] → W p l e (g_rm 11 249 h0 h') s m args below meth c H locs cells slots (gQ G below args s h0 h' (.inl (g_wI r))) (F0 m 45 ls [])
abbrev w_X8_gapNow_43 (G : gG) (l : Launch) (p : Program) (e : Env) (s : State) (m : MethodId) (args : Array Value) (below : List Frame) (meth : Method) (c : Code) (h0 : g_H) (r : Int32) (h' : g_H) (k : Nat → Int32 → Int32 → Int32 → gM Int32) : Prop := ∀ (a0 : Nat) (x2 : Int32) (u0 : Int32) (u1 : Int32) (h : g_H) (H : Heap) (locs : List Loc) (cells slots : Nat) (ls : Array Slot), (k a0 x2 u0 u1).1 h = some (r, h') → gI G h0 h H locs cells slots → lv_has ls 3 [(0, .ref a0), (2, .int x2)] → W p l e (g_rm 11 249 h0 h') s m args below meth c H locs cells slots (gQ G below args s h0 h' (.inl (g_wI r))) (F0 m 43 ls [.int u1, .int u0])
abbrev w_X8_gapNow_51 (G : gG) (l : Launch) (p : Program) (e : Env) (s : State) (m : MethodId) (args : Array Value) (below : List Frame) (meth : Method) (c : Code) (h0 : g_H) (r : Int32) (h' : g_H) (k : Int32 → gM Int32) : Prop := ∀ (x1 : Int32) (h : g_H) (H : Heap) (locs : List Loc) (cells slots : Nat) (ls : Array Slot), (k x1).1 h = some (r, h') → gI G h0 h H locs cells slots → lv_has ls 3 [(1, .int x1)] → W p l e (g_rm 11 249 h0 h') s m args below meth c H locs cells slots (gQ G below args s h0 h' (.inl (g_wI r))) (F0 m 51 ls [])
abbrev w_X8_gapNow_4 (G : gG) (l : Launch) (p : Program) (e : Env) (s : State) (m : MethodId) (args : Array Value) (below : List Frame) (meth : Method) (c : Code) (h0 : g_H) (r : Int32) (h' : g_H) (k : Nat → Int32 → Int32 → gM Int32) : Prop := ∀ (a0 : Nat) (x1 : Int32) (x2 : Int32) (h : g_H) (H : Heap) (locs : List Loc) (cells slots : Nat) (ls : Array Slot), (k a0 x1 x2).1 h = some (r, h') → gI G h0 h H locs cells slots → lv_has ls 3 [(0, .ref a0), (1, .int x1), (2, .int x2)] → W p l e (g_rm 11 249 h0 h') s m args below meth c H locs cells slots (gQ G below args s h0 h' (.inl (g_wI r))) (F0 m 4 ls [])
def f_X8_gapNow_45 (k4 : Nat → Int32 → Int32 → gM Int32) (a0 : Nat) (x1 : Int32) (x2 : Int32) : gM Int32 :=
    k4 a0 x1 (x2 + (1 : Int32))
set_option maxHeartbeats 4000000 in
set_option maxRecDepth 100000 in
theorem b_X8_gapNow_45 {G : gG} {l : Launch} {p : Program} {e : Env} {s : State} {m : MethodId} {args : Array Value} {below : List Frame} {meth : Method} {c : Code} {h0 : g_H} {r : Int32} {h' : g_H} (X : gX G l yX8_gapNow.cls cX8_gapNow 3 (some .int) [] yX8_gapNow.name p s m args meth c) {k4 : Nat → Int32 → Int32 → gM Int32} (K4 : w_X8_gapNow_4 G l p e s m args below meth c h0 r h' k4) : w_X8_gapNow_45 G l p e s m args below meth c h0 r h' (f_X8_gapNow_45 k4) := by
  have hx := X.1
  have hb := X.2.1
  have hown := X.2.2.2.1
  have hts := X.2.2.2.2.1
  intro a0 x1 x2 h H locs cells slots ls hf hI hl
  unfold f_X8_gapNow_45 at hf
  refine lv_iinc (v := (x2 + (1 : Int32))) (lv' := [(2, .int (x2 + (1 : Int32))), (0, .ref a0), (1, .int x1)]) hx hb dX8_gapNow_45 hl (k := 2) rfl rfl (by decide) rfl (fun ls hl => ?_)
  refine lv_goto (tgt := 4) hx hb dX8_gapNow_48 (by decide) ?_
  exact K4 _ _ _ _ _ _ _ _ _ hf hI (lv_sub hl [1, 2, 0] rfl)
def f_X8_gapNow_43 (k4 : Nat → Int32 → Int32 → gM Int32) (a0 : Nat) (x2 : Int32) (u0 : Int32) (u1 : Int32) : gM Int32 :=
    f_X8_gapNow_45 k4 a0 (u0 + u1) x2
set_option maxHeartbeats 4000000 in
set_option maxRecDepth 100000 in
theorem b_X8_gapNow_43 {G : gG} {l : Launch} {p : Program} {e : Env} {s : State} {m : MethodId} {args : Array Value} {below : List Frame} {meth : Method} {c : Code} {h0 : g_H} {r : Int32} {h' : g_H} (X : gX G l yX8_gapNow.cls cX8_gapNow 3 (some .int) [] yX8_gapNow.name p s m args meth c) {k4 : Nat → Int32 → Int32 → gM Int32} (K4 : w_X8_gapNow_4 G l p e s m args below meth c h0 r h' k4) : w_X8_gapNow_43 G l p e s m args below meth c h0 r h' (f_X8_gapNow_43 k4) := by
  have hx := X.1
  have hb := X.2.1
  have hown := X.2.2.2.1
  have hts := X.2.2.2.2.1
  intro a0 x2 u0 u1 h H locs cells slots ls hf hI hl
  unfold f_X8_gapNow_43 at hf
  refine lv_iadd hx hb dX8_gapNow_43 ?_
  refine lv_istore_n (lv' := [(1, .int (u0 + u1)), (0, .ref a0), (2, .int x2)]) hx hb dX8_gapNow_44 rfl hl (by decide) rfl (fun ls hl => ?_)
  exact b_X8_gapNow_45 X K4 _ _ _ _ _ _ _ _ _ hf hI (lv_sub hl [1, 0, 2] rfl)
def f_X8_gapNow_51 (x1 : Int32) : gM Int32 :=
    (gRet x1)
set_option maxHeartbeats 4000000 in
set_option maxRecDepth 100000 in
theorem b_X8_gapNow_51 {G : gG} {l : Launch} {p : Program} {e : Env} {s : State} {m : MethodId} {args : Array Value} {below : List Frame} {meth : Method} {c : Code} {h0 : g_H} {r : Int32} {h' : g_H} (X : gX G l yX8_gapNow.cls cX8_gapNow 3 (some .int) [] yX8_gapNow.name p s m args meth c) : w_X8_gapNow_51 G l p e s m args below meth c h0 r h' (f_X8_gapNow_51) := by
  have hx := X.1
  have hb := X.2.1
  have hown := X.2.2.2.1
  have hts := X.2.2.2.2.1
  intro x1 h H locs cells slots ls hf hI hl
  unfold f_X8_gapNow_51 at hf
  refine lv_iload_n hx hb dX8_gapNow_51 rfl (lv_at hl 0 rfl) ?_
  cases gRet_e hf
  exact g_retI X hI rfl dX8_gapNow_52
def f_X8_gapNow_4 : Nat → Nat → Int32 → Int32 → gM Int32
  | 0, _, _, _ => gFail
  | n + 1, a0, x1, x2 =>
    gB (gCk a0 7) fun _ =>
    gB (f_X8_oneCount a0) fun r101 =>
    gIf (r101 ≤ x2)
    (f_X8_gapNow_51 x1)
    (gB (gCk a0 7) fun _ =>
    gB (f_X8_waits a0 x2) fun r102 =>
    gIf (r102 = 0)
    (f_X8_gapNow_45 (f_X8_gapNow_4 n) a0 x1 x2)
    (gB (gCk a0 7) fun _ =>
    gB (f_X8_isInnocent a0 x2) fun r103 =>
    gIf (r103 = 0)
    (gB (gCk a0 7) fun _ =>
    gB (f_X8_oddsOf a0 x2) fun r104 =>
    f_X8_gapNow_43 (f_X8_gapNow_4 n) a0 x2 x1 (-r104))
    (gB (gCk a0 7) fun _ =>
    gB (f_X8_oddsOf a0 x2) fun r105 =>
    f_X8_gapNow_43 (f_X8_gapNow_4 n) a0 x2 x1 r105)))
set_option maxHeartbeats 4000000 in
set_option maxRecDepth 100000 in
theorem b_X8_gapNow_4 {G : gG} {l : Launch} {p : Program} {e : Env} {s : State} {m : MethodId} {args : Array Value} {below : List Frame} {meth : Method} {c : Code} {h0 : g_H} {r : Int32} {h' : g_H} (X : gX G l yX8_gapNow.cls cX8_gapNow 3 (some .int) [] yX8_gapNow.name p s m args meth c) : ∀ n : Nat, w_X8_gapNow_4 G l p e s m args below meth c h0 r h' (f_X8_gapNow_4 n) := by
  have hx := X.1
  have hb := X.2.1
  have hown := X.2.2.2.1
  have hts := X.2.2.2.2.1
  intro n
  induction n with
  | zero =>
    intro a0 x1 x2 h H locs cells slots ls hf hI hl
    exact (gFail_f hf).elim
  | succ n ih =>
    intro a0 x1 x2 h H locs cells slots ls hf hI hl
    rw [f_X8_gapNow_4] at hf
    refine lv_iload_n hx hb dX8_gapNow_4 rfl (lv_at hl 2 rfl) ?_
    refine lv_aload_n hx hb dX8_gapNow_5 rfl (lv_at hl 0 rfl) ?_
    obtain ⟨hs, hf⟩ := gCk_b hf
    refine g_cBI hI hf (fun v9 h9 e9 l9 l9' => g_rV X hI l9 l9' ⟨Nat.le_refl _, Nat.le_refl _⟩ (As := []) (m_X8_oneCount X.2.2.2.2.2.2.2.2.2.2.1 e9) ydX8_oneCount hs rfl rfl q1673 q1675 qs61 q131 q1676 rfl (Nat.le_of_ble_eq_true rfl) (Nat.le_of_ble_eq_true rfl) hl.1 rfl (Nat.le_of_ble_eq_true rfl) dX8_gapNow_6) (fun r101 h H locs cells slots hf hI => ?_)
    refine lv_icmp_ge (tgt := 51) hx hb dX8_gapNow_9 (by decide) (fun c9 => ?_) (fun c9 => ?_)
    · have hf := g_t c9 hf
      exact b_X8_gapNow_51 X _ _ _ _ _ _ _ hf hI (lv_sub hl [1] rfl)
    · have hf := g_f c9 hf
      refine lv_aload_n hx hb dX8_gapNow_12 rfl (lv_at hl 0 rfl) ?_
      refine lv_iload_n hx hb dX8_gapNow_13 rfl (lv_at hl 2 rfl) ?_
      obtain ⟨hs, hf⟩ := gCk_b hf
      refine g_cBI hI hf (fun v9 h9 e9 l9 l9' => g_rV X hI l9 l9' ⟨Nat.le_refl _, Nat.le_refl _⟩ (As := [.int x2]) (m_X8_waits X.2.2.2.2.2.2.2.2.2.2.1 e9) ydX8_waits hs rfl rfl q1804 q1806 qs82 q131 q1807 rfl (Nat.le_of_ble_eq_true rfl) (Nat.le_of_ble_eq_true rfl) hl.1 rfl (Nat.le_of_ble_eq_true rfl) dX8_gapNow_14) (fun r102 h H locs cells slots hf hI => ?_)
      refine lv_if_eq (tgt := 45) hx hb dX8_gapNow_17 (by decide) (fun c17 => ?_) (fun c17 => ?_)
      · have hf := g_t c17 hf
        exact b_X8_gapNow_45 X ih _ _ _ _ _ _ _ _ _ hf hI (lv_sub hl [0, 1, 2] rfl)
      · have hf := g_f c17 hf
        refine lv_iload_n hx hb dX8_gapNow_20 rfl (lv_at hl 1 rfl) ?_
        refine lv_aload_n hx hb dX8_gapNow_21 rfl (lv_at hl 0 rfl) ?_
        refine lv_iload_n hx hb dX8_gapNow_22 rfl (lv_at hl 2 rfl) ?_
        obtain ⟨hs, hf⟩ := gCk_b hf
        refine g_cBI hI hf (fun v9 h9 e9 l9 l9' => g_rV X hI l9 l9' ⟨Nat.le_refl _, Nat.le_refl _⟩ (As := [.int x2]) (m_X8_isInnocent X.2.2.2.2.2.2.2.2.2.2.1 e9) ydX8_isInnocent hs rfl rfl q1971 q1973 qs105 q131 q1974 rfl (Nat.le_of_ble_eq_true rfl) (Nat.le_of_ble_eq_true rfl) hl.1 rfl (Nat.le_of_ble_eq_true rfl) dX8_gapNow_23) (fun r103 h H locs cells slots hf hI => ?_)
        refine lv_if_eq (tgt := 37) hx hb dX8_gapNow_26 (by decide) (fun c26 => ?_) (fun c26 => ?_)
        · have hf := g_t c26 hf
          refine lv_aload_n hx hb dX8_gapNow_37 rfl (lv_at hl 0 rfl) ?_
          refine lv_iload_n hx hb dX8_gapNow_38 rfl (lv_at hl 2 rfl) ?_
          obtain ⟨hs, hf⟩ := gCk_b hf
          refine g_cBI hI hf (fun v9 h9 e9 l9 l9' => g_rV X hI l9 l9' ⟨Nat.le_refl _, Nat.le_refl _⟩ (As := [.int x2]) (m_X8_oddsOf X.2.2.2.2.2.2.2.2.2.2.1 e9) ydX8_oddsOf hs rfl rfl q1958 q1960 qs103 q131 q1961 rfl (Nat.le_of_ble_eq_true rfl) (Nat.le_of_ble_eq_true rfl) hl.1 rfl (Nat.le_of_ble_eq_true rfl) dX8_gapNow_39) (fun r104 h H locs cells slots hf hI => ?_)
          refine lv_ineg hx hb dX8_gapNow_42 ?_
          exact b_X8_gapNow_43 X ih _ _ _ _ _ _ _ _ _ _ hf hI (lv_sub hl [0, 2] rfl)
        · have hf := g_f c26 hf
          refine lv_aload_n hx hb dX8_gapNow_29 rfl (lv_at hl 0 rfl) ?_
          refine lv_iload_n hx hb dX8_gapNow_30 rfl (lv_at hl 2 rfl) ?_
          obtain ⟨hs, hf⟩ := gCk_b hf
          refine g_cBI hI hf (fun v9 h9 e9 l9 l9' => g_rV X hI l9 l9' ⟨Nat.le_refl _, Nat.le_refl _⟩ (As := [.int x2]) (m_X8_oddsOf X.2.2.2.2.2.2.2.2.2.2.1 e9) ydX8_oddsOf hs rfl rfl q1958 q1960 qs103 q131 q1961 rfl (Nat.le_of_ble_eq_true rfl) (Nat.le_of_ble_eq_true rfl) hl.1 rfl (Nat.le_of_ble_eq_true rfl) dX8_gapNow_31) (fun r105 h H locs cells slots hf hI => ?_)
          refine lv_goto (tgt := 43) hx hb dX8_gapNow_34 (by decide) ?_
          exact b_X8_gapNow_43 X ih _ _ _ _ _ _ _ _ _ _ hf hI (lv_sub hl [0, 2] rfl)
def f_X8_gapNow (a0 : Nat) : gM Int32 :=
    f_X8_gapNow_4 gN a0 (0 : Int32) (0 : Int32)
set_option maxHeartbeats 4000000 in
set_option maxRecDepth 100000 in
theorem m_X8_gapNow {G : gG} {l : Launch} (hfl : l.stackTraces = false) {a0 : Nat} {h h' : g_H} {r : Int32} (hf : (f_X8_gapNow a0).1 h = some (r, h')) : gMet G l yX8_gapNow (Cond.code yX8_gapNow cX8_gapNow 3 (some .int)) 11 249 [.ref a0] h (.inl (g_wI r)) h' := by
  refine g_head hfl ((f_X8_gapNow a0).2 h r h' hf) (plainFor_of_name (by decide)) (Nat.le_of_ble_eq_true rfl) (fun p e s m below meth c H locs cells slots ls X hI hl9 => ?_)
  have hl : lv_has ls 3 [(0, .ref a0)] := hl9
  have hx := X.1
  have hb := X.2.1
  have hown := X.2.2.2.1
  have hts := X.2.2.2.2.1
  unfold f_X8_gapNow at hf
  refine lv_iconst (v := (0 : Int32)) hx hb dX8_gapNow_0 (by decide) ?_
  refine lv_istore_n (lv' := [(1, .int (0 : Int32)), (0, .ref a0)]) hx hb dX8_gapNow_1 rfl hl (by decide) rfl (fun ls hl => ?_)
  refine lv_iconst (v := (0 : Int32)) hx hb dX8_gapNow_2 (by decide) ?_
  refine lv_istore_n (lv' := [(2, .int (0 : Int32)), (1, .int (0 : Int32)), (0, .ref a0)]) hx hb dX8_gapNow_3 rfl hl (by decide) rfl (fun ls hl => ?_)
  exact b_X8_gapNow_4 X gN _ _ _ _ _ _ _ _ _ hf hI (lv_sub hl [2, 1, 0] rfl)
/-! X8_next -/
abbrev w_X8_next_106 (G : gG) (l : Launch) (p : Program) (e : Env) (s : State) (m : MethodId) (args : Array Value) (below : List Frame) (meth : Method) (c : Code) (h0 : g_H) (r : Int32) (h' : g_H) (k : Nat → Int32 → Int32 → Int32 → Int32 → gM Int32) : Prop := ∀ (a0 : Nat) (x1 : Int32) (x2 : Int32) (x3 : Int32) (x4 : Int32) (h : g_H) (H : Heap) (locs : List Loc) (cells slots : Nat) (ls : Array Slot), (k a0 x1 x2 x3 x4).1 h = some (r, h') → gI G h0 h H locs cells slots → lv_has ls 6 [(0, .ref a0), (1, .int x1), (2, .int x2), (3, .int x3), (4, .int x4)] → W p l e (g_rm 12 271 h0 h') s m args below meth c H locs cells slots (gQ G below args s h0 h' (.inl (g_wI r))) (F0 m 106 ls [])
abbrev w_X8_next_98 (G : gG) (l : Launch) (p : Program) (e : Env) (s : State) (m : MethodId) (args : Array Value) (below : List Frame) (meth : Method) (c : Code) (h0 : g_H) (r : Int32) (h' : g_H) (k : Nat → Int32 → Int32 → Int32 → Int32 → Int32 → gM Int32) : Prop := ∀ (a0 : Nat) (x2 : Int32) (x3 : Int32) (x4 : Int32) (x5 : Int32) (u0 : Int32) (h : g_H) (H : Heap) (locs : List Loc) (cells slots : Nat) (ls : Array Slot), (k a0 x2 x3 x4 x5 u0).1 h = some (r, h') → gI G h0 h H locs cells slots → lv_has ls 6 [(0, .ref a0), (2, .int x2), (3, .int x3), (4, .int x4), (5, .int x5)] → W p l e (g_rm 12 271 h0 h') s m args below meth c H locs cells slots (gQ G below args s h0 h' (.inl (g_wI r))) (F0 m 98 ls [.int u0])
abbrev w_X8_next_112 (G : gG) (l : Launch) (p : Program) (e : Env) (s : State) (m : MethodId) (args : Array Value) (below : List Frame) (meth : Method) (c : Code) (h0 : g_H) (r : Int32) (h' : g_H) (k : Nat → Int32 → Int32 → Int32 → gM Int32) : Prop := ∀ (a0 : Nat) (x1 : Int32) (x2 : Int32) (x3 : Int32) (h : g_H) (H : Heap) (locs : List Loc) (cells slots : Nat) (ls : Array Slot), (k a0 x1 x2 x3).1 h = some (r, h') → gI G h0 h H locs cells slots → lv_has ls 6 [(0, .ref a0), (1, .int x1), (2, .int x2), (3, .int x3)] → W p l e (g_rm 12 271 h0 h') s m args below meth c H locs cells slots (gQ G below args s h0 h' (.inl (g_wI r))) (F0 m 112 ls [])
abbrev w_X8_next_24 (G : gG) (l : Launch) (p : Program) (e : Env) (s : State) (m : MethodId) (args : Array Value) (below : List Frame) (meth : Method) (c : Code) (h0 : g_H) (r : Int32) (h' : g_H) (k : Nat → Int32 → Int32 → Int32 → Int32 → gM Int32) : Prop := ∀ (a0 : Nat) (x1 : Int32) (x2 : Int32) (x3 : Int32) (x4 : Int32) (h : g_H) (H : Heap) (locs : List Loc) (cells slots : Nat) (ls : Array Slot), (k a0 x1 x2 x3 x4).1 h = some (r, h') → gI G h0 h H locs cells slots → lv_has ls 6 [(0, .ref a0), (1, .int x1), (2, .int x2), (3, .int x3), (4, .int x4)] → W p l e (g_rm 12 271 h0 h') s m args below meth c H locs cells slots (gQ G below args s h0 h' (.inl (g_wI r))) (F0 m 24 ls [])
abbrev w_X8_next_118 (G : gG) (l : Launch) (p : Program) (e : Env) (s : State) (m : MethodId) (args : Array Value) (below : List Frame) (meth : Method) (c : Code) (h0 : g_H) (r : Int32) (h' : g_H) (k : Int32 → gM Int32) : Prop := ∀ (x1 : Int32) (h : g_H) (H : Heap) (locs : List Loc) (cells slots : Nat) (ls : Array Slot), (k x1).1 h = some (r, h') → gI G h0 h H locs cells slots → lv_has ls 6 [(1, .int x1)] → W p l e (g_rm 12 271 h0 h') s m args below meth c H locs cells slots (gQ G below args s h0 h' (.inl (g_wI r))) (F0 m 118 ls [])
abbrev w_X8_next_13 (G : gG) (l : Launch) (p : Program) (e : Env) (s : State) (m : MethodId) (args : Array Value) (below : List Frame) (meth : Method) (c : Code) (h0 : g_H) (r : Int32) (h' : g_H) (k : Nat → Int32 → Int32 → Int32 → gM Int32) : Prop := ∀ (a0 : Nat) (x1 : Int32) (x2 : Int32) (x3 : Int32) (h : g_H) (H : Heap) (locs : List Loc) (cells slots : Nat) (ls : Array Slot), (k a0 x1 x2 x3).1 h = some (r, h') → gI G h0 h H locs cells slots → lv_has ls 6 [(0, .ref a0), (1, .int x1), (2, .int x2), (3, .int x3)] → W p l e (g_rm 12 271 h0 h') s m args below meth c H locs cells slots (gQ G below args s h0 h' (.inl (g_wI r))) (F0 m 13 ls [])
def f_X8_next_106 (k24 : Nat → Int32 → Int32 → Int32 → Int32 → gM Int32) (a0 : Nat) (x1 : Int32) (x2 : Int32) (x3 : Int32) (x4 : Int32) : gM Int32 :=
    k24 a0 x1 x2 x3 (x4 + (1 : Int32))
set_option maxHeartbeats 4000000 in
set_option maxRecDepth 100000 in
theorem b_X8_next_106 {G : gG} {l : Launch} {p : Program} {e : Env} {s : State} {m : MethodId} {args : Array Value} {below : List Frame} {meth : Method} {c : Code} {h0 : g_H} {r : Int32} {h' : g_H} (X : gX G l yX8_next.cls cX8_next 6 (some .int) [] yX8_next.name p s m args meth c) {k24 : Nat → Int32 → Int32 → Int32 → Int32 → gM Int32} (K24 : w_X8_next_24 G l p e s m args below meth c h0 r h' k24) : w_X8_next_106 G l p e s m args below meth c h0 r h' (f_X8_next_106 k24) := by
  have hx := X.1
  have hb := X.2.1
  have hown := X.2.2.2.1
  have hts := X.2.2.2.2.1
  intro a0 x1 x2 x3 x4 h H locs cells slots ls hf hI hl
  unfold f_X8_next_106 at hf
  refine lv_iinc (v := (x4 + (1 : Int32))) (lv' := [(4, .int (x4 + (1 : Int32))), (0, .ref a0), (1, .int x1), (2, .int x2), (3, .int x3)]) hx hb dX8_next_106 hl (k := 4) rfl rfl (by decide) rfl (fun ls hl => ?_)
  refine lv_goto (tgt := 24) hx hb dX8_next_109 (by decide) ?_
  exact K24 _ _ _ _ _ _ _ _ _ _ _ hf hI (lv_sub hl [1, 2, 3, 4, 0] rfl)
def f_X8_next_98 (k24 : Nat → Int32 → Int32 → Int32 → Int32 → gM Int32) (a0 : Nat) (x2 : Int32) (x3 : Int32) (x4 : Int32) (x5 : Int32) (u0 : Int32) : gM Int32 :=
    gB (f_J13_max x2 x5) fun r101 =>
    f_X8_next_106 k24 a0 u0 r101 x3 x4
set_option maxHeartbeats 4000000 in
set_option maxRecDepth 100000 in
theorem b_X8_next_98 {G : gG} {l : Launch} {p : Program} {e : Env} {s : State} {m : MethodId} {args : Array Value} {below : List Frame} {meth : Method} {c : Code} {h0 : g_H} {r : Int32} {h' : g_H} (X : gX G l yX8_next.cls cX8_next 6 (some .int) [] yX8_next.name p s m args meth c) {k24 : Nat → Int32 → Int32 → Int32 → Int32 → gM Int32} (K24 : w_X8_next_24 G l p e s m args below meth c h0 r h' k24) : w_X8_next_98 G l p e s m args below meth c h0 r h' (f_X8_next_98 k24) := by
  have hx := X.1
  have hb := X.2.1
  have hown := X.2.2.2.1
  have hts := X.2.2.2.2.1
  intro a0 x2 x3 x4 x5 u0 h H locs cells slots ls hf hI hl
  unfold f_X8_next_98 at hf
  refine lv_istore_n (lv' := [(1, .int u0), (0, .ref a0), (2, .int x2), (3, .int x3), (4, .int x4), (5, .int x5)]) hx hb dX8_next_98 rfl hl (by decide) rfl (fun ls hl => ?_)
  refine lv_iload_n hx hb dX8_next_99 rfl (lv_at hl 2 rfl) ?_
  refine lv_iload hx hb dX8_next_100 (lv_at hl 5 rfl) ?_
  refine g_cBI hI hf (fun v9 h9 e9 l9 l9' => g_rS (b := 0) X hI l9 l9' ⟨Nat.le_refl _, Nat.le_refl _⟩ (As := [.int x2, .int x5]) (m_J13_max X.2.2.2.2.2.2.2.2.2.2.1 e9) ydJ13_max q1799 q564 q151 q565 rfl (Nat.le_of_ble_eq_true rfl) (Nat.le_of_ble_eq_true rfl) hl.1 rfl (Nat.le_of_ble_eq_true rfl) dX8_next_102) (fun r101 h H locs cells slots hf hI => ?_)
  refine lv_istore_n (lv' := [(2, .int r101), (1, .int u0), (0, .ref a0), (3, .int x3), (4, .int x4), (5, .int x5)]) hx hb dX8_next_105 rfl hl (by decide) rfl (fun ls hl => ?_)
  exact b_X8_next_106 X K24 _ _ _ _ _ _ _ _ _ _ _ hf hI (lv_sub hl [2, 1, 0, 3, 4] rfl)
def f_X8_next_112 (k13 : Nat → Int32 → Int32 → Int32 → gM Int32) (a0 : Nat) (x1 : Int32) (x2 : Int32) (x3 : Int32) : gM Int32 :=
    k13 a0 x1 x2 (x3 + (1 : Int32))
set_option maxHeartbeats 4000000 in
set_option maxRecDepth 100000 in
theorem b_X8_next_112 {G : gG} {l : Launch} {p : Program} {e : Env} {s : State} {m : MethodId} {args : Array Value} {below : List Frame} {meth : Method} {c : Code} {h0 : g_H} {r : Int32} {h' : g_H} (X : gX G l yX8_next.cls cX8_next 6 (some .int) [] yX8_next.name p s m args meth c) {k13 : Nat → Int32 → Int32 → Int32 → gM Int32} (K13 : w_X8_next_13 G l p e s m args below meth c h0 r h' k13) : w_X8_next_112 G l p e s m args below meth c h0 r h' (f_X8_next_112 k13) := by
  have hx := X.1
  have hb := X.2.1
  have hown := X.2.2.2.1
  have hts := X.2.2.2.2.1
  intro a0 x1 x2 x3 h H locs cells slots ls hf hI hl
  unfold f_X8_next_112 at hf
  refine lv_iinc (v := (x3 + (1 : Int32))) (lv' := [(3, .int (x3 + (1 : Int32))), (0, .ref a0), (1, .int x1), (2, .int x2)]) hx hb dX8_next_112 hl (k := 3) rfl rfl (by decide) rfl (fun ls hl => ?_)
  refine lv_goto (tgt := 13) hx hb dX8_next_115 (by decide) ?_
  exact K13 _ _ _ _ _ _ _ _ _ _ hf hI (lv_sub hl [1, 2, 3, 0] rfl)
def f_X8_next_24 (k13 : Nat → Int32 → Int32 → Int32 → gM Int32) : Nat → Nat → Int32 → Int32 → Int32 → Int32 → gM Int32
  | 0, _, _, _, _, _ => gFail
  | n + 1, a0, x1, x2, x3, x4 =>
    gIf ((10 : Int32) ≤ x4)
    (f_X8_next_112 k13 a0 x1 x2 x3)
    (gB (gCk a0 7) fun _ =>
    gB (f_X8_isNailed a0 x3) fun r101 =>
    gIf (r101 = 0)
    (gB (gCk a0 7) fun _ =>
    gB (f_X8_propIn a0 x4) fun r102 =>
    gIf (r102 = (-1 : Int32))
    (gB (gFR a0 7 1) fun v103 =>
    gB (f_X8_propAt x3 (3 : Int32)) fun r104 =>
    gB (gSI v103 0 r104 x4) fun _ =>
    gB (gCk a0 7) fun _ =>
    gB (f_X8_gapNow a0) fun r105 =>
    gB (gFR a0 7 1) fun v106 =>
    gB (f_X8_propAt x3 (3 : Int32)) fun r107 =>
    gB (gSI v106 0 r107 (-1 : Int32)) fun _ =>
    gIf (r105 ≤ x2)
    (f_X8_next_98 (f_X8_next_24 k13 n) a0 x2 x3 x4 r105 x1)
    (f_X8_next_98 (f_X8_next_24 k13 n) a0 x2 x3 x4 r105 (((10 : Int32) * x3) + x4)))
    (f_X8_next_106 (f_X8_next_24 k13 n) a0 x1 x2 x3 x4))
    (f_X8_next_106 (f_X8_next_24 k13 n) a0 x1 x2 x3 x4))
set_option maxHeartbeats 4000000 in
set_option maxRecDepth 100000 in
theorem b_X8_next_24 {G : gG} {l : Launch} {p : Program} {e : Env} {s : State} {m : MethodId} {args : Array Value} {below : List Frame} {meth : Method} {c : Code} {h0 : g_H} {r : Int32} {h' : g_H} (X : gX G l yX8_next.cls cX8_next 6 (some .int) [] yX8_next.name p s m args meth c) {k13 : Nat → Int32 → Int32 → Int32 → gM Int32} (K13 : w_X8_next_13 G l p e s m args below meth c h0 r h' k13) : ∀ n : Nat, w_X8_next_24 G l p e s m args below meth c h0 r h' (f_X8_next_24 k13 n) := by
  have hx := X.1
  have hb := X.2.1
  have hown := X.2.2.2.1
  have hts := X.2.2.2.2.1
  intro n
  induction n with
  | zero =>
    intro a0 x1 x2 x3 x4 h H locs cells slots ls hf hI hl
    exact (gFail_f hf).elim
  | succ n ih =>
    intro a0 x1 x2 x3 x4 h H locs cells slots ls hf hI hl
    rw [f_X8_next_24] at hf
    refine lv_iload hx hb dX8_next_24 (lv_at hl 4 rfl) ?_
    refine lv_bipush (v := (10 : Int32)) hx hb dX8_next_26 (by decide) ?_
    refine lv_icmp_ge (tgt := 112) hx hb dX8_next_28 (by decide) (fun c28 => ?_) (fun c28 => ?_)
    · have hf := g_t c28 hf
      exact b_X8_next_112 X K13 _ _ _ _ _ _ _ _ _ _ hf hI (lv_sub hl [0, 1, 2, 3] rfl)
    · have hf := g_f c28 hf
      refine lv_aload_n hx hb dX8_next_31 rfl (lv_at hl 0 rfl) ?_
      refine lv_iload_n hx hb dX8_next_32 rfl (lv_at hl 3 rfl) ?_
      obtain ⟨hs, hf⟩ := gCk_b hf
      refine g_cBI hI hf (fun v9 h9 e9 l9 l9' => g_rV X hI l9 l9' ⟨Nat.le_refl _, Nat.le_refl _⟩ (As := [.int x3]) (m_X8_isNailed X.2.2.2.2.2.2.2.2.2.2.1 e9) ydX8_isNailed hs rfl rfl q1850 q1852 qs92 q131 q1853 rfl (Nat.le_of_ble_eq_true rfl) (Nat.le_of_ble_eq_true rfl) hl.1 rfl (Nat.le_of_ble_eq_true rfl) dX8_next_33) (fun r101 h H locs cells slots hf hI => ?_)
      refine lv_if_ne (tgt := 106) hx hb dX8_next_36 (by decide) (fun c36 => ?_) (fun c36 => ?_)
      · have hf := g_f c36 hf
        exact b_X8_next_106 X ih _ _ _ _ _ _ _ _ _ _ _ hf hI (lv_sub hl [0, 1, 2, 3, 4] rfl)
      · have hf := g_t c36 hf
        refine lv_aload_n hx hb dX8_next_39 rfl (lv_at hl 0 rfl) ?_
        refine lv_iload hx hb dX8_next_40 (lv_at hl 4 rfl) ?_
        obtain ⟨hs, hf⟩ := gCk_b hf
        refine g_cBI hI hf (fun v9 h9 e9 l9 l9' => g_rV X hI l9 l9' ⟨Nat.le_refl _, Nat.le_refl _⟩ (As := [.int x4]) (m_X8_propIn X.2.2.2.2.2.2.2.2.2.2.1 e9) ydX8_propIn hs rfl rfl q1655 q1657 qs58 q131 q1658 rfl (Nat.le_of_ble_eq_true rfl) (Nat.le_of_ble_eq_true rfl) hl.1 rfl (Nat.le_of_ble_eq_true rfl) dX8_next_42) (fun r102 h H locs cells slots hf hI => ?_)
        refine lv_iconst (v := (-1 : Int32)) hx hb dX8_next_45 (by decide) ?_
        refine lv_icmp_eq (tgt := 52) hx hb dX8_next_46 (by decide) (fun c46 => ?_) (fun c46 => ?_)
        · have hf := g_t c46 hf
          refine lv_aload_n hx hb dX8_next_52 rfl (lv_at hl 0 rfl) ?_
          refine g_fr X hI hf fX8_1 q1445 rfl rfl dX8_next_53 (fun v103 hf => ?_)
          refine lv_iload_n hx hb dX8_next_56 rfl (lv_at hl 3 rfl) ?_
          refine lv_iconst (v := (3 : Int32)) hx hb dX8_next_57 (by decide) ?_
          refine g_cBI hI hf (fun v9 h9 e9 l9 l9' => g_rS (b := 0) X hI l9 l9' ⟨Nat.le_refl _, Nat.le_refl _⟩ (As := [.int x3, .int (3 : Int32)]) (m_X8_propAt X.2.2.2.2.2.2.2.2.2.2.1 e9) ydX8_propAt q1663 q1664 q131 q1665 rfl (Nat.le_of_ble_eq_true rfl) (Nat.le_of_ble_eq_true rfl) hl.1 rfl (Nat.le_of_ble_eq_true rfl) dX8_next_58) (fun r104 h H locs cells slots hf hI => ?_)
          refine lv_iload hx hb dX8_next_61 (lv_at hl 4 rfl) ?_
          refine g_si0 X hI hf dX8_next_63 (fun h H locs hf hI => ?_)
          refine lv_aload_n hx hb dX8_next_64 rfl (lv_at hl 0 rfl) ?_
          obtain ⟨hs, hf⟩ := gCk_b hf
          refine g_cBI hI hf (fun v9 h9 e9 l9 l9' => g_rV X hI l9 l9' ⟨Nat.le_refl _, Nat.le_refl _⟩ (As := []) (m_X8_gapNow X.2.2.2.2.2.2.2.2.2.2.1 e9) ydX8_gapNow hs rfl rfl q1967 q1969 qs104 q131 q1970 rfl (Nat.le_of_ble_eq_true rfl) (Nat.le_of_ble_eq_true rfl) hl.1 rfl (Nat.le_of_ble_eq_true rfl) dX8_next_65) (fun r105 h H locs cells slots hf hI => ?_)
          refine lv_istore (lv' := [(5, .int r105), (0, .ref a0), (1, .int x1), (2, .int x2), (3, .int x3), (4, .int x4)]) hx hb dX8_next_68 hl (by decide) rfl (fun ls hl => ?_)
          refine lv_aload_n hx hb dX8_next_70 rfl (lv_at hl 1 rfl) ?_
          refine g_fr X hI hf fX8_1 q1445 rfl rfl dX8_next_71 (fun v106 hf => ?_)
          refine lv_iload_n hx hb dX8_next_74 rfl (lv_at hl 4 rfl) ?_
          refine lv_iconst (v := (3 : Int32)) hx hb dX8_next_75 (by decide) ?_
          refine g_cBI hI hf (fun v9 h9 e9 l9 l9' => g_rS (b := 0) X hI l9 l9' ⟨Nat.le_refl _, Nat.le_refl _⟩ (As := [.int x3, .int (3 : Int32)]) (m_X8_propAt X.2.2.2.2.2.2.2.2.2.2.1 e9) ydX8_propAt q1663 q1664 q131 q1665 rfl (Nat.le_of_ble_eq_true rfl) (Nat.le_of_ble_eq_true rfl) hl.1 rfl (Nat.le_of_ble_eq_true rfl) dX8_next_76) (fun r107 h H locs cells slots hf hI => ?_)
          refine lv_iconst (v := (-1 : Int32)) hx hb dX8_next_79 (by decide) ?_
          refine g_si0 X hI hf dX8_next_80 (fun h H locs hf hI => ?_)
          refine lv_iload hx hb dX8_next_81 (lv_at hl 0 rfl) ?_
          refine lv_iload_n hx hb dX8_next_83 rfl (lv_at hl 3 rfl) ?_
          refine lv_icmp_le (tgt := 97) hx hb dX8_next_84 (by decide) (fun c84 => ?_) (fun c84 => ?_)
          · have hf := g_t c84 hf
            refine lv_iload_n hx hb dX8_next_97 rfl (lv_at hl 2 rfl) ?_
            exact b_X8_next_98 X ih _ _ _ _ _ _ _ _ _ _ _ _ hf hI (lv_sub hl [1, 3, 4, 5, 0] rfl)
          · have hf := g_f c84 hf
            refine lv_bipush (v := (10 : Int32)) hx hb dX8_next_87 (by decide) ?_
            refine lv_iload_n hx hb dX8_next_89 rfl (lv_at hl 4 rfl) ?_
            refine lv_imul hx hb dX8_next_90 ?_
            refine lv_iload hx hb dX8_next_91 (lv_at hl 5 rfl) ?_
            refine lv_iadd hx hb dX8_next_93 ?_
            refine lv_goto (tgt := 98) hx hb dX8_next_94 (by decide) ?_
            exact b_X8_next_98 X ih _ _ _ _ _ _ _ _ _ _ _ _ hf hI (lv_sub hl [1, 3, 4, 5, 0] rfl)
        · have hf := g_f c46 hf
          refine lv_goto (tgt := 106) hx hb dX8_next_49 (by decide) ?_
          exact b_X8_next_106 X ih _ _ _ _ _ _ _ _ _ _ _ hf hI (lv_sub hl [0, 1, 2, 3, 4] rfl)
def f_X8_next_118 (x1 : Int32) : gM Int32 :=
    (gRet x1)
set_option maxHeartbeats 4000000 in
set_option maxRecDepth 100000 in
theorem b_X8_next_118 {G : gG} {l : Launch} {p : Program} {e : Env} {s : State} {m : MethodId} {args : Array Value} {below : List Frame} {meth : Method} {c : Code} {h0 : g_H} {r : Int32} {h' : g_H} (X : gX G l yX8_next.cls cX8_next 6 (some .int) [] yX8_next.name p s m args meth c) : w_X8_next_118 G l p e s m args below meth c h0 r h' (f_X8_next_118) := by
  have hx := X.1
  have hb := X.2.1
  have hown := X.2.2.2.1
  have hts := X.2.2.2.2.1
  intro x1 h H locs cells slots ls hf hI hl
  unfold f_X8_next_118 at hf
  refine lv_iload_n hx hb dX8_next_118 rfl (lv_at hl 0 rfl) ?_
  cases gRet_e hf
  exact g_retI X hI rfl dX8_next_119
def f_X8_next_13 : Nat → Nat → Int32 → Int32 → Int32 → gM Int32
  | 0, _, _, _, _ => gFail
  | n + 1, a0, x1, x2, x3 =>
    gB (gCk a0 7) fun _ =>
    gB (f_X8_props a0) fun r101 =>
    gIf (r101 ≤ x3)
    (f_X8_next_118 x1)
    (f_X8_next_24 (f_X8_next_13 n) gN a0 x1 x2 x3 (0 : Int32))
set_option maxHeartbeats 4000000 in
set_option maxRecDepth 100000 in
theorem b_X8_next_13 {G : gG} {l : Launch} {p : Program} {e : Env} {s : State} {m : MethodId} {args : Array Value} {below : List Frame} {meth : Method} {c : Code} {h0 : g_H} {r : Int32} {h' : g_H} (X : gX G l yX8_next.cls cX8_next 6 (some .int) [] yX8_next.name p s m args meth c) : ∀ n : Nat, w_X8_next_13 G l p e s m args below meth c h0 r h' (f_X8_next_13 n) := by
  have hx := X.1
  have hb := X.2.1
  have hown := X.2.2.2.1
  have hts := X.2.2.2.2.1
  intro n
  induction n with
  | zero =>
    intro a0 x1 x2 x3 h H locs cells slots ls hf hI hl
    exact (gFail_f hf).elim
  | succ n ih =>
    intro a0 x1 x2 x3 h H locs cells slots ls hf hI hl
    rw [f_X8_next_13] at hf
    refine lv_iload_n hx hb dX8_next_13 rfl (lv_at hl 3 rfl) ?_
    refine lv_aload_n hx hb dX8_next_14 rfl (lv_at hl 0 rfl) ?_
    obtain ⟨hs, hf⟩ := gCk_b hf
    refine g_cBI hI hf (fun v9 h9 e9 l9 l9' => g_rV X hI l9 l9' ⟨Nat.le_refl _, Nat.le_refl _⟩ (As := []) (m_X8_props X.2.2.2.2.2.2.2.2.2.2.1 e9) ydX8_props hs rfl rfl q1626 q1628 qs53 q131 q1629 rfl (Nat.le_of_ble_eq_true rfl) (Nat.le_of_ble_eq_true rfl) hl.1 rfl (Nat.le_of_ble_eq_true rfl) dX8_next_15) (fun r101 h H locs cells slots hf hI => ?_)
    refine lv_icmp_ge (tgt := 118) hx hb dX8_next_18 (by decide) (fun c18 => ?_) (fun c18 => ?_)
    · have hf := g_t c18 hf
      exact b_X8_next_118 X _ _ _ _ _ _ _ hf hI (lv_sub hl [1] rfl)
    · have hf := g_f c18 hf
      refine lv_iconst (v := (0 : Int32)) hx hb dX8_next_21 (by decide) ?_
      refine lv_istore (lv' := [(4, .int (0 : Int32)), (0, .ref a0), (1, .int x1), (2, .int x2), (3, .int x3)]) hx hb dX8_next_22 hl (by decide) rfl (fun ls hl => ?_)
      exact b_X8_next_24 X ih gN _ _ _ _ _ _ _ _ _ _ _ hf hI (lv_sub hl [1, 2, 3, 4, 0] rfl)
def f_X8_next (a0 : Nat) : gM Int32 :=
    gB (gPI a0 7 0 (0 : Int32)) fun _ =>
    f_X8_next_13 gN a0 (-1 : Int32) (-100000000 : Int32) (0 : Int32)
set_option maxHeartbeats 4000000 in
set_option maxRecDepth 100000 in
theorem m_X8_next {G : gG} {l : Launch} (hfl : l.stackTraces = false) {a0 : Nat} {h h' : g_H} {r : Int32} (hf : (f_X8_next a0).1 h = some (r, h')) : gMet G l yX8_next (Cond.code yX8_next cX8_next 6 (some .int)) 12 271 [.ref a0] h (.inl (g_wI r)) h' := by
  refine g_head hfl ((f_X8_next a0).2 h r h' hf) (plainFor_of_name (by decide)) (Nat.le_of_ble_eq_true rfl) (fun p e s m below meth c H locs cells slots ls X hI hl9 => ?_)
  have hl : lv_has ls 6 [(0, .ref a0)] := hl9
  have hx := X.1
  have hb := X.2.1
  have hown := X.2.2.2.1
  have hts := X.2.2.2.2.1
  unfold f_X8_next at hf
  refine lv_aload_n hx hb dX8_next_0 rfl (lv_at hl 0 rfl) ?_
  refine lv_iconst (v := (0 : Int32)) hx hb dX8_next_1 (by decide) ?_
  refine g_pi X hI hf fX8_0 q1444 rfl dX8_next_2 (fun h H locs hf hI => ?_)
  refine lv_iconst (v := (-1 : Int32)) hx hb dX8_next_5 (by decide) ?_
  refine lv_istore_n (lv' := [(1, .int (-1 : Int32)), (0, .ref a0)]) hx hb dX8_next_6 rfl hl (by decide) rfl (fun ls hl => ?_)
  refine lv_ldcw (v := (-100000000 : Int32)) hx hb hown (hts _ q2000) dX8_next_7 ?_
  refine lv_istore_n (lv' := [(2, .int (-100000000 : Int32)), (1, .int (-1 : Int32)), (0, .ref a0)]) hx hb dX8_next_10 rfl hl (by decide) rfl (fun ls hl => ?_)
  refine lv_iconst (v := (0 : Int32)) hx hb dX8_next_11 (by decide) ?_
  refine lv_istore_n (lv' := [(3, .int (0 : Int32)), (2, .int (-100000000 : Int32)), (1, .int (-1 : Int32)), (0, .ref a0)]) hx hb dX8_next_12 rfl hl (by decide) rfl (fun ls hl => ?_)
  exact b_X8_next_13 X gN _ _ _ _ _ _ _ _ _ _ hf hI (lv_sub hl [3, 2, 1, 0] rfl)
/-! X1_changes -/
def f_X1_changes (a0 : Nat) (x1 : Int32) (x2 : Int32) : gM Unit :=
    gB (gFR a0 0 1) fun v1 =>
    gB (gFR v1 2 3) fun v2 =>
    gB (gAI v2 0 x1) fun v3 =>
    gB (gFR a0 0 1) fun v4 =>
    gB (gFR v4 2 3) fun v5 =>
    gB (gFR a0 0 1) fun v6 =>
    gB (gFR v6 2 3) fun v7 =>
    gB (gAI v7 0 x2) fun v8 =>
    gB (gSI v5 0 x1 v8) fun _ =>
    gB (gFR a0 0 1) fun v9 =>
    gB (gFR v9 2 3) fun v10 =>
    gB (gSI v10 0 x2 v3) fun _ =>
    gRet ()
set_option maxHeartbeats 4000000 in
set_option maxRecDepth 100000 in
theorem m_X1_changes {G : gG} {l : Launch} (hfl : l.stackTraces = false) {a0 : Nat} {x1 : Int32} {x2 : Int32} {h h' : g_H} {r : Unit} (hf : (f_X1_changes a0 x1 x2).1 h = some (r, h')) : gMet G l yX1_changes (Cond.code yX1_changes cX1_changes 4 none) 1 20 [.ref a0, .int x1, .int x2] h (.inl (g_wU r)) h' := by
  refine g_head hfl ((f_X1_changes a0 x1 x2).2 h r h' hf) (plainFor_of_name (by decide)) (Nat.le_of_ble_eq_true rfl) (fun p e s m below meth c H locs cells slots ls X hI hl9 => ?_)
  have hl : lv_has ls 4 [(0, .ref a0), (1, .int x1), (2, .int x2)] := hl9
  have hx := X.1
  have hb := X.2.1
  have hown := X.2.2.2.1
  have hts := X.2.2.2.2.1
  unfold f_X1_changes at hf
  refine lv_aload_n hx hb dX1_changes_0 rfl (lv_at hl 0 rfl) ?_
  refine g_fr X hI hf fX1_1 q461 rfl rfl dX1_changes_1 (fun v1 hf => ?_)
  refine g_frN X hI hf fX3_3 q264 rfl rfl dX1_changes_4 (fun v2 hf => ?_)
  refine lv_iload_n hx hb dX1_changes_7 rfl (lv_at hl 1 rfl) ?_
  refine g_ai0 X hI hf dX1_changes_8 (fun v3 hf => ?_)
  refine lv_istore_n (lv' := [(3, .int v3), (0, .ref a0), (1, .int x1), (2, .int x2)]) hx hb dX1_changes_9 rfl hl (by decide) rfl (fun ls hl => ?_)
  refine lv_aload_n hx hb dX1_changes_10 rfl (lv_at hl 1 rfl) ?_
  refine g_fr X hI hf fX1_1 q461 rfl rfl dX1_changes_11 (fun v4 hf => ?_)
  refine g_frN X hI hf fX3_3 q264 rfl rfl dX1_changes_14 (fun v5 hf => ?_)
  refine lv_iload_n hx hb dX1_changes_17 rfl (lv_at hl 2 rfl) ?_
  refine lv_aload_n hx hb dX1_changes_18 rfl (lv_at hl 1 rfl) ?_
  refine g_fr X hI hf fX1_1 q461 rfl rfl dX1_changes_19 (fun v6 hf => ?_)
  refine g_frN X hI hf fX3_3 q264 rfl rfl dX1_changes_22 (fun v7 hf => ?_)
  refine lv_iload_n hx hb dX1_changes_25 rfl (lv_at hl 3 rfl) ?_
  refine g_ai0 X hI hf dX1_changes_26 (fun v8 hf => ?_)
  refine g_si0 X hI hf dX1_changes_27 (fun h H locs hf hI => ?_)
  refine lv_aload_n hx hb dX1_changes_28 rfl (lv_at hl 1 rfl) ?_
  refine g_fr X hI hf fX1_1 q461 rfl rfl dX1_changes_29 (fun v9 hf => ?_)
  refine g_frN X hI hf fX3_3 q264 rfl rfl dX1_changes_32 (fun v10 hf => ?_)
  refine lv_iload_n hx hb dX1_changes_35 rfl (lv_at hl 3 rfl) ?_
  refine lv_iload_n hx hb dX1_changes_36 rfl (lv_at hl 0 rfl) ?_
  refine g_si0 X hI hf dX1_changes_37 (fun h H locs hf hI => ?_)
  cases gRet_e hf
  exact g_retU X hI rfl dX1_changes_38
/-! X1_swap -/
abbrev w_X1_swap_67 (G : gG) (l : Launch) (p : Program) (e : Env) (s : State) (m : MethodId) (args : Array Value) (below : List Frame) (meth : Method) (c : Code) (h0 : g_H) (r : Int32) (h' : g_H) (k : Nat → Int32 → Int32 → Int32 → Int32 → gM Int32) : Prop := ∀ (a0 : Nat) (x1 : Int32) (x2 : Int32) (x3 : Int32) (x4 : Int32) (h : g_H) (H : Heap) (locs : List Loc) (cells slots : Nat) (ls : Array Slot), (k a0 x1 x2 x3 x4).1 h = some (r, h') → gI G h0 h H locs cells slots → lv_has ls 6 [(0, .ref a0), (1, .int x1), (2, .int x2), (3, .int x3), (4, .int x4)] → W p l e (g_rm 105 1961 h0 h') s m args below meth c H locs cells slots (gQ G below args s h0 h' (.inl (g_wI r))) (F0 m 67 ls [])
abbrev w_X1_swap_73 (G : gG) (l : Launch) (p : Program) (e : Env) (s : State) (m : MethodId) (args : Array Value) (below : List Frame) (meth : Method) (c : Code) (h0 : g_H) (r : Int32) (h' : g_H) (k : Nat → Int32 → Int32 → Int32 → gM Int32) : Prop := ∀ (a0 : Nat) (x1 : Int32) (x2 : Int32) (x3 : Int32) (h : g_H) (H : Heap) (locs : List Loc) (cells slots : Nat) (ls : Array Slot), (k a0 x1 x2 x3).1 h = some (r, h') → gI G h0 h H locs cells slots → lv_has ls 6 [(0, .ref a0), (1, .int x1), (2, .int x2), (3, .int x3)] → W p l e (g_rm 105 1961 h0 h') s m args below meth c H locs cells slots (gQ G below args s h0 h' (.inl (g_wI r))) (F0 m 73 ls [])
abbrev w_X1_swap_20 (G : gG) (l : Launch) (p : Program) (e : Env) (s : State) (m : MethodId) (args : Array Value) (below : List Frame) (meth : Method) (c : Code) (h0 : g_H) (r : Int32) (h' : g_H) (k : Nat → Int32 → Int32 → Int32 → Int32 → gM Int32) : Prop := ∀ (a0 : Nat) (x1 : Int32) (x2 : Int32) (x3 : Int32) (x4 : Int32) (h : g_H) (H : Heap) (locs : List Loc) (cells slots : Nat) (ls : Array Slot), (k a0 x1 x2 x3 x4).1 h = some (r, h') → gI G h0 h H locs cells slots → lv_has ls 6 [(0, .ref a0), (1, .int x1), (2, .int x2), (3, .int x3), (4, .int x4)] → W p l e (g_rm 105 1961 h0 h') s m args below meth c H locs cells slots (gQ G below args s h0 h' (.inl (g_wI r))) (F0 m 20 ls [])
abbrev w_X1_swap_79 (G : gG) (l : Launch) (p : Program) (e : Env) (s : State) (m : MethodId) (args : Array Value) (below : List Frame) (meth : Method) (c : Code) (h0 : g_H) (r : Int32) (h' : g_H) (k : Int32 → gM Int32) : Prop := ∀ (x2 : Int32) (h : g_H) (H : Heap) (locs : List Loc) (cells slots : Nat) (ls : Array Slot), (k x2).1 h = some (r, h') → gI G h0 h H locs cells slots → lv_has ls 6 [(2, .int x2)] → W p l e (g_rm 105 1961 h0 h') s m args below meth c H locs cells slots (gQ G below args s h0 h' (.inl (g_wI r))) (F0 m 79 ls [])
abbrev w_X1_swap_9 (G : gG) (l : Launch) (p : Program) (e : Env) (s : State) (m : MethodId) (args : Array Value) (below : List Frame) (meth : Method) (c : Code) (h0 : g_H) (r : Int32) (h' : g_H) (k : Nat → Int32 → Int32 → Int32 → gM Int32) : Prop := ∀ (a0 : Nat) (x1 : Int32) (x2 : Int32) (x3 : Int32) (h : g_H) (H : Heap) (locs : List Loc) (cells slots : Nat) (ls : Array Slot), (k a0 x1 x2 x3).1 h = some (r, h') → gI G h0 h H locs cells slots → lv_has ls 6 [(0, .ref a0), (1, .int x1), (2, .int x2), (3, .int x3)] → W p l e (g_rm 105 1961 h0 h') s m args below meth c H locs cells slots (gQ G below args s h0 h' (.inl (g_wI r))) (F0 m 9 ls [])
def f_X1_swap_67 (k20 : Nat → Int32 → Int32 → Int32 → Int32 → gM Int32) (a0 : Nat) (x1 : Int32) (x2 : Int32) (x3 : Int32) (x4 : Int32) : gM Int32 :=
    k20 a0 x1 x2 x3 (x4 + (1 : Int32))
set_option maxHeartbeats 4000000 in
set_option maxRecDepth 100000 in
theorem b_X1_swap_67 {G : gG} {l : Launch} {p : Program} {e : Env} {s : State} {m : MethodId} {args : Array Value} {below : List Frame} {meth : Method} {c : Code} {h0 : g_H} {r : Int32} {h' : g_H} (X : gX G l yX1_swap.cls cX1_swap 6 (some .int) [] yX1_swap.name p s m args meth c) {k20 : Nat → Int32 → Int32 → Int32 → Int32 → gM Int32} (K20 : w_X1_swap_20 G l p e s m args below meth c h0 r h' k20) : w_X1_swap_67 G l p e s m args below meth c h0 r h' (f_X1_swap_67 k20) := by
  have hx := X.1
  have hb := X.2.1
  have hown := X.2.2.2.1
  have hts := X.2.2.2.2.1
  intro a0 x1 x2 x3 x4 h H locs cells slots ls hf hI hl
  unfold f_X1_swap_67 at hf
  refine lv_iinc (v := (x4 + (1 : Int32))) (lv' := [(4, .int (x4 + (1 : Int32))), (0, .ref a0), (1, .int x1), (2, .int x2), (3, .int x3)]) hx hb dX1_swap_67 hl (k := 4) rfl rfl (by decide) rfl (fun ls hl => ?_)
  refine lv_goto (tgt := 20) hx hb dX1_swap_70 (by decide) ?_
  exact K20 _ _ _ _ _ _ _ _ _ _ _ hf hI (lv_sub hl [1, 2, 3, 4, 0] rfl)
def f_X1_swap_73 (k9 : Nat → Int32 → Int32 → Int32 → gM Int32) (a0 : Nat) (x1 : Int32) (x2 : Int32) (x3 : Int32) : gM Int32 :=
    k9 a0 x1 x2 (x3 + (1 : Int32))
set_option maxHeartbeats 4000000 in
set_option maxRecDepth 100000 in
theorem b_X1_swap_73 {G : gG} {l : Launch} {p : Program} {e : Env} {s : State} {m : MethodId} {args : Array Value} {below : List Frame} {meth : Method} {c : Code} {h0 : g_H} {r : Int32} {h' : g_H} (X : gX G l yX1_swap.cls cX1_swap 6 (some .int) [] yX1_swap.name p s m args meth c) {k9 : Nat → Int32 → Int32 → Int32 → gM Int32} (K9 : w_X1_swap_9 G l p e s m args below meth c h0 r h' k9) : w_X1_swap_73 G l p e s m args below meth c h0 r h' (f_X1_swap_73 k9) := by
  have hx := X.1
  have hb := X.2.1
  have hown := X.2.2.2.1
  have hts := X.2.2.2.2.1
  intro a0 x1 x2 x3 h H locs cells slots ls hf hI hl
  unfold f_X1_swap_73 at hf
  refine lv_iinc (v := (x3 + (1 : Int32))) (lv' := [(3, .int (x3 + (1 : Int32))), (0, .ref a0), (1, .int x1), (2, .int x2)]) hx hb dX1_swap_73 hl (k := 3) rfl rfl (by decide) rfl (fun ls hl => ?_)
  refine lv_goto (tgt := 9) hx hb dX1_swap_76 (by decide) ?_
  exact K9 _ _ _ _ _ _ _ _ _ _ hf hI (lv_sub hl [1, 2, 3, 0] rfl)
def f_X1_swap_20 (k9 : Nat → Int32 → Int32 → Int32 → gM Int32) : Nat → Nat → Int32 → Int32 → Int32 → Int32 → gM Int32
  | 0, _, _, _, _, _ => gFail
  | n + 1, a0, x1, x2, x3, x4 =>
    gIf ((10 : Int32) ≤ x4)
    (f_X1_swap_73 k9 a0 x1 x2 x3)
    (gB (gCk a0 0) fun _ =>
    gB (f_X1_changes a0 x3 x4) fun _ =>
    gB (gCk a0 0) fun _ =>
    gB (f_X1_gap a0) fun r102 =>
    gB (gCk a0 0) fun _ =>
    gB (f_X1_changes a0 x3 x4) fun _ =>
    gIf (x1 < r102)
    (f_X1_swap_67 (f_X1_swap_20 k9 n) a0 r102 (((10 : Int32) * x3) + x4) x3 x4)
    (f_X1_swap_67 (f_X1_swap_20 k9 n) a0 x1 x2 x3 x4))
set_option maxHeartbeats 4000000 in
set_option maxRecDepth 100000 in
theorem b_X1_swap_20 {G : gG} {l : Launch} {p : Program} {e : Env} {s : State} {m : MethodId} {args : Array Value} {below : List Frame} {meth : Method} {c : Code} {h0 : g_H} {r : Int32} {h' : g_H} (X : gX G l yX1_swap.cls cX1_swap 6 (some .int) [] yX1_swap.name p s m args meth c) {k9 : Nat → Int32 → Int32 → Int32 → gM Int32} (K9 : w_X1_swap_9 G l p e s m args below meth c h0 r h' k9) : ∀ n : Nat, w_X1_swap_20 G l p e s m args below meth c h0 r h' (f_X1_swap_20 k9 n) := by
  have hx := X.1
  have hb := X.2.1
  have hown := X.2.2.2.1
  have hts := X.2.2.2.2.1
  intro n
  induction n with
  | zero =>
    intro a0 x1 x2 x3 x4 h H locs cells slots ls hf hI hl
    exact (gFail_f hf).elim
  | succ n ih =>
    intro a0 x1 x2 x3 x4 h H locs cells slots ls hf hI hl
    rw [f_X1_swap_20] at hf
    refine lv_iload hx hb dX1_swap_20 (lv_at hl 4 rfl) ?_
    refine lv_bipush (v := (10 : Int32)) hx hb dX1_swap_22 (by decide) ?_
    refine lv_icmp_ge (tgt := 73) hx hb dX1_swap_24 (by decide) (fun c24 => ?_) (fun c24 => ?_)
    · have hf := g_t c24 hf
      exact b_X1_swap_73 X K9 _ _ _ _ _ _ _ _ _ _ hf hI (lv_sub hl [0, 1, 2, 3] rfl)
    · have hf := g_f c24 hf
      refine lv_aload_n hx hb dX1_swap_27 rfl (lv_at hl 0 rfl) ?_
      refine lv_iload_n hx hb dX1_swap_28 rfl (lv_at hl 3 rfl) ?_
      refine lv_iload hx hb dX1_swap_29 (lv_at hl 4 rfl) ?_
      obtain ⟨hs, hf⟩ := gCk_b hf
      refine g_cBU hI hf (fun v9 h9 e9 l9 l9' => g_rV X hI l9 l9' ⟨Nat.le_refl _, Nat.le_refl _⟩ (As := [.int x3, .int x4]) (m_X1_changes X.2.2.2.2.2.2.2.2.2.2.1 e9) ydX1_changes hs rfl rfl q641 q643 qs5 q121 q644 rfl (Nat.le_of_ble_eq_true rfl) (Nat.le_of_ble_eq_true rfl) hl.1 rfl (Nat.le_of_ble_eq_true rfl) dX1_swap_31) (fun r101 h H locs cells slots hf hI => ?_)
      refine lv_aload_n hx hb dX1_swap_34 rfl (lv_at hl 0 rfl) ?_
      obtain ⟨hs, hf⟩ := gCk_b hf
      refine g_cBI hI hf (fun v9 h9 e9 l9 l9' => g_rV X hI l9 l9' ⟨Nat.le_refl _, Nat.le_refl _⟩ (As := []) (m_X1_gap X.2.2.2.2.2.2.2.2.2.2.1 e9) ydX1_gap hs rfl rfl q640 q540 q541 q121 q542 rfl (Nat.le_of_ble_eq_true rfl) (Nat.le_of_ble_eq_true rfl) hl.1 rfl (Nat.le_of_ble_eq_true rfl) dX1_swap_35) (fun r102 h H locs cells slots hf hI => ?_)
      refine lv_istore (lv' := [(5, .int r102), (0, .ref a0), (1, .int x1), (2, .int x2), (3, .int x3), (4, .int x4)]) hx hb dX1_swap_38 hl (by decide) rfl (fun ls hl => ?_)
      refine lv_aload_n hx hb dX1_swap_40 rfl (lv_at hl 1 rfl) ?_
      refine lv_iload_n hx hb dX1_swap_41 rfl (lv_at hl 4 rfl) ?_
      refine lv_iload hx hb dX1_swap_42 (lv_at hl 5 rfl) ?_
      obtain ⟨hs, hf⟩ := gCk_b hf
      refine g_cBU hI hf (fun v9 h9 e9 l9 l9' => g_rV X hI l9 l9' ⟨Nat.le_refl _, Nat.le_refl _⟩ (As := [.int x3, .int x4]) (m_X1_changes X.2.2.2.2.2.2.2.2.2.2.1 e9) ydX1_changes hs rfl rfl q641 q643 qs5 q121 q644 rfl (Nat.le_of_ble_eq_true rfl) (Nat.le_of_ble_eq_true rfl) hl.1 rfl (Nat.le_of_ble_eq_true rfl) dX1_swap_44) (fun r103 h H locs cells slots hf hI => ?_)
      refine lv_iload hx hb dX1_swap_47 (lv_at hl 0 rfl) ?_
      refine lv_iload_n hx hb dX1_swap_49 rfl (lv_at hl 2 rfl) ?_
      refine lv_icmp_gt (tgt := 56) hx hb dX1_swap_50 (by decide) (fun c50 => ?_) (fun c50 => ?_)
      · have hf := g_t c50 hf
        refine lv_iload hx hb dX1_swap_56 (lv_at hl 0 rfl) ?_
        refine lv_istore_n (lv' := [(1, .int r102), (5, .int r102), (0, .ref a0), (2, .int x2), (3, .int x3), (4, .int x4)]) hx hb dX1_swap_58 rfl hl (by decide) rfl (fun ls hl => ?_)
        refine lv_bipush (v := (10 : Int32)) hx hb dX1_swap_59 (by decide) ?_
        refine lv_iload_n hx hb dX1_swap_61 rfl (lv_at hl 4 rfl) ?_
        refine lv_imul hx hb dX1_swap_62 ?_
        refine lv_iload hx hb dX1_swap_63 (lv_at hl 5 rfl) ?_
        refine lv_iadd hx hb dX1_swap_65 ?_
        refine lv_istore_n (lv' := [(2, .int (((10 : Int32) * x3) + x4)), (1, .int r102), (5, .int r102), (0, .ref a0), (3, .int x3), (4, .int x4)]) hx hb dX1_swap_66 rfl hl (by decide) rfl (fun ls hl => ?_)
        exact b_X1_swap_67 X ih _ _ _ _ _ _ _ _ _ _ _ hf hI (lv_sub hl [3, 1, 0, 4, 5] rfl)
      · have hf := g_f c50 hf
        refine lv_goto (tgt := 67) hx hb dX1_swap_53 (by decide) ?_
        exact b_X1_swap_67 X ih _ _ _ _ _ _ _ _ _ _ _ hf hI (lv_sub hl [1, 2, 3, 4, 5] rfl)
def f_X1_swap_79 (x2 : Int32) : gM Int32 :=
    (gRet x2)
set_option maxHeartbeats 4000000 in
set_option maxRecDepth 100000 in
theorem b_X1_swap_79 {G : gG} {l : Launch} {p : Program} {e : Env} {s : State} {m : MethodId} {args : Array Value} {below : List Frame} {meth : Method} {c : Code} {h0 : g_H} {r : Int32} {h' : g_H} (X : gX G l yX1_swap.cls cX1_swap 6 (some .int) [] yX1_swap.name p s m args meth c) : w_X1_swap_79 G l p e s m args below meth c h0 r h' (f_X1_swap_79) := by
  have hx := X.1
  have hb := X.2.1
  have hown := X.2.2.2.1
  have hts := X.2.2.2.2.1
  intro x2 h H locs cells slots ls hf hI hl
  unfold f_X1_swap_79 at hf
  refine lv_iload_n hx hb dX1_swap_79 rfl (lv_at hl 0 rfl) ?_
  cases gRet_e hf
  exact g_retI X hI rfl dX1_swap_80
def f_X1_swap_9 : Nat → Nat → Int32 → Int32 → Int32 → gM Int32
  | 0, _, _, _, _ => gFail
  | n + 1, a0, x1, x2, x3 =>
    gIf ((10 : Int32) ≤ x3)
    (f_X1_swap_79 x2)
    (f_X1_swap_20 (f_X1_swap_9 n) gN a0 x1 x2 x3 (x3 + (1 : Int32)))
set_option maxHeartbeats 4000000 in
set_option maxRecDepth 100000 in
theorem b_X1_swap_9 {G : gG} {l : Launch} {p : Program} {e : Env} {s : State} {m : MethodId} {args : Array Value} {below : List Frame} {meth : Method} {c : Code} {h0 : g_H} {r : Int32} {h' : g_H} (X : gX G l yX1_swap.cls cX1_swap 6 (some .int) [] yX1_swap.name p s m args meth c) : ∀ n : Nat, w_X1_swap_9 G l p e s m args below meth c h0 r h' (f_X1_swap_9 n) := by
  have hx := X.1
  have hb := X.2.1
  have hown := X.2.2.2.1
  have hts := X.2.2.2.2.1
  intro n
  induction n with
  | zero =>
    intro a0 x1 x2 x3 h H locs cells slots ls hf hI hl
    exact (gFail_f hf).elim
  | succ n ih =>
    intro a0 x1 x2 x3 h H locs cells slots ls hf hI hl
    rw [f_X1_swap_9] at hf
    refine lv_iload_n hx hb dX1_swap_9 rfl (lv_at hl 3 rfl) ?_
    refine lv_bipush (v := (10 : Int32)) hx hb dX1_swap_10 (by decide) ?_
    refine lv_icmp_ge (tgt := 79) hx hb dX1_swap_12 (by decide) (fun c12 => ?_) (fun c12 => ?_)
    · have hf := g_t c12 hf
      exact b_X1_swap_79 X _ _ _ _ _ _ _ hf hI (lv_sub hl [2] rfl)
    · have hf := g_f c12 hf
      refine lv_iload_n hx hb dX1_swap_15 rfl (lv_at hl 3 rfl) ?_
      refine lv_iconst (v := (1 : Int32)) hx hb dX1_swap_16 (by decide) ?_
      refine lv_iadd hx hb dX1_swap_17 ?_
      refine lv_istore (lv' := [(4, .int (x3 + (1 : Int32))), (0, .ref a0), (1, .int x1), (2, .int x2), (3, .int x3)]) hx hb dX1_swap_18 hl (by decide) rfl (fun ls hl => ?_)
      exact b_X1_swap_20 X ih gN _ _ _ _ _ _ _ _ _ _ _ hf hI (lv_sub hl [1, 2, 3, 4, 0] rfl)
def f_X1_swap (a0 : Nat) : gM Int32 :=
    gB (gCk a0 0) fun _ =>
    gB (f_X1_gap a0) fun r1 =>
    f_X1_swap_9 gN a0 r1 (-1 : Int32) (0 : Int32)
set_option maxHeartbeats 4000000 in
set_option maxRecDepth 100000 in
theorem m_X1_swap {G : gG} {l : Launch} (hfl : l.stackTraces = false) {a0 : Nat} {h h' : g_H} {r : Int32} (hf : (f_X1_swap a0).1 h = some (r, h')) : gMet G l yX1_swap (Cond.code yX1_swap cX1_swap 6 (some .int)) 105 1961 [.ref a0] h (.inl (g_wI r)) h' := by
  refine g_head hfl ((f_X1_swap a0).2 h r h' hf) (plainFor_of_name (by decide)) (Nat.le_of_ble_eq_true rfl) (fun p e s m below meth c H locs cells slots ls X hI hl9 => ?_)
  have hl : lv_has ls 6 [(0, .ref a0)] := hl9
  have hx := X.1
  have hb := X.2.1
  have hown := X.2.2.2.1
  have hts := X.2.2.2.2.1
  unfold f_X1_swap at hf
  refine lv_aload_n hx hb dX1_swap_0 rfl (lv_at hl 0 rfl) ?_
  obtain ⟨hs, hf⟩ := gCk_b hf
  refine g_cBI hI hf (fun v9 h9 e9 l9 l9' => g_rV X hI l9 l9' ⟨Nat.le_refl _, Nat.le_refl _⟩ (As := []) (m_X1_gap X.2.2.2.2.2.2.2.2.2.2.1 e9) ydX1_gap hs rfl rfl q640 q540 q541 q121 q542 rfl (Nat.le_of_ble_eq_true rfl) (Nat.le_of_ble_eq_true rfl) hl.1 rfl (Nat.le_of_ble_eq_true rfl) dX1_swap_1) (fun r1 h H locs cells slots hf hI => ?_)
  refine lv_istore_n (lv' := [(1, .int r1), (0, .ref a0)]) hx hb dX1_swap_4 rfl hl (by decide) rfl (fun ls hl => ?_)
  refine lv_iconst (v := (-1 : Int32)) hx hb dX1_swap_5 (by decide) ?_
  refine lv_istore_n (lv' := [(2, .int (-1 : Int32)), (1, .int r1), (0, .ref a0)]) hx hb dX1_swap_6 rfl hl (by decide) rfl (fun ls hl => ?_)
  refine lv_iconst (v := (0 : Int32)) hx hb dX1_swap_7 (by decide) ?_
  refine lv_istore_n (lv' := [(3, .int (0 : Int32)), (2, .int (-1 : Int32)), (1, .int r1), (0, .ref a0)]) hx hb dX1_swap_8 rfl hl (by decide) rfl (fun ls hl => ?_)
  exact b_X1_swap_9 X gN _ _ _ _ _ _ _ _ _ _ hf hI (lv_sub hl [3, 2, 1, 0] rfl)
/-! X8_changes -/
abbrev w_X8_changes_47 (G : gG) (l : Launch) (p : Program) (e : Env) (s : State) (m : MethodId) (args : Array Value) (below : List Frame) (meth : Method) (c : Code) (h0 : g_H) (r : Unit) (h' : g_H) (k : gM Unit) : Prop := ∀ (h : g_H) (H : Heap) (locs : List Loc) (cells slots : Nat) (ls : Array Slot), (k).1 h = some (r, h') → gI G h0 h H locs cells slots → lv_has ls 5 [] → W p l e (g_rm 4 85 h0 h') s m args below meth c H locs cells slots (gQ G below args s h0 h' (.inl (g_wU r))) (F0 m 47 ls [])
abbrev w_X8_changes_29 (G : gG) (l : Launch) (p : Program) (e : Env) (s : State) (m : MethodId) (args : Array Value) (below : List Frame) (meth : Method) (c : Code) (h0 : g_H) (r : Unit) (h' : g_H) (k : Nat → Int32 → Int32 → gM Unit) : Prop := ∀ (a0 : Nat) (x1 : Int32) (x4 : Int32) (h : g_H) (H : Heap) (locs : List Loc) (cells slots : Nat) (ls : Array Slot), (k a0 x1 x4).1 h = some (r, h') → gI G h0 h H locs cells slots → lv_has ls 5 [(0, .ref a0), (1, .int x1), (4, .int x4)] → W p l e (g_rm 4 85 h0 h') s m args below meth c H locs cells slots (gQ G below args s h0 h' (.inl (g_wU r))) (F0 m 29 ls [])
def f_X8_changes_47 : gM Unit :=
    gRet ()
set_option maxHeartbeats 4000000 in
set_option maxRecDepth 100000 in
theorem b_X8_changes_47 {G : gG} {l : Launch} {p : Program} {e : Env} {s : State} {m : MethodId} {args : Array Value} {below : List Frame} {meth : Method} {c : Code} {h0 : g_H} {r : Unit} {h' : g_H} (X : gX G l yX8_changes.cls cX8_changes 5 none [] yX8_changes.name p s m args meth c) : w_X8_changes_47 G l p e s m args below meth c h0 r h' (f_X8_changes_47) := by
  have hx := X.1
  have hb := X.2.1
  have hown := X.2.2.2.1
  have hts := X.2.2.2.2.1
  intro h H locs cells slots ls hf hI hl
  unfold f_X8_changes_47 at hf
  cases gRet_e hf
  exact g_retU X hI rfl dX8_changes_47
def f_X8_changes_29 (a0 : Nat) (x1 : Int32) (x4 : Int32) : gM Unit :=
    gIf (x4 = (-1 : Int32))
    (f_X8_changes_47)
    (gB (gFR a0 7 1) fun v101 =>
    gB (f_X8_propAt x4 (3 : Int32)) fun r102 =>
    gB (gSI v101 0 r102 x1) fun _ =>
    f_X8_changes_47)
set_option maxHeartbeats 4000000 in
set_option maxRecDepth 100000 in
theorem b_X8_changes_29 {G : gG} {l : Launch} {p : Program} {e : Env} {s : State} {m : MethodId} {args : Array Value} {below : List Frame} {meth : Method} {c : Code} {h0 : g_H} {r : Unit} {h' : g_H} (X : gX G l yX8_changes.cls cX8_changes 5 none [] yX8_changes.name p s m args meth c) : w_X8_changes_29 G l p e s m args below meth c h0 r h' (f_X8_changes_29) := by
  have hx := X.1
  have hb := X.2.1
  have hown := X.2.2.2.1
  have hts := X.2.2.2.2.1
  intro a0 x1 x4 h H locs cells slots ls hf hI hl
  unfold f_X8_changes_29 at hf
  refine lv_iload hx hb dX8_changes_29 (lv_at hl 2 rfl) ?_
  refine lv_iconst (v := (-1 : Int32)) hx hb dX8_changes_31 (by decide) ?_
  refine lv_icmp_eq (tgt := 47) hx hb dX8_changes_32 (by decide) (fun c32 => ?_) (fun c32 => ?_)
  · have hf := g_t c32 hf
    exact b_X8_changes_47 X _ _ _ _ _ _ hf hI (lv_sub hl [] rfl)
  · have hf := g_f c32 hf
    refine lv_aload_n hx hb dX8_changes_35 rfl (lv_at hl 0 rfl) ?_
    refine g_fr X hI hf fX8_1 q1445 rfl rfl dX8_changes_36 (fun v101 hf => ?_)
    refine lv_iload hx hb dX8_changes_39 (lv_at hl 2 rfl) ?_
    refine lv_iconst (v := (3 : Int32)) hx hb dX8_changes_41 (by decide) ?_
    refine g_cBI hI hf (fun v9 h9 e9 l9 l9' => g_rS (b := 0) X hI l9 l9' ⟨Nat.le_refl _, Nat.le_refl _⟩ (As := [.int x4, .int (3 : Int32)]) (m_X8_propAt X.2.2.2.2.2.2.2.2.2.2.1 e9) ydX8_propAt q1663 q1664 q131 q1665 rfl (Nat.le_of_ble_eq_true rfl) (Nat.le_of_ble_eq_true rfl) hl.1 rfl (Nat.le_of_ble_eq_true rfl) dX8_changes_42) (fun r102 h H locs cells slots hf hI => ?_)
    refine lv_iload_n hx hb dX8_changes_45 rfl (lv_at hl 1 rfl) ?_
    refine g_si0 X hI hf dX8_changes_46 (fun h H locs hf hI => ?_)
    exact b_X8_changes_47 X _ _ _ _ _ _ hf hI (lv_sub hl [] rfl)
def f_X8_changes (a0 : Nat) (x1 : Int32) (x2 : Int32) : gM Unit :=
    gB (gCk a0 7) fun _ =>
    gB (f_X8_propIn a0 x1) fun r1 =>
    gB (gCk a0 7) fun _ =>
    gB (f_X8_propIn a0 x2) fun r2 =>
    gIf (r1 = (-1 : Int32))
    (f_X8_changes_29 a0 x1 r2)
    (gB (gFR a0 7 1) fun v3 =>
    gB (f_X8_propAt r1 (3 : Int32)) fun r4 =>
    gB (gSI v3 0 r4 x2) fun _ =>
    f_X8_changes_29 a0 x1 r2)
set_option maxHeartbeats 4000000 in
set_option maxRecDepth 100000 in
theorem m_X8_changes {G : gG} {l : Launch} (hfl : l.stackTraces = false) {a0 : Nat} {x1 : Int32} {x2 : Int32} {h h' : g_H} {r : Unit} (hf : (f_X8_changes a0 x1 x2).1 h = some (r, h')) : gMet G l yX8_changes (Cond.code yX8_changes cX8_changes 5 none) 4 85 [.ref a0, .int x1, .int x2] h (.inl (g_wU r)) h' := by
  refine g_head hfl ((f_X8_changes a0 x1 x2).2 h r h' hf) (plainFor_of_name (by decide)) (Nat.le_of_ble_eq_true rfl) (fun p e s m below meth c H locs cells slots ls X hI hl9 => ?_)
  have hl : lv_has ls 5 [(0, .ref a0), (1, .int x1), (2, .int x2)] := hl9
  have hx := X.1
  have hb := X.2.1
  have hown := X.2.2.2.1
  have hts := X.2.2.2.2.1
  unfold f_X8_changes at hf
  refine lv_aload_n hx hb dX8_changes_0 rfl (lv_at hl 0 rfl) ?_
  refine lv_iload_n hx hb dX8_changes_1 rfl (lv_at hl 1 rfl) ?_
  obtain ⟨hs, hf⟩ := gCk_b hf
  refine g_cBI hI hf (fun v9 h9 e9 l9 l9' => g_rV X hI l9 l9' ⟨Nat.le_refl _, Nat.le_refl _⟩ (As := [.int x1]) (m_X8_propIn X.2.2.2.2.2.2.2.2.2.2.1 e9) ydX8_propIn hs rfl rfl q1655 q1657 qs58 q131 q1658 rfl (Nat.le_of_ble_eq_true rfl) (Nat.le_of_ble_eq_true rfl) hl.1 rfl (Nat.le_of_ble_eq_true rfl) dX8_changes_2) (fun r1 h H locs cells slots hf hI => ?_)
  refine lv_istore_n (lv' := [(3, .int r1), (0, .ref a0), (1, .int x1), (2, .int x2)]) hx hb dX8_changes_5 rfl hl (by decide) rfl (fun ls hl => ?_)
  refine lv_aload_n hx hb dX8_changes_6 rfl (lv_at hl 1 rfl) ?_
  refine lv_iload_n hx hb dX8_changes_7 rfl (lv_at hl 3 rfl) ?_
  obtain ⟨hs, hf⟩ := gCk_b hf
  refine g_cBI hI hf (fun v9 h9 e9 l9 l9' => g_rV X hI l9 l9' ⟨Nat.le_refl _, Nat.le_refl _⟩ (As := [.int x2]) (m_X8_propIn X.2.2.2.2.2.2.2.2.2.2.1 e9) ydX8_propIn hs rfl rfl q1655 q1657 qs58 q131 q1658 rfl (Nat.le_of_ble_eq_true rfl) (Nat.le_of_ble_eq_true rfl) hl.1 rfl (Nat.le_of_ble_eq_true rfl) dX8_changes_8) (fun r2 h H locs cells slots hf hI => ?_)
  refine lv_istore (lv' := [(4, .int r2), (3, .int r1), (0, .ref a0), (1, .int x1), (2, .int x2)]) hx hb dX8_changes_11 hl (by decide) rfl (fun ls hl => ?_)
  refine lv_iload_n hx hb dX8_changes_13 rfl (lv_at hl 1 rfl) ?_
  refine lv_iconst (v := (-1 : Int32)) hx hb dX8_changes_14 (by decide) ?_
  refine lv_icmp_eq (tgt := 29) hx hb dX8_changes_15 (by decide) (fun c15 => ?_) (fun c15 => ?_)
  · have hf := g_t c15 hf
    exact b_X8_changes_29 X _ _ _ _ _ _ _ _ _ hf hI (lv_sub hl [2, 3, 0] rfl)
  · have hf := g_f c15 hf
    refine lv_aload_n hx hb dX8_changes_18 rfl (lv_at hl 2 rfl) ?_
    refine g_fr X hI hf fX8_1 q1445 rfl rfl dX8_changes_19 (fun v3 hf => ?_)
    refine lv_iload_n hx hb dX8_changes_22 rfl (lv_at hl 1 rfl) ?_
    refine lv_iconst (v := (3 : Int32)) hx hb dX8_changes_23 (by decide) ?_
    refine g_cBI hI hf (fun v9 h9 e9 l9 l9' => g_rS (b := 0) X hI l9 l9' ⟨Nat.le_refl _, Nat.le_refl _⟩ (As := [.int r1, .int (3 : Int32)]) (m_X8_propAt X.2.2.2.2.2.2.2.2.2.2.1 e9) ydX8_propAt q1663 q1664 q131 q1665 rfl (Nat.le_of_ble_eq_true rfl) (Nat.le_of_ble_eq_true rfl) hl.1 rfl (Nat.le_of_ble_eq_true rfl) dX8_changes_24) (fun r4 h H locs cells slots hf hI => ?_)
    refine lv_iload_n hx hb dX8_changes_27 rfl (lv_at hl 4 rfl) ?_
    refine g_si0 X hI hf dX8_changes_28 (fun h H locs hf hI => ?_)
    exact b_X8_changes_29 X _ _ _ _ _ _ _ _ _ hf hI (lv_sub hl [2, 3, 0] rfl)
end
