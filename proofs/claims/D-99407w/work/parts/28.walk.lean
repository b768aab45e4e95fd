noncomputable section
/-! X8_car -/
abbrev w_X8_car_52 (G : gG) (l : Launch) (p : Program) (e : Env) (s : State) (m : MethodId) (args : Array Value) (below : List Frame) (meth : Method) (c : Code) (h0 : g_H) (r : Int32) (h' : g_H) (k : gM Int32) : Prop := ∀ (h : g_H) (H : Heap) (locs : List Loc) (cells slots : Nat) (ls : Array Slot), (k).1 h = some (r, h') → gI G h0 h H locs cells slots → lv_has ls 6 [] → W p l e (g_rm 8 182 h0 h') s m args below meth c H locs cells slots (gQ G below args s h0 h' (.inl (g_wI r))) (F0 m 52 ls [])
abbrev w_X8_car_278 (G : gG) (l : Launch) (p : Program) (e : Env) (s : State) (m : MethodId) (args : Array Value) (below : List Frame) (meth : Method) (c : Code) (h0 : g_H) (r : Int32) (h' : g_H) (k : Nat → Int32 → Int32 → Int32 → Int32 → gM Int32) : Prop := ∀ (a0 : Nat) (x1 : Int32) (x2 : Int32) (x3 : Int32) (x4 : Int32) (h : g_H) (H : Heap) (locs : List Loc) (cells slots : Nat) (ls : Array Slot), (k a0 x1 x2 x3 x4).1 h = some (r, h') → gI G h0 h H locs cells slots → lv_has ls 6 [(0, .ref a0), (1, .int x1), (2, .int x2), (3, .int x3), (4, .int x4)] → W p l e (g_rm 8 182 h0 h') s m args below meth c H locs cells slots (gQ G below args s h0 h' (.inl (g_wI r))) (F0 m 278 ls [])
abbrev w_X8_car_275 (G : gG) (l : Launch) (p : Program) (e : Env) (s : State) (m : MethodId) (args : Array Value) (below : List Frame) (meth : Method) (c : Code) (h0 : g_H) (r : Int32) (h' : g_H) (k : Nat → Int32 → Int32 → Int32 → Int32 → Int32 → Int32 → gM Int32) : Prop := ∀ (a0 : Nat) (x1 : Int32) (x2 : Int32) (x4 : Int32) (u0 : Int32) (u1 : Int32) (u2 : Int32) (h : g_H) (H : Heap) (locs : List Loc) (cells slots : Nat) (ls : Array Slot), (k a0 x1 x2 x4 u0 u1 u2).1 h = some (r, h') → gI G h0 h H locs cells slots → lv_has ls 6 [(0, .ref a0), (1, .int x1), (2, .int x2), (4, .int x4)] → W p l e (g_rm 8 182 h0 h') s m args below meth c H locs cells slots (gQ G below args s h0 h' (.inl (g_wI r))) (F0 m 275 ls [.int u2, .int u1, .int u0])
abbrev w_X8_car_258 (G : gG) (l : Launch) (p : Program) (e : Env) (s : State) (m : MethodId) (args : Array Value) (below : List Frame) (meth : Method) (c : Code) (h0 : g_H) (r : Int32) (h' : g_H) (k : Nat → Int32 → Int32 → Int32 → Int32 → Int32 → gM Int32) : Prop := ∀ (a0 : Nat) (x1 : Int32) (x2 : Int32) (x4 : Int32) (u0 : Int32) (u1 : Int32) (h : g_H) (H : Heap) (locs : List Loc) (cells slots : Nat) (ls : Array Slot), (k a0 x1 x2 x4 u0 u1).1 h = some (r, h') → gI G h0 h H locs cells slots → lv_has ls 6 [(0, .ref a0), (1, .int x1), (2, .int x2), (4, .int x4)] → W p l e (g_rm 8 182 h0 h') s m args below meth c H locs cells slots (gQ G below args s h0 h' (.inl (g_wI r))) (F0 m 258 ls [.int u1, .int u0])
abbrev w_X8_car_240 (G : gG) (l : Launch) (p : Program) (e : Env) (s : State) (m : MethodId) (args : Array Value) (below : List Frame) (meth : Method) (c : Code) (h0 : g_H) (r : Int32) (h' : g_H) (k : Nat → Int32 → Int32 → Int32 → Int32 → gM Int32) : Prop := ∀ (a0 : Nat) (x1 : Int32) (x2 : Int32) (x3 : Int32) (x4 : Int32) (h : g_H) (H : Heap) (locs : List Loc) (cells slots : Nat) (ls : Array Slot), (k a0 x1 x2 x3 x4).1 h = some (r, h') → gI G h0 h H locs cells slots → lv_has ls 6 [(0, .ref a0), (1, .int x1), (2, .int x2), (3, .int x3), (4, .int x4)] → W p l e (g_rm 8 182 h0 h') s m args below meth c H locs cells slots (gQ G below args s h0 h' (.inl (g_wI r))) (F0 m 240 ls [])
abbrev w_X8_car_180 (G : gG) (l : Launch) (p : Program) (e : Env) (s : State) (m : MethodId) (args : Array Value) (below : List Frame) (meth : Method) (c : Code) (h0 : g_H) (r : Int32) (h' : g_H) (k : Nat → Int32 → Int32 → Int32 → Int32 → Int32 → Int32 → Int32 → gM Int32) : Prop := ∀ (a0 : Nat) (x1 : Int32) (x2 : Int32) (x4 : Int32) (x5 : Int32) (u0 : Int32) (u1 : Int32) (u2 : Int32) (h : g_H) (H : Heap) (locs : List Loc) (cells slots : Nat) (ls : Array Slot), (k a0 x1 x2 x4 x5 u0 u1 u2).1 h = some (r, h') → gI G h0 h H locs cells slots → lv_has ls 6 [(0, .ref a0), (1, .int x1), (2, .int x2), (4, .int x4), (5, .int x5)] → W p l e (g_rm 8 182 h0 h') s m args below meth c H locs cells slots (gQ G below args s h0 h' (.inl (g_wI r))) (F0 m 180 ls [.int u2, .int u1, .int u0])
abbrev w_X8_car_179 (G : gG) (l : Launch) (p : Program) (e : Env) (s : State) (m : MethodId) (args : Array Value) (below : List Frame) (meth : Method) (c : Code) (h0 : g_H) (r : Int32) (h' : g_H) (k : Nat → Int32 → Int32 → Int32 → Int32 → Int32 → Int32 → gM Int32) : Prop := ∀ (a0 : Nat) (x1 : Int32) (x2 : Int32) (x4 : Int32) (x5 : Int32) (u0 : Int32) (u1 : Int32) (h : g_H) (H : Heap) (locs : List Loc) (cells slots : Nat) (ls : Array Slot), (k a0 x1 x2 x4 x5 u0 u1).1 h = some (r, h') → gI G h0 h H locs cells slots → lv_has ls 6 [(0, .ref a0), (1, .int x1), (2, .int x2), (4, .int x4), (5, .int x5)] → W p l e (g_rm 8 182 h0 h') s m args below meth c H locs cells slots (gQ G below args s h0 h' (.inl (g_wI r))) (F0 m 179 ls [.int u1, .int u0])
abbrev w_X8_car_154 (G : gG) (l : Launch) (p : Program) (e : Env) (s : State) (m : MethodId) (args : Array Value) (below : List Frame) (meth : Method) (c : Code) (h0 : g_H) (r : Int32) (h' : g_H) (k : Nat → Int32 → Int32 → Int32 → Int32 → Int32 → Int32 → gM Int32) : Prop := ∀ (a0 : Nat) (x1 : Int32) (x2 : Int32) (x4 : Int32) (x5 : Int32) (u0 : Int32) (u1 : Int32) (h : g_H) (H : Heap) (locs : List Loc) (cells slots : Nat) (ls : Array Slot), (k a0 x1 x2 x4 x5 u0 u1).1 h = some (r, h') → gI G h0 h H locs cells slots → lv_has ls 6 [(0, .ref a0), (1, .int x1), (2, .int x2), (4, .int x4), (5, .int x5)] → W p l e (g_rm 8 182 h0 h') s m args below meth c H locs cells slots (gQ G below args s h0 h' (.inl (g_wI r))) (F0 m 154 ls [.int u1, .int u0])
abbrev w_X8_car_153 (G : gG) (l : Launch) (p : Program) (e : Env) (s : State) (m : MethodId) (args : Array Value) (below : List Frame) (meth : Method) (c : Code) (h0 : g_H) (r : Int32) (h' : g_H) (k : Nat → Int32 → Int32 → Int32 → Int32 → Int32 → gM Int32) : Prop := ∀ (a0 : Nat) (x1 : Int32) (x2 : Int32) (x4 : Int32) (x5 : Int32) (u0 : Int32) (h : g_H) (H : Heap) (locs : List Loc) (cells slots : Nat) (ls : Array Slot), (k a0 x1 x2 x4 x5 u0).1 h = some (r, h') → gI G h0 h H locs cells slots → lv_has ls 6 [(0, .ref a0), (1, .int x1), (2, .int x2), (4, .int x4), (5, .int x5)] → W p l e (g_rm 8 182 h0 h') s m args below meth c H locs cells slots (gQ G below args s h0 h' (.inl (g_wI r))) (F0 m 153 ls [.int u0])
abbrev w_X8_car_127 (G : gG) (l : Launch) (p : Program) (e : Env) (s : State) (m : MethodId) (args : Array Value) (below : List Frame) (meth : Method) (c : Code) (h0 : g_H) (r : Int32) (h' : g_H) (k : Nat → Int32 → Int32 → Int32 → Int32 → Int32 → gM Int32) : Prop := ∀ (a0 : Nat) (x1 : Int32) (x2 : Int32) (x3 : Int32) (x4 : Int32) (x5 : Int32) (h : g_H) (H : Heap) (locs : List Loc) (cells slots : Nat) (ls : Array Slot), (k a0 x1 x2 x3 x4 x5).1 h = some (r, h') → gI G h0 h H locs cells slots → lv_has ls 6 [(0, .ref a0), (1, .int x1), (2, .int x2), (3, .int x3), (4, .int x4), (5, .int x5)] → W p l e (g_rm 8 182 h0 h') s m args below meth c H locs cells slots (gQ G below args s h0 h' (.inl (g_wI r))) (F0 m 127 ls [])
abbrev w_X8_car_103 (G : gG) (l : Launch) (p : Program) (e : Env) (s : State) (m : MethodId) (args : Array Value) (below : List Frame) (meth : Method) (c : Code) (h0 : g_H) (r : Int32) (h' : g_H) (k : Nat → Int32 → Int32 → Int32 → Int32 → Int32 → gM Int32) : Prop := ∀ (a0 : Nat) (x1 : Int32) (x2 : Int32) (x3 : Int32) (x4 : Int32) (x5 : Int32) (h : g_H) (H : Heap) (locs : List Loc) (cells slots : Nat) (ls : Array Slot), (k a0 x1 x2 x3 x4 x5).1 h = some (r, h') → gI G h0 h H locs cells slots → lv_has ls 6 [(0, .ref a0), (1, .int x1), (2, .int x2), (3, .int x3), (4, .int x4), (5, .int x5)] → W p l e (g_rm 8 182 h0 h') s m args below meth c H locs cells slots (gQ G below args s h0 h' (.inl (g_wI r))) (F0 m 103 ls [])
abbrev w_X8_car_284 (G : gG) (l : Launch) (p : Program) (e : Env) (s : State) (m : MethodId) (args : Array Value) (below : List Frame) (meth : Method) (c : Code) (h0 : g_H) (r : Int32) (h' : g_H) (k : Int32 → gM Int32) : Prop := ∀ (x3 : Int32) (h : g_H) (H : Heap) (locs : List Loc) (cells slots : Nat) (ls : Array Slot), (k x3).1 h = some (r, h') → gI G h0 h H locs cells slots → lv_has ls 6 [(3, .int x3)] → W p l e (g_rm 8 182 h0 h') s m args below meth c H locs cells slots (gQ G below args s h0 h' (.inl (g_wI r))) (F0 m 284 ls [])
abbrev w_X8_car_69 (G : gG) (l : Launch) (p : Program) (e : Env) (s : State) (m : MethodId) (args : Array Value) (below : List Frame) (meth : Method) (c : Code) (h0 : g_H) (r : Int32) (h' : g_H) (k : Nat → Int32 → Int32 → Int32 → Int32 → gM Int32) : Prop := ∀ (a0 : Nat) (x1 : Int32) (x2 : Int32) (x3 : Int32) (x4 : Int32) (h : g_H) (H : Heap) (locs : List Loc) (cells slots : Nat) (ls : Array Slot), (k a0 x1 x2 x3 x4).1 h = some (r, h') → gI G h0 h H locs cells slots → lv_has ls 6 [(0, .ref a0), (1, .int x1), (2, .int x2), (3, .int x3), (4, .int x4)] → W p l e (g_rm 8 182 h0 h') s m args below meth c H locs cells slots (gQ G below args s h0 h' (.inl (g_wI r))) (F0 m 69 ls [])
abbrev w_X8_car_45 (G : gG) (l : Launch) (p : Program) (e : Env) (s : State) (m : MethodId) (args : Array Value) (below : List Frame) (meth : Method) (c : Code) (h0 : g_H) (r : Int32) (h' : g_H) (k : Nat → Int32 → Int32 → Nat → Int32 → gM Int32) : Prop := ∀ (a0 : Nat) (x1 : Int32) (x2 : Int32) (b0 : Nat) (u1 : Int32) (h : g_H) (H : Heap) (locs : List Loc) (cells slots : Nat) (ls : Array Slot), (k a0 x1 x2 b0 u1).1 h = some (r, h') → gI G h0 h H locs cells slots → lv_has ls 6 [(0, .ref a0), (1, .int x1), (2, .int x2)] → W p l e (g_rm 8 182 h0 h') s m args below meth c H locs cells slots (gQ G below args s h0 h' (.inl (g_wI r))) (F0 m 45 ls [.int u1, .ref b0])
abbrev w_X8_car_27 (G : gG) (l : Launch) (p : Program) (e : Env) (s : State) (m : MethodId) (args : Array Value) (below : List Frame) (meth : Method) (c : Code) (h0 : g_H) (r : Int32) (h' : g_H) (k : Nat → Int32 → Int32 → Nat → Int32 → gM Int32) : Prop := ∀ (a0 : Nat) (x1 : Int32) (x2 : Int32) (b0 : Nat) (u1 : Int32) (h : g_H) (H : Heap) (locs : List Loc) (cells slots : Nat) (ls : Array Slot), (k a0 x1 x2 b0 u1).1 h = some (r, h') → gI G h0 h H locs cells slots → lv_has ls 6 [(0, .ref a0), (1, .int x1), (2, .int x2)] → W p l e (g_rm 8 182 h0 h') s m args below meth c H locs cells slots (gQ G below args s h0 h' (.inl (g_wI r))) (F0 m 27 ls [.int u1, .ref b0])
abbrev w_X8_car_22 (G : gG) (l : Launch) (p : Program) (e : Env) (s : State) (m : MethodId) (args : Array Value) (below : List Frame) (meth : Method) (c : Code) (h0 : g_H) (r : Int32) (h' : g_H) (k : Nat → Int32 → Int32 → Nat → gM Int32) : Prop := ∀ (a0 : Nat) (x1 : Int32) (x2 : Int32) (b0 : Nat) (h : g_H) (H : Heap) (locs : List Loc) (cells slots : Nat) (ls : Array Slot), (k a0 x1 x2 b0).1 h = some (r, h') → gI G h0 h H locs cells slots → lv_has ls 6 [(0, .ref a0), (1, .int x1), (2, .int x2)] → W p l e (g_rm 8 182 h0 h') s m args below meth c H locs cells slots (gQ G below args s h0 h' (.inl (g_wI r))) (F0 m 22 ls [.ref b0])
def f_X8_car_52 : gM Int32 :=
    (gRet (0 : Int32))
set_option maxHeartbeats 4000000 in
set_option maxRecDepth 100000 in
theorem b_X8_car_52 {G : gG} {l : Launch} {p : Program} {e : Env} {s : State} {m : MethodId} {args : Array Value} {below : List Frame} {meth : Method} {c : Code} {h0 : g_H} {r : Int32} {h' : g_H} (X : gX G l yX8_car.cls cX8_car 6 (some .int) [] yX8_car.name p s m args meth c) : w_X8_car_52 G l p e s m args below meth c h0 r h' (f_X8_car_52) := by
  have hx := X.1
  have hb := X.2.1
  have hown := X.2.2.2.1
  have hts := X.2.2.2.2.1
  intro h H locs cells slots ls hf hI hl
  unfold f_X8_car_52 at hf
  refine lv_iconst (v := (0 : Int32)) hx hb dX8_car_52 (by decide) ?_
  cases gRet_e hf
  exact g_retI X hI rfl dX8_car_53
def f_X8_car_278 (k69 : Nat → Int32 → Int32 → Int32 → Int32 → gM Int32) (a0 : Nat) (x1 : Int32) (x2 : Int32) (x3 : Int32) (x4 : Int32) : gM Int32 :=
    k69 a0 x1 x2 x3 (x4 + (1 : Int32))
set_option maxHeartbeats 4000000 in
set_option maxRecDepth 100000 in
theorem b_X8_car_278 {G : gG} {l : Launch} {p : Program} {e : Env} {s : State} {m : MethodId} {args : Array Value} {below : List Frame} {meth : Method} {c : Code} {h0 : g_H} {r : Int32} {h' : g_H} (X : gX G l yX8_car.cls cX8_car 6 (some .int) [] yX8_car.name p s m args meth c) {k69 : Nat → Int32 → Int32 → Int32 → Int32 → gM Int32} (K69 : w_X8_car_69 G l p e s m args below meth c h0 r h' k69) : w_X8_car_278 G l p e s m args below meth c h0 r h' (f_X8_car_278 k69) := by
  have hx := X.1
  have hb := X.2.1
  have hown := X.2.2.2.1
  have hts := X.2.2.2.2.1
  intro a0 x1 x2 x3 x4 h H locs cells slots ls hf hI hl
  unfold f_X8_car_278 at hf
  refine lv_iinc (v := (x4 + (1 : Int32))) (lv' := [(4, .int (x4 + (1 : Int32))), (0, .ref a0), (1, .int x1), (2, .int x2), (3, .int x3)]) hx hb dX8_car_278 hl (k := 4) rfl rfl (by decide) rfl (fun ls hl => ?_)
  refine lv_goto (tgt := 69) hx hb dX8_car_281 (by decide) ?_
  exact K69 _ _ _ _ _ _ _ _ _ _ _ hf hI (lv_sub hl [1, 2, 3, 4, 0] rfl)
def f_X8_car_275 (k69 : Nat → Int32 → Int32 → Int32 → Int32 → gM Int32) (a0 : Nat) (x1 : Int32) (x2 : Int32) (x4 : Int32) (u0 : Int32) (u1 : Int32) (u2 : Int32) : gM Int32 :=
    f_X8_car_278 k69 a0 x1 x2 (u0 ||| (u1 ||| u2)) x4
set_option maxHeartbeats 4000000 in
set_option maxRecDepth 100000 in
theorem b_X8_car_275 {G : gG} {l : Launch} {p : Program} {e : Env} {s : State} {m : MethodId} {args : Array Value} {below : List Frame} {meth : Method} {c : Code} {h0 : g_H} {r : Int32} {h' : g_H} (X : gX G l yX8_car.cls cX8_car 6 (some .int) [] yX8_car.name p s m args meth c) {k69 : Nat → Int32 → Int32 → Int32 → Int32 → gM Int32} (K69 : w_X8_car_69 G l p e s m args below meth c h0 r h' k69) : w_X8_car_275 G l p e s m args below meth c h0 r h' (f_X8_car_275 k69) := by
  have hx := X.1
  have hb := X.2.1
  have hown := X.2.2.2.1
  have hts := X.2.2.2.2.1
  intro a0 x1 x2 x4 u0 u1 u2 h H locs cells slots ls hf hI hl
  unfold f_X8_car_275 at hf
  refine lv_ior hx hb dX8_car_275 ?_
  refine lv_ior hx hb dX8_car_276 ?_
  refine lv_istore_n (lv' := [(3, .int (u0 ||| (u1 ||| u2))), (0, .ref a0), (1, .int x1), (2, .int x2), (4, .int x4)]) hx hb dX8_car_277 rfl hl (by decide) rfl (fun ls hl => ?_)
  exact b_X8_car_278 X K69 _ _ _ _ _ _ _ _ _ _ _ hf hI (lv_sub hl [1, 2, 3, 0, 4] rfl)
def f_X8_car_258 (k69 : Nat → Int32 → Int32 → Int32 → Int32 → gM Int32) (a0 : Nat) (x1 : Int32) (x2 : Int32) (x4 : Int32) (u0 : Int32) (u1 : Int32) : gM Int32 :=
    gB (gFI a0 7 32) fun v101 =>
    gB (gCk a0 7) fun _ =>
    gB (f_X8_screams a0 x2 v101) fun r102 =>
    gIf (r102 = 0)
    (f_X8_car_275 k69 a0 x1 x2 x4 u0 u1 (0 : Int32))
    (f_X8_car_275 k69 a0 x1 x2 x4 u0 u1 (2 : Int32))
set_option maxHeartbeats 4000000 in
set_option maxRecDepth 100000 in
theorem b_X8_car_258 {G : gG} {l : Launch} {p : Program} {e : Env} {s : State} {m : MethodId} {args : Array Value} {below : List Frame} {meth : Method} {c : Code} {h0 : g_H} {r : Int32} {h' : g_H} (X : gX G l yX8_car.cls cX8_car 6 (some .int) [] yX8_car.name p s m args meth c) {k69 : Nat → Int32 → Int32 → Int32 → Int32 → gM Int32} (K69 : w_X8_car_69 G l p e s m args below meth c h0 r h' k69) : w_X8_car_258 G l p e s m args below meth c h0 r h' (f_X8_car_258 k69) := by
  have hx := X.1
  have hb := X.2.1
  have hown := X.2.2.2.1
  have hts := X.2.2.2.2.1
  intro a0 x1 x2 x4 u0 u1 h H locs cells slots ls hf hI hl
  unfold f_X8_car_258 at hf
  refine lv_aload_n hx hb dX8_car_258 rfl (lv_at hl 0 rfl) ?_
  refine lv_iload_n hx hb dX8_car_259 rfl (lv_at hl 2 rfl) ?_
  refine lv_aload_n hx hb dX8_car_260 rfl (lv_at hl 0 rfl) ?_
  refine g_fi X hI hf fX8_32 q1476 rfl rfl dX8_car_261 (fun v101 hf => ?_)
  obtain ⟨hs, hf⟩ := gCk_b hf
  refine g_cBI hI hf (fun v9 h9 e9 l9 l9' => g_rV X hI l9 l9' ⟨Nat.le_refl _, Nat.le_refl _⟩ (As := [.int x2, .int v101]) (m_X8_screams X.2.2.2.2.2.2.2.2.2.2.1 e9) ydX8_screams hs rfl rfl q1930 q1932 qs99 q131 q1933 rfl (Nat.le_of_ble_eq_true rfl) (Nat.le_of_ble_eq_true rfl) hl.1 rfl (Nat.le_of_ble_eq_true rfl) dX8_car_264) (fun r102 h H locs cells slots hf hI => ?_)
  refine lv_if_eq (tgt := 274) hx hb dX8_car_267 (by decide) (fun c267 => ?_) (fun c267 => ?_)
  · have hf := g_t c267 hf
    refine lv_iconst (v := (0 : Int32)) hx hb dX8_car_274 (by decide) ?_
    exact b_X8_car_275 X K69 _ _ _ _ _ _ _ _ _ _ _ _ _ hf hI (lv_sub hl [0, 1, 2, 3] rfl)
  · have hf := g_f c267 hf
    refine lv_iconst (v := (2 : Int32)) hx hb dX8_car_270 (by decide) ?_
    refine lv_goto (tgt := 275) hx hb dX8_car_271 (by decide) ?_
    exact b_X8_car_275 X K69 _ _ _ _ _ _ _ _ _ _ _ _ _ hf hI (lv_sub hl [0, 1, 2, 3] rfl)
def f_X8_car_240 (k69 : Nat → Int32 → Int32 → Int32 → Int32 → gM Int32) (a0 : Nat) (x1 : Int32) (x2 : Int32) (x3 : Int32) (x4 : Int32) : gM Int32 :=
    gB (gFI a0 7 31) fun v101 =>
    gB (gCk a0 7) fun _ =>
    gB (f_X8_screams a0 x1 v101) fun r102 =>
    gIf (r102 = 0)
    (f_X8_car_258 k69 a0 x1 x2 x4 x3 (0 : Int32))
    (f_X8_car_258 k69 a0 x1 x2 x4 x3 (1 : Int32))
set_option maxHeartbeats 4000000 in
set_option maxRecDepth 100000 in
theorem b_X8_car_240 {G : gG} {l : Launch} {p : Program} {e : Env} {s : State} {m : MethodId} {args : Array Value} {below : List Frame} {meth : Method} {c : Code} {h0 : g_H} {r : Int32} {h' : g_H} (X : gX G l yX8_car.cls cX8_car 6 (some .int) [] yX8_car.name p s m args meth c) {k69 : Nat → Int32 → Int32 → Int32 → Int32 → gM Int32} (K69 : w_X8_car_69 G l p e s m args below meth c h0 r h' k69) : w_X8_car_240 G l p e s m args below meth c h0 r h' (f_X8_car_240 k69) := by
  have hx := X.1
  have hb := X.2.1
  have hown := X.2.2.2.1
  have hts := X.2.2.2.2.1
  intro a0 x1 x2 x3 x4 h H locs cells slots ls hf hI hl
  unfold f_X8_car_240 at hf
  refine lv_iload_n hx hb dX8_car_240 rfl (lv_at hl 3 rfl) ?_
  refine lv_aload_n hx hb dX8_car_241 rfl (lv_at hl 0 rfl) ?_
  refine lv_iload_n hx hb dX8_car_242 rfl (lv_at hl 1 rfl) ?_
  refine lv_aload_n hx hb dX8_car_243 rfl (lv_at hl 0 rfl) ?_
  refine g_fi X hI hf fX8_31 q1475 rfl rfl dX8_car_244 (fun v101 hf => ?_)
  obtain ⟨hs, hf⟩ := gCk_b hf
  refine g_cBI hI hf (fun v9 h9 e9 l9 l9' => g_rV X hI l9 l9' ⟨Nat.le_refl _, Nat.le_refl _⟩ (As := [.int x1, .int v101]) (m_X8_screams X.2.2.2.2.2.2.2.2.2.2.1 e9) ydX8_screams hs rfl rfl q1930 q1932 qs99 q131 q1933 rfl (Nat.le_of_ble_eq_true rfl) (Nat.le_of_ble_eq_true rfl) hl.1 rfl (Nat.le_of_ble_eq_true rfl) dX8_car_247) (fun r102 h H locs cells slots hf hI => ?_)
  refine lv_if_eq (tgt := 257) hx hb dX8_car_250 (by decide) (fun c250 => ?_) (fun c250 => ?_)
  · have hf := g_t c250 hf
    refine lv_iconst (v := (0 : Int32)) hx hb dX8_car_257 (by decide) ?_
    exact b_X8_car_258 X K69 _ _ _ _ _ _ _ _ _ _ _ _ hf hI (lv_sub hl [0, 1, 2, 4] rfl)
  · have hf := g_f c250 hf
    refine lv_iconst (v := (1 : Int32)) hx hb dX8_car_253 (by decide) ?_
    refine lv_goto (tgt := 258) hx hb dX8_car_254 (by decide) ?_
    exact b_X8_car_258 X K69 _ _ _ _ _ _ _ _ _ _ _ _ hf hI (lv_sub hl [0, 1, 2, 4] rfl)
def f_X8_car_180 (k69 : Nat → Int32 → Int32 → Int32 → Int32 → gM Int32) (a0 : Nat) (x1 : Int32) (x2 : Int32) (x4 : Int32) (x5 : Int32) (u0 : Int32) (u1 : Int32) (u2 : Int32) : gM Int32 :=
    gIf (x5 = 0)
    (gIf ((u0 ||| (u1 ||| u2)) = 0)
    (f_X8_car_278 k69 a0 x1 x2 (u0 ||| (u1 ||| u2)) x4)
    (gIf ((u0 ||| (u1 ||| u2)) = (3 : Int32))
    (f_X8_car_278 k69 a0 x1 x2 (u0 ||| (u1 ||| u2)) x4)
    (gIf ((u0 ||| (u1 ||| u2)) = (1 : Int32))
    (gB (gFI a0 7 32) fun v104 =>
    gB (gFR a0 7 1) fun v105 =>
    gB (gAI v105 0 (6 : Int32)) fun v106 =>
    gB (gPI a0 7 32 (v104 + v106)) fun _ =>
    f_X8_car_240 k69 a0 x1 x2 (u0 ||| (u1 ||| u2)) x4)
    (gB (gFI a0 7 31) fun v101 =>
    gB (gFR a0 7 1) fun v102 =>
    gB (gAI v102 0 (6 : Int32)) fun v103 =>
    gB (gPI a0 7 31 (v101 + v103)) fun _ =>
    f_X8_car_240 k69 a0 x1 x2 (u0 ||| (u1 ||| u2)) x4))))
    (f_X8_car_278 k69 a0 x1 x2 (u0 ||| (u1 ||| u2)) x4)
set_option maxHeartbeats 4000000 in
set_option maxRecDepth 100000 in
theorem b_X8_car_180 {G : gG} {l : Launch} {p : Program} {e : Env} {s : State} {m : MethodId} {args : Array Value} {below : List Frame} {meth : Method} {c : Code} {h0 : g_H} {r : Int32} {h' : g_H} (X : gX G l yX8_car.cls cX8_car 6 (some .int) [] yX8_car.name p s m args meth c) {k69 : Nat → Int32 → Int32 → Int32 → Int32 → gM Int32} (K69 : w_X8_car_69 G l p e s m args below meth c h0 r h' k69) : w_X8_car_180 G l p e s m args below meth c h0 r h' (f_X8_car_180 k69) := by
  have hx := X.1
  have hb := X.2.1
  have hown := X.2.2.2.1
  have hts := X.2.2.2.2.1
  intro a0 x1 x2 x4 x5 u0 u1 u2 h H locs cells slots ls hf hI hl
  unfold f_X8_car_180 at hf
  refine lv_ior hx hb dX8_car_180 ?_
  refine lv_ior hx hb dX8_car_181 ?_
  refine lv_istore_n (lv' := [(3, .int (u0 ||| (u1 ||| u2))), (0, .ref a0), (1, .int x1), (2, .int x2), (4, .int x4), (5, .int x5)]) hx hb dX8_car_182 rfl hl (by decide) rfl (fun ls hl => ?_)
  refine lv_iload hx hb dX8_car_183 (lv_at hl 5 rfl) ?_
  refine lv_if_ne (tgt := 278) hx hb dX8_car_185 (by decide) (fun c185 => ?_) (fun c185 => ?_)
  · have hf := g_f c185 hf
    exact b_X8_car_278 X K69 _ _ _ _ _ _ _ _ _ _ _ hf hI (lv_sub hl [1, 2, 3, 0, 4] rfl)
  · have hf := g_t c185 hf
    refine lv_iload_n hx hb dX8_car_188 rfl (lv_at hl 0 rfl) ?_
    refine lv_if_eq (tgt := 278) hx hb dX8_car_189 (by decide) (fun c189 => ?_) (fun c189 => ?_)
    · have hf := g_t c189 hf
      exact b_X8_car_278 X K69 _ _ _ _ _ _ _ _ _ _ _ hf hI (lv_sub hl [1, 2, 3, 0, 4] rfl)
    · have hf := g_f c189 hf
      refine lv_iload_n hx hb dX8_car_192 rfl (lv_at hl 0 rfl) ?_
      refine lv_iconst (v := (3 : Int32)) hx hb dX8_car_193 (by decide) ?_
      refine lv_icmp_ne (tgt := 200) hx hb dX8_car_194 (by decide) (fun c194 => ?_) (fun c194 => ?_)
      · have hf := g_f c194 hf
        refine lv_iload_n hx hb dX8_car_200 rfl (lv_at hl 0 rfl) ?_
        refine lv_iconst (v := (1 : Int32)) hx hb dX8_car_201 (by decide) ?_
        refine lv_icmp_ne (tgt := 224) hx hb dX8_car_202 (by decide) (fun c202 => ?_) (fun c202 => ?_)
        · have hf := g_f c202 hf
          refine lv_aload_n hx hb dX8_car_224 rfl (lv_at hl 1 rfl) ?_
          refine lv_dup hx hb dX8_car_225 rfl ?_
          refine g_fi X hI hf fX8_31 q1475 rfl rfl dX8_car_226 (fun v101 hf => ?_)
          refine lv_aload_n hx hb dX8_car_229 rfl (lv_at hl 1 rfl) ?_
          refine g_fr X hI hf fX8_1 q1445 rfl rfl dX8_car_230 (fun v102 hf => ?_)
          refine lv_bipush (v := (6 : Int32)) hx hb dX8_car_233 (by decide) ?_
          refine g_ai0 X hI hf dX8_car_235 (fun v103 hf => ?_)
          refine lv_iadd hx hb dX8_car_236 ?_
          refine g_pi X hI hf fX8_31 q1475 rfl dX8_car_237 (fun h H locs hf hI => ?_)
          exact b_X8_car_240 X K69 _ _ _ _ _ _ _ _ _ _ _ hf hI (lv_sub hl [1, 2, 3, 0, 4] rfl)
        · have hf := g_t c202 hf
          refine lv_aload_n hx hb dX8_car_205 rfl (lv_at hl 1 rfl) ?_
          refine lv_dup hx hb dX8_car_206 rfl ?_
          refine g_fi X hI hf fX8_32 q1476 rfl rfl dX8_car_207 (fun v104 hf => ?_)
          refine lv_aload_n hx hb dX8_car_210 rfl (lv_at hl 1 rfl) ?_
          refine g_fr X hI hf fX8_1 q1445 rfl rfl dX8_car_211 (fun v105 hf => ?_)
          refine lv_bipush (v := (6 : Int32)) hx hb dX8_car_214 (by decide) ?_
          refine g_ai0 X hI hf dX8_car_216 (fun v106 hf => ?_)
          refine lv_iadd hx hb dX8_car_217 ?_
          refine g_pi X hI hf fX8_32 q1476 rfl dX8_car_218 (fun h H locs hf hI => ?_)
          refine lv_goto (tgt := 240) hx hb dX8_car_221 (by decide) ?_
          exact b_X8_car_240 X K69 _ _ _ _ _ _ _ _ _ _ _ hf hI (lv_sub hl [1, 2, 3, 0, 4] rfl)
      · have hf := g_t c194 hf
        refine lv_goto (tgt := 278) hx hb dX8_car_197 (by decide) ?_
        exact b_X8_car_278 X K69 _ _ _ _ _ _ _ _ _ _ _ hf hI (lv_sub hl [1, 2, 3, 0, 4] rfl)
def f_X8_car_179 (k69 : Nat → Int32 → Int32 → Int32 → Int32 → gM Int32) (a0 : Nat) (x1 : Int32) (x2 : Int32) (x4 : Int32) (x5 : Int32) (u0 : Int32) (u1 : Int32) : gM Int32 :=
    f_X8_car_180 k69 a0 x1 x2 x4 x5 u0 u1 (0 : Int32)
set_option maxHeartbeats 4000000 in
set_option maxRecDepth 100000 in
theorem b_X8_car_179 {G : gG} {l : Launch} {p : Program} {e : Env} {s : State} {m : MethodId} {args : Array Value} {below : List Frame} {meth : Method} {c : Code} {h0 : g_H} {r : Int32} {h' : g_H} (X : gX G l yX8_car.cls cX8_car 6 (some .int) [] yX8_car.name p s m args meth c) {k69 : Nat → Int32 → Int32 → Int32 → Int32 → gM Int32} (K69 : w_X8_car_69 G l p e s m args below meth c h0 r h' k69) : w_X8_car_179 G l p e s m args below meth c h0 r h' (f_X8_car_179 k69) := by
  have hx := X.1
  have hb := X.2.1
  have hown := X.2.2.2.1
  have hts := X.2.2.2.2.1
  intro a0 x1 x2 x4 x5 u0 u1 h H locs cells slots ls hf hI hl
  unfold f_X8_car_179 at hf
  refine lv_iconst (v := (0 : Int32)) hx hb dX8_car_179 (by decide) ?_
  exact b_X8_car_180 X K69 _ _ _ _ _ _ _ _ _ _ _ _ _ _ hf hI (lv_sub hl [0, 1, 2, 3, 4] rfl)
def f_X8_car_154 (k69 : Nat → Int32 → Int32 → Int32 → Int32 → gM Int32) (a0 : Nat) (x1 : Int32) (x2 : Int32) (x4 : Int32) (x5 : Int32) (u0 : Int32) (u1 : Int32) : gM Int32 :=
    gB (f_X8_has x5 (1 : Int32)) fun r101 =>
    gIf (r101 = 0)
    (gB (gFI a0 7 32) fun v102 =>
    gB (gCk a0 7) fun _ =>
    gB (f_X8_screams a0 x2 v102) fun r103 =>
    gIf (r103 = 0)
    (f_X8_car_179 k69 a0 x1 x2 x4 x5 u0 u1)
    (f_X8_car_180 k69 a0 x1 x2 x4 x5 u0 u1 (2 : Int32)))
    (f_X8_car_179 k69 a0 x1 x2 x4 x5 u0 u1)
set_option maxHeartbeats 4000000 in
set_option maxRecDepth 100000 in
theorem b_X8_car_154 {G : gG} {l : Launch} {p : Program} {e : Env} {s : State} {m : MethodId} {args : Array Value} {below : List Frame} {meth : Method} {c : Code} {h0 : g_H} {r : Int32} {h' : g_H} (X : gX G l yX8_car.cls cX8_car 6 (some .int) [] yX8_car.name p s m args meth c) {k69 : Nat → Int32 → Int32 → Int32 → Int32 → gM Int32} (K69 : w_X8_car_69 G l p e s m args below meth c h0 r h' k69) : w_X8_car_154 G l p e s m args below meth c h0 r h' (f_X8_car_154 k69) := by
  have hx := X.1
  have hb := X.2.1
  have hown := X.2.2.2.1
  have hts := X.2.2.2.2.1
  intro a0 x1 x2 x4 x5 u0 u1 h H locs cells slots ls hf hI hl
  unfold f_X8_car_154 at hf
  refine lv_iload hx hb dX8_car_154 (lv_at hl 4 rfl) ?_
  refine lv_iconst (v := (1 : Int32)) hx hb dX8_car_156 (by decide) ?_
  refine g_cBI hI hf (fun v9 h9 e9 l9 l9' => g_rS (b := 0) X hI l9 l9' ⟨Nat.le_refl _, Nat.le_refl _⟩ (As := [.int x5, .int (1 : Int32)]) (m_X8_has X.2.2.2.2.2.2.2.2.2.2.1 e9) ydX8_has q1637 q1638 q131 q1639 rfl (Nat.le_of_ble_eq_true rfl) (Nat.le_of_ble_eq_true rfl) hl.1 rfl (Nat.le_of_ble_eq_true rfl) dX8_car_157) (fun r101 h H locs cells slots hf hI => ?_)
  refine lv_if_ne (tgt := 179) hx hb dX8_car_160 (by decide) (fun c160 => ?_) (fun c160 => ?_)
  · have hf := g_f c160 hf
    exact b_X8_car_179 X K69 _ _ _ _ _ _ _ _ _ _ _ _ _ hf hI (lv_sub hl [0, 1, 2, 3, 4] rfl)
  · have hf := g_t c160 hf
    refine lv_aload_n hx hb dX8_car_163 rfl (lv_at hl 0 rfl) ?_
    refine lv_iload_n hx hb dX8_car_164 rfl (lv_at hl 2 rfl) ?_
    refine lv_aload_n hx hb dX8_car_165 rfl (lv_at hl 0 rfl) ?_
    refine g_fi X hI hf fX8_32 q1476 rfl rfl dX8_car_166 (fun v102 hf => ?_)
    obtain ⟨hs, hf⟩ := gCk_b hf
    refine g_cBI hI hf (fun v9 h9 e9 l9 l9' => g_rV X hI l9 l9' ⟨Nat.le_refl _, Nat.le_refl _⟩ (As := [.int x2, .int v102]) (m_X8_screams X.2.2.2.2.2.2.2.2.2.2.1 e9) ydX8_screams hs rfl rfl q1930 q1932 qs99 q131 q1933 rfl (Nat.le_of_ble_eq_true rfl) (Nat.le_of_ble_eq_true rfl) hl.1 rfl (Nat.le_of_ble_eq_true rfl) dX8_car_169) (fun r103 h H locs cells slots hf hI => ?_)
    refine lv_if_eq (tgt := 179) hx hb dX8_car_172 (by decide) (fun c172 => ?_) (fun c172 => ?_)
    · have hf := g_t c172 hf
      exact b_X8_car_179 X K69 _ _ _ _ _ _ _ _ _ _ _ _ _ hf hI (lv_sub hl [0, 1, 2, 3, 4] rfl)
    · have hf := g_f c172 hf
      refine lv_iconst (v := (2 : Int32)) hx hb dX8_car_175 (by decide) ?_
      refine lv_goto (tgt := 180) hx hb dX8_car_176 (by decide) ?_
      exact b_X8_car_180 X K69 _ _ _ _ _ _ _ _ _ _ _ _ _ _ hf hI (lv_sub hl [0, 1, 2, 3, 4] rfl)
def f_X8_car_153 (k69 : Nat → Int32 → Int32 → Int32 → Int32 → gM Int32) (a0 : Nat) (x1 : Int32) (x2 : Int32) (x4 : Int32) (x5 : Int32) (u0 : Int32) : gM Int32 :=
    f_X8_car_154 k69 a0 x1 x2 x4 x5 u0 (0 : Int32)
set_option maxHeartbeats 4000000 in
set_option maxRecDepth 100000 in
theorem b_X8_car_153 {G : gG} {l : Launch} {p : Program} {e : Env} {s : State} {m : MethodId} {args : Array Value} {below : List Frame} {meth : Method} {c : Code} {h0 : g_H} {r : Int32} {h' : g_H} (X : gX G l yX8_car.cls cX8_car 6 (some .int) [] yX8_car.name p s m args meth c) {k69 : Nat → Int32 → Int32 → Int32 → Int32 → gM Int32} (K69 : w_X8_car_69 G l p e s m args below meth c h0 r h' k69) : w_X8_car_153 G l p e s m args below meth c h0 r h' (f_X8_car_153 k69) := by
  have hx := X.1
  have hb := X.2.1
  have hown := X.2.2.2.1
  have hts := X.2.2.2.2.1
  intro a0 x1 x2 x4 x5 u0 h H locs cells slots ls hf hI hl
  unfold f_X8_car_153 at hf
  refine lv_iconst (v := (0 : Int32)) hx hb dX8_car_153 (by decide) ?_
  exact b_X8_car_154 X K69 _ _ _ _ _ _ _ _ _ _ _ _ _ hf hI (lv_sub hl [0, 1, 2, 3, 4] rfl)
def f_X8_car_127 (k69 : Nat → Int32 → Int32 → Int32 → Int32 → gM Int32) (a0 : Nat) (x1 : Int32) (x2 : Int32) (x3 : Int32) (x4 : Int32) (x5 : Int32) : gM Int32 :=
    gB (f_X8_has x5 (0 : Int32)) fun r101 =>
    gIf (r101 = 0)
    (gB (gFI a0 7 31) fun v102 =>
    gB (gCk a0 7) fun _ =>
    gB (f_X8_screams a0 x1 v102) fun r103 =>
    gIf (r103 = 0)
    (f_X8_car_153 k69 a0 x1 x2 x4 x5 x3)
    (f_X8_car_154 k69 a0 x1 x2 x4 x5 x3 (1 : Int32)))
    (f_X8_car_153 k69 a0 x1 x2 x4 x5 x3)
set_option maxHeartbeats 4000000 in
set_option maxRecDepth 100000 in
theorem b_X8_car_127 {G : gG} {l : Launch} {p : Program} {e : Env} {s : State} {m : MethodId} {args : Array Value} {below : List Frame} {meth : Method} {c : Code} {h0 : g_H} {r : Int32} {h' : g_H} (X : gX G l yX8_car.cls cX8_car 6 (some .int) [] yX8_car.name p s m args meth c) {k69 : Nat → Int32 → Int32 → Int32 → Int32 → gM Int32} (K69 : w_X8_car_69 G l p e s m args below meth c h0 r h' k69) : w_X8_car_127 G l p e s m args below meth c h0 r h' (f_X8_car_127 k69) := by
  have hx := X.1
  have hb := X.2.1
  have hown := X.2.2.2.1
  have hts := X.2.2.2.2.1
  intro a0 x1 x2 x3 x4 x5 h H locs cells slots ls hf hI hl
  unfold f_X8_car_127 at hf
  refine lv_iload_n hx hb dX8_car_127 rfl (lv_at hl 3 rfl) ?_
  refine lv_iload hx hb dX8_car_128 (lv_at hl 5 rfl) ?_
  refine lv_iconst (v := (0 : Int32)) hx hb dX8_car_130 (by decide) ?_
  refine g_cBI hI hf (fun v9 h9 e9 l9 l9' => g_rS (b := 0) X hI l9 l9' ⟨Nat.le_refl _, Nat.le_refl _⟩ (As := [.int x5, .int (0 : Int32)]) (m_X8_has X.2.2.2.2.2.2.2.2.2.2.1 e9) ydX8_has q1637 q1638 q131 q1639 rfl (Nat.le_of_ble_eq_true rfl) (Nat.le_of_ble_eq_true rfl) hl.1 rfl (Nat.le_of_ble_eq_true rfl) dX8_car_131) (fun r101 h H locs cells slots hf hI => ?_)
  refine lv_if_ne (tgt := 153) hx hb dX8_car_134 (by decide) (fun c134 => ?_) (fun c134 => ?_)
  · have hf := g_f c134 hf
    exact b_X8_car_153 X K69 _ _ _ _ _ _ _ _ _ _ _ _ hf hI (lv_sub hl [0, 1, 2, 4, 5] rfl)
  · have hf := g_t c134 hf
    refine lv_aload_n hx hb dX8_car_137 rfl (lv_at hl 0 rfl) ?_
    refine lv_iload_n hx hb dX8_car_138 rfl (lv_at hl 1 rfl) ?_
    refine lv_aload_n hx hb dX8_car_139 rfl (lv_at hl 0 rfl) ?_
    refine g_fi X hI hf fX8_31 q1475 rfl rfl dX8_car_140 (fun v102 hf => ?_)
    obtain ⟨hs, hf⟩ := gCk_b hf
    refine g_cBI hI hf (fun v9 h9 e9 l9 l9' => g_rV X hI l9 l9' ⟨Nat.le_refl _, Nat.le_refl _⟩ (As := [.int x1, .int v102]) (m_X8_screams X.2.2.2.2.2.2.2.2.2.2.1 e9) ydX8_screams hs rfl rfl q1930 q1932 qs99 q131 q1933 rfl (Nat.le_of_ble_eq_true rfl) (Nat.le_of_ble_eq_true rfl) hl.1 rfl (Nat.le_of_ble_eq_true rfl) dX8_car_143) (fun r103 h H locs cells slots hf hI => ?_)
    refine lv_if_eq (tgt := 153) hx hb dX8_car_146 (by decide) (fun c146 => ?_) (fun c146 => ?_)
    · have hf := g_t c146 hf
      exact b_X8_car_153 X K69 _ _ _ _ _ _ _ _ _ _ _ _ hf hI (lv_sub hl [0, 1, 2, 4, 5] rfl)
    · have hf := g_f c146 hf
      refine lv_iconst (v := (1 : Int32)) hx hb dX8_car_149 (by decide) ?_
      refine lv_goto (tgt := 154) hx hb dX8_car_150 (by decide) ?_
      exact b_X8_car_154 X K69 _ _ _ _ _ _ _ _ _ _ _ _ _ hf hI (lv_sub hl [0, 1, 2, 4, 5] rfl)
def f_X8_car_103 (k69 : Nat → Int32 → Int32 → Int32 → Int32 → gM Int32) (a0 : Nat) (x1 : Int32) (x2 : Int32) (x3 : Int32) (x4 : Int32) (x5 : Int32) : gM Int32 :=
    gB (f_X8_has x5 (1 : Int32)) fun r101 =>
    gIf (r101 = 0)
    (gB (gFI a0 7 32) fun v102 =>
    gB (gCk a0 7) fun _ =>
    gB (f_X8_carStep a0 x2 x4 v102) fun r103 =>
    gB (gPI a0 7 32 r103) fun _ =>
    f_X8_car_127 k69 a0 x1 x2 x3 x4 x5)
    (f_X8_car_127 k69 a0 x1 x2 x3 x4 x5)
set_option maxHeartbeats 4000000 in
set_option maxRecDepth 100000 in
theorem b_X8_car_103 {G : gG} {l : Launch} {p : Program} {e : Env} {s : State} {m : MethodId} {args : Array Value} {below : List Frame} {meth : Method} {c : Code} {h0 : g_H} {r : Int32} {h' : g_H} (X : gX G l yX8_car.cls cX8_car 6 (some .int) [] yX8_car.name p s m args meth c) {k69 : Nat → Int32 → Int32 → Int32 → Int32 → gM Int32} (K69 : w_X8_car_69 G l p e s m args below meth c h0 r h' k69) : w_X8_car_103 G l p e s m args below meth c h0 r h' (f_X8_car_103 k69) := by
  have hx := X.1
  have hb := X.2.1
  have hown := X.2.2.2.1
  have hts := X.2.2.2.2.1
  intro a0 x1 x2 x3 x4 x5 h H locs cells slots ls hf hI hl
  unfold f_X8_car_103 at hf
  refine lv_iload hx hb dX8_car_103 (lv_at hl 5 rfl) ?_
  refine lv_iconst (v := (1 : Int32)) hx hb dX8_car_105 (by decide) ?_
  refine g_cBI hI hf (fun v9 h9 e9 l9 l9' => g_rS (b := 0) X hI l9 l9' ⟨Nat.le_refl _, Nat.le_refl _⟩ (As := [.int x5, .int (1 : Int32)]) (m_X8_has X.2.2.2.2.2.2.2.2.2.2.1 e9) ydX8_has q1637 q1638 q131 q1639 rfl (Nat.le_of_ble_eq_true rfl) (Nat.le_of_ble_eq_true rfl) hl.1 rfl (Nat.le_of_ble_eq_true rfl) dX8_car_106) (fun r101 h H locs cells slots hf hI => ?_)
  refine lv_if_ne (tgt := 127) hx hb dX8_car_109 (by decide) (fun c109 => ?_) (fun c109 => ?_)
  · have hf := g_f c109 hf
    exact b_X8_car_127 X K69 _ _ _ _ _ _ _ _ _ _ _ _ hf hI (lv_sub hl [0, 1, 2, 3, 4, 5] rfl)
  · have hf := g_t c109 hf
    refine lv_aload_n hx hb dX8_car_112 rfl (lv_at hl 0 rfl) ?_
    refine lv_aload_n hx hb dX8_car_113 rfl (lv_at hl 0 rfl) ?_
    refine lv_iload_n hx hb dX8_car_114 rfl (lv_at hl 2 rfl) ?_
    refine lv_iload hx hb dX8_car_115 (lv_at hl 4 rfl) ?_
    refine lv_aload_n hx hb dX8_car_117 rfl (lv_at hl 0 rfl) ?_
    refine g_fi X hI hf fX8_32 q1476 rfl rfl dX8_car_118 (fun v102 hf => ?_)
    obtain ⟨hs, hf⟩ := gCk_b hf
    refine g_cBI hI hf (fun v9 h9 e9 l9 l9' => g_rV X hI l9 l9' ⟨Nat.le_refl _, Nat.le_refl _⟩ (As := [.int x2, .int x4, .int v102]) (m_X8_carStep X.2.2.2.2.2.2.2.2.2.2.1 e9) ydX8_carStep hs rfl rfl q1926 q1928 qs98 q131 q1929 rfl (Nat.le_of_ble_eq_true rfl) (Nat.le_of_ble_eq_true rfl) hl.1 rfl (Nat.le_of_ble_eq_true rfl) dX8_car_121) (fun r103 h H locs cells slots hf hI => ?_)
    refine g_pi X hI hf fX8_32 q1476 rfl dX8_car_124 (fun h H locs hf hI => ?_)
    exact b_X8_car_127 X K69 _ _ _ _ _ _ _ _ _ _ _ _ hf hI (lv_sub hl [0, 1, 2, 3, 4, 5] rfl)
def f_X8_car_284 (x3 : Int32) : gM Int32 :=
    (gRet x3)
set_option maxHeartbeats 4000000 in
set_option maxRecDepth 100000 in
theorem b_X8_car_284 {G : gG} {l : Launch} {p : Program} {e : Env} {s : State} {m : MethodId} {args : Array Value} {below : List Frame} {meth : Method} {c : Code} {h0 : g_H} {r : Int32} {h' : g_H} (X : gX G l yX8_car.cls cX8_car 6 (some .int) [] yX8_car.name p s m args meth c) : w_X8_car_284 G l p e s m args below meth c h0 r h' (f_X8_car_284) := by
  have hx := X.1
  have hb := X.2.1
  have hown := X.2.2.2.1
  have hts := X.2.2.2.2.1
  intro x3 h H locs cells slots ls hf hI hl
  unfold f_X8_car_284 at hf
  refine lv_iload_n hx hb dX8_car_284 rfl (lv_at hl 0 rfl) ?_
  cases gRet_e hf
  exact g_retI X hI rfl dX8_car_285
def f_X8_car_69 : Nat → Nat → Int32 → Int32 → Int32 → Int32 → gM Int32
  | 0, _, _, _, _, _ => gFail
  | n + 1, a0, x1, x2, x3, x4 =>
    gIf ((10 : Int32) ≤ x4)
    (f_X8_car_284 x3)
    (gB (f_X8_has x3 (0 : Int32)) fun r101 =>
    gIf (r101 = 0)
    (gB (gFI a0 7 31) fun v102 =>
    gB (gCk a0 7) fun _ =>
    gB (f_X8_carStep a0 x1 x4 v102) fun r103 =>
    gB (gPI a0 7 31 r103) fun _ =>
    f_X8_car_103 (f_X8_car_69 n) a0 x1 x2 x3 x4 x3)
    (f_X8_car_103 (f_X8_car_69 n) a0 x1 x2 x3 x4 x3))
set_option maxHeartbeats 4000000 in
set_option maxRecDepth 100000 in
theorem b_X8_car_69 {G : gG} {l : Launch} {p : Program} {e : Env} {s : State} {m : MethodId} {args : Array Value} {below : List Frame} {meth : Method} {c : Code} {h0 : g_H} {r : Int32} {h' : g_H} (X : gX G l yX8_car.cls cX8_car 6 (some .int) [] yX8_car.name p s m args meth c) : ∀ n : Nat, w_X8_car_69 G l p e s m args below meth c h0 r h' (f_X8_car_69 n) := by
  have hx := X.1
  have hb := X.2.1
  have hown := X.2.2.2.1
  have hts := X.2.2.2.2.1
  intro n
  induction n with
  | zero =>
    intro a0 x1 x2 x3 x4 h H locs cells slots ls hf hI hl
    exact (gFail_f hf).elim
  | succ n ih =>
    intro a0 x1 x2 x3 x4 h H locs cells slots ls hf hI hl
    rw [f_X8_car_69] at hf
    refine lv_iload hx hb dX8_car_69 (lv_at hl 4 rfl) ?_
    refine lv_bipush (v := (10 : Int32)) hx hb dX8_car_71 (by decide) ?_
    refine lv_icmp_ge (tgt := 284) hx hb dX8_car_73 (by decide) (fun c73 => ?_) (fun c73 => ?_)
    · have hf := g_t c73 hf
      exact b_X8_car_284 X _ _ _ _ _ _ _ hf hI (lv_sub hl [3] rfl)
    · have hf := g_f c73 hf
      refine lv_iload_n hx hb dX8_car_76 rfl (lv_at hl 3 rfl) ?_
      refine lv_istore (lv' := [(5, .int x3), (0, .ref a0), (1, .int x1), (2, .int x2), (3, .int x3), (4, .int x4)]) hx hb dX8_car_77 hl (by decide) rfl (fun ls hl => ?_)
      refine lv_iload hx hb dX8_car_79 (lv_at hl 0 rfl) ?_
      refine lv_iconst (v := (0 : Int32)) hx hb dX8_car_81 (by decide) ?_
      refine g_cBI hI hf (fun v9 h9 e9 l9 l9' => g_rS (b := 0) X hI l9 l9' ⟨Nat.le_refl _, Nat.le_refl _⟩ (As := [.int x3, .int (0 : Int32)]) (m_X8_has X.2.2.2.2.2.2.2.2.2.2.1 e9) ydX8_has q1637 q1638 q131 q1639 rfl (Nat.le_of_ble_eq_true rfl) (Nat.le_of_ble_eq_true rfl) hl.1 rfl (Nat.le_of_ble_eq_true rfl) dX8_car_82) (fun r101 h H locs cells slots hf hI => ?_)
      refine lv_if_ne (tgt := 103) hx hb dX8_car_85 (by decide) (fun c85 => ?_) (fun c85 => ?_)
      · have hf := g_f c85 hf
        exact b_X8_car_103 X ih _ _ _ _ _ _ _ _ _ _ _ _ hf hI (lv_sub hl [1, 2, 3, 4, 5, 0] rfl)
      · have hf := g_t c85 hf
        refine lv_aload_n hx hb dX8_car_88 rfl (lv_at hl 1 rfl) ?_
        refine lv_aload_n hx hb dX8_car_89 rfl (lv_at hl 1 rfl) ?_
        refine lv_iload_n hx hb dX8_car_90 rfl (lv_at hl 2 rfl) ?_
        refine lv_iload hx hb dX8_car_91 (lv_at hl 5 rfl) ?_
        refine lv_aload_n hx hb dX8_car_93 rfl (lv_at hl 1 rfl) ?_
        refine g_fi X hI hf fX8_31 q1475 rfl rfl dX8_car_94 (fun v102 hf => ?_)
        obtain ⟨hs, hf⟩ := gCk_b hf
        refine g_cBI hI hf (fun v9 h9 e9 l9 l9' => g_rV X hI l9 l9' ⟨Nat.le_refl _, Nat.le_refl _⟩ (As := [.int x1, .int x4, .int v102]) (m_X8_carStep X.2.2.2.2.2.2.2.2.2.2.1 e9) ydX8_carStep hs rfl rfl q1926 q1928 qs98 q131 q1929 rfl (Nat.le_of_ble_eq_true rfl) (Nat.le_of_ble_eq_true rfl) hl.1 rfl (Nat.le_of_ble_eq_true rfl) dX8_car_97) (fun r103 h H locs cells slots hf hI => ?_)
        refine g_pi X hI hf fX8_31 q1475 rfl dX8_car_100 (fun h H locs hf hI => ?_)
        exact b_X8_car_103 X ih _ _ _ _ _ _ _ _ _ _ _ _ hf hI (lv_sub hl [1, 2, 3, 4, 5, 0] rfl)
def f_X8_car_45 (a0 : Nat) (x1 : Int32) (x2 : Int32) (b0 : Nat) (u1 : Int32) : gM Int32 :=
    gB (gCk b0 7) fun _ =>
    gB (f_X8_throwsIf b0 u1 (2 : Int32)) fun r101 =>
    gIf (r101 = 0)
    (gB (gPI a0 7 31 (0 : Int32)) fun _ =>
    gB (gPI a0 7 32 (0 : Int32)) fun _ =>
    f_X8_car_69 gN a0 x1 x2 (0 : Int32) (0 : Int32))
    (f_X8_car_52)
set_option maxHeartbeats 4000000 in
set_option maxRecDepth 100000 in
theorem b_X8_car_45 {G : gG} {l : Launch} {p : Program} {e : Env} {s : State} {m : MethodId} {args : Array Value} {below : List Frame} {meth : Method} {c : Code} {h0 : g_H} {r : Int32} {h' : g_H} (X : gX G l yX8_car.cls cX8_car 6 (some .int) [] yX8_car.name p s m args meth c) : w_X8_car_45 G l p e s m args below meth c h0 r h' (f_X8_car_45) := by
  have hx := X.1
  have hb := X.2.1
  have hown := X.2.2.2.1
  have hts := X.2.2.2.2.1
  intro a0 x1 x2 b0 u1 h H locs cells slots ls hf hI hl
  unfold f_X8_car_45 at hf
  refine lv_iconst (v := (2 : Int32)) hx hb dX8_car_45 (by decide) ?_
  obtain ⟨hs, hf⟩ := gCk_b hf
  refine g_cBI hI hf (fun v9 h9 e9 l9 l9' => g_rV X hI l9 l9' ⟨Nat.le_refl _, Nat.le_refl _⟩ (As := [.int u1, .int (2 : Int32)]) (m_X8_throwsIf X.2.2.2.2.2.2.2.2.2.2.1 e9) ydX8_throwsIf hs rfl rfl q1736 q1738 qs72 q131 q1739 rfl (Nat.le_of_ble_eq_true rfl) (Nat.le_of_ble_eq_true rfl) hl.1 rfl (Nat.le_of_ble_eq_true rfl) dX8_car_46) (fun r101 h H locs cells slots hf hI => ?_)
  refine lv_if_eq (tgt := 54) hx hb dX8_car_49 (by decide) (fun c49 => ?_) (fun c49 => ?_)
  · have hf := g_t c49 hf
    refine lv_iconst (v := (0 : Int32)) hx hb dX8_car_54 (by decide) ?_
    refine lv_istore_n (lv' := [(3, .int (0 : Int32)), (0, .ref a0), (1, .int x1), (2, .int x2)]) hx hb dX8_car_55 rfl hl (by decide) rfl (fun ls hl => ?_)
    refine lv_aload_n hx hb dX8_car_56 rfl (lv_at hl 1 rfl) ?_
    refine lv_iconst (v := (0 : Int32)) hx hb dX8_car_57 (by decide) ?_
    refine g_pi X hI hf fX8_31 q1475 rfl dX8_car_58 (fun h H locs hf hI => ?_)
    refine lv_aload_n hx hb dX8_car_61 rfl (lv_at hl 1 rfl) ?_
    refine lv_iconst (v := (0 : Int32)) hx hb dX8_car_62 (by decide) ?_
    refine g_pi X hI hf fX8_32 q1476 rfl dX8_car_63 (fun h H locs hf hI => ?_)
    refine lv_iconst (v := (0 : Int32)) hx hb dX8_car_66 (by decide) ?_
    refine lv_istore (lv' := [(4, .int (0 : Int32)), (3, .int (0 : Int32)), (0, .ref a0), (1, .int x1), (2, .int x2)]) hx hb dX8_car_67 hl (by decide) rfl (fun ls hl => ?_)
    exact b_X8_car_69 X gN _ _ _ _ _ _ _ _ _ _ _ hf hI (lv_sub hl [2, 3, 4, 1, 0] rfl)
  · have hf := g_f c49 hf
    exact b_X8_car_52 X _ _ _ _ _ _ hf hI (lv_sub hl [] rfl)
def f_X8_car_27 (a0 : Nat) (x1 : Int32) (x2 : Int32) (b0 : Nat) (u1 : Int32) : gM Int32 :=
    gB (gCk b0 7) fun _ =>
    gB (f_X8_throwsIf b0 u1 (1 : Int32)) fun r101 =>
    gIf (r101 = 0)
    (gIf (x1 = x2)
    (f_X8_car_45 a0 x1 x2 a0 (1 : Int32))
    (f_X8_car_45 a0 x1 x2 a0 (0 : Int32)))
    (f_X8_car_52)
set_option maxHeartbeats 4000000 in
set_option maxRecDepth 100000 in
theorem b_X8_car_27 {G : gG} {l : Launch} {p : Program} {e : Env} {s : State} {m : MethodId} {args : Array Value} {below : List Frame} {meth : Method} {c : Code} {h0 : g_H} {r : Int32} {h' : g_H} (X : gX G l yX8_car.cls cX8_car 6 (some .int) [] yX8_car.name p s m args meth c) : w_X8_car_27 G l p e s m args below meth c h0 r h' (f_X8_car_27) := by
  have hx := X.1
  have hb := X.2.1
  have hown := X.2.2.2.1
  have hts := X.2.2.2.2.1
  intro a0 x1 x2 b0 u1 h H locs cells slots ls hf hI hl
  unfold f_X8_car_27 at hf
  refine lv_iconst (v := (1 : Int32)) hx hb dX8_car_27 (by decide) ?_
  obtain ⟨hs, hf⟩ := gCk_b hf
  refine g_cBI hI hf (fun v9 h9 e9 l9 l9' => g_rV X hI l9 l9' ⟨Nat.le_refl _, Nat.le_refl _⟩ (As := [.int u1, .int (1 : Int32)]) (m_X8_throwsIf X.2.2.2.2.2.2.2.2.2.2.1 e9) ydX8_throwsIf hs rfl rfl q1736 q1738 qs72 q131 q1739 rfl (Nat.le_of_ble_eq_true rfl) (Nat.le_of_ble_eq_true rfl) hl.1 rfl (Nat.le_of_ble_eq_true rfl) dX8_car_28) (fun r101 h H locs cells slots hf hI => ?_)
  refine lv_if_ne (tgt := 52) hx hb dX8_car_31 (by decide) (fun c31 => ?_) (fun c31 => ?_)
  · have hf := g_f c31 hf
    exact b_X8_car_52 X _ _ _ _ _ _ hf hI (lv_sub hl [] rfl)
  · have hf := g_t c31 hf
    refine lv_aload_n hx hb dX8_car_34 rfl (lv_at hl 0 rfl) ?_
    refine lv_iload_n hx hb dX8_car_35 rfl (lv_at hl 1 rfl) ?_
    refine lv_iload_n hx hb dX8_car_36 rfl (lv_at hl 2 rfl) ?_
    refine lv_icmp_ne (tgt := 44) hx hb dX8_car_37 (by decide) (fun c37 => ?_) (fun c37 => ?_)
    · have hf := g_f c37 hf
      refine lv_iconst (v := (0 : Int32)) hx hb dX8_car_44 (by decide) ?_
      exact b_X8_car_45 X _ _ _ _ _ _ _ _ _ _ _ hf hI (lv_sub hl [0, 1, 2] rfl)
    · have hf := g_t c37 hf
      refine lv_iconst (v := (1 : Int32)) hx hb dX8_car_40 (by decide) ?_
      refine lv_goto (tgt := 45) hx hb dX8_car_41 (by decide) ?_
      exact b_X8_car_45 X _ _ _ _ _ _ _ _ _ _ _ hf hI (lv_sub hl [0, 1, 2] rfl)
def f_X8_car_22 (a0 : Nat) (x1 : Int32) (x2 : Int32) (b0 : Nat) : gM Int32 :=
    f_X8_car_27 a0 x1 x2 b0 (1 : Int32)
set_option maxHeartbeats 4000000 in
set_option maxRecDepth 100000 in
theorem b_X8_car_22 {G : gG} {l : Launch} {p : Program} {e : Env} {s : State} {m : MethodId} {args : Array Value} {below : List Frame} {meth : Method} {c : Code} {h0 : g_H} {r : Int32} {h' : g_H} (X : gX G l yX8_car.cls cX8_car 6 (some .int) [] yX8_car.name p s m args meth c) : w_X8_car_22 G l p e s m args below meth c h0 r h' (f_X8_car_22) := by
  have hx := X.1
  have hb := X.2.1
  have hown := X.2.2.2.1
  have hts := X.2.2.2.2.1
  intro a0 x1 x2 b0 h H locs cells slots ls hf hI hl
  unfold f_X8_car_22 at hf
  refine lv_iconst (v := (1 : Int32)) hx hb dX8_car_22 (by decide) ?_
  refine lv_goto (tgt := 27) hx hb dX8_car_23 (by decide) ?_
  exact b_X8_car_27 X _ _ _ _ _ _ _ _ _ _ _ hf hI (lv_sub hl [0, 1, 2] rfl)
def f_X8_car (a0 : Nat) (x1 : Int32) (x2 : Int32) : gM Int32 :=
    gB (gPI a0 7 0 (0 : Int32)) fun _ =>
    gB (gCk a0 7) fun _ =>
    gB (f_X8_noOne a0 x1) fun r1 =>
    gIf (r1 = 0)
    (gB (gCk a0 7) fun _ =>
    gB (f_X8_noOne a0 x2) fun r2 =>
    gIf (r2 = 0)
    (f_X8_car_27 a0 x1 x2 a0 (0 : Int32))
    (f_X8_car_22 a0 x1 x2 a0))
    (f_X8_car_22 a0 x1 x2 a0)
set_option maxHeartbeats 4000000 in
set_option maxRecDepth 100000 in
theorem m_X8_car {G : gG} {l : Launch} (hfl : l.stackTraces = false) {a0 : Nat} {x1 : Int32} {x2 : Int32} {h h' : g_H} {r : Int32} (hf : (f_X8_car a0 x1 x2).1 h = some (r, h')) : gMet G l yX8_car (Cond.code yX8_car cX8_car 6 (some .int)) 8 182 [.ref a0, .int x1, .int x2] h (.inl (g_wI r)) h' := by
  refine g_head hfl ((f_X8_car a0 x1 x2).2 h r h' hf) (plainFor_of_name (by decide)) (Nat.le_of_ble_eq_true rfl) (fun p e s m below meth c H locs cells slots ls X hI hl9 => ?_)
  have hl : lv_has ls 6 [(0, .ref a0), (1, .int x1), (2, .int x2)] := hl9
  have hx := X.1
  have hb := X.2.1
  have hown := X.2.2.2.1
  have hts := X.2.2.2.2.1
  unfold f_X8_car at hf
  refine lv_aload_n hx hb dX8_car_0 rfl (lv_at hl 0 rfl) ?_
  refine lv_iconst (v := (0 : Int32)) hx hb dX8_car_1 (by decide) ?_
  refine g_pi X hI hf fX8_0 q1444 rfl dX8_car_2 (fun h H locs hf hI => ?_)
  refine lv_aload_n hx hb dX8_car_5 rfl (lv_at hl 0 rfl) ?_
  refine lv_aload_n hx hb dX8_car_6 rfl (lv_at hl 0 rfl) ?_
  refine lv_iload_n hx hb dX8_car_7 rfl (lv_at hl 1 rfl) ?_
  obtain ⟨hs, hf⟩ := gCk_b hf
  refine g_cBI hI hf (fun v9 h9 e9 l9 l9' => g_rV X hI l9 l9' ⟨Nat.le_refl _, Nat.le_refl _⟩ (As := [.int x1]) (m_X8_noOne X.2.2.2.2.2.2.2.2.2.2.1 e9) ydX8_noOne hs rfl rfl q1763 q1765 qs74 q131 q1766 rfl (Nat.le_of_ble_eq_true rfl) (Nat.le_of_ble_eq_true rfl) hl.1 rfl (Nat.le_of_ble_eq_true rfl) dX8_car_8) (fun r1 h H locs cells slots hf hI => ?_)
  refine lv_if_ne (tgt := 22) hx hb dX8_car_11 (by decide) (fun c11 => ?_) (fun c11 => ?_)
  · have hf := g_f c11 hf
    exact b_X8_car_22 X _ _ _ _ _ _ _ _ _ _ hf hI (lv_sub hl [0, 1, 2] rfl)
  · have hf := g_t c11 hf
    refine lv_aload_n hx hb dX8_car_14 rfl (lv_at hl 0 rfl) ?_
    refine lv_iload_n hx hb dX8_car_15 rfl (lv_at hl 2 rfl) ?_
    obtain ⟨hs, hf⟩ := gCk_b hf
    refine g_cBI hI hf (fun v9 h9 e9 l9 l9' => g_rV X hI l9 l9' ⟨Nat.le_refl _, Nat.le_refl _⟩ (As := [.int x2]) (m_X8_noOne X.2.2.2.2.2.2.2.2.2.2.1 e9) ydX8_noOne hs rfl rfl q1763 q1765 qs74 q131 q1766 rfl (Nat.le_of_ble_eq_true rfl) (Nat.le_of_ble_eq_true rfl) hl.1 rfl (Nat.le_of_ble_eq_true rfl) dX8_car_16) (fun r2 h H locs cells slots hf hI => ?_)
    refine lv_if_eq (tgt := 26) hx hb dX8_car_19 (by decide) (fun c19 => ?_) (fun c19 => ?_)
    · have hf := g_t c19 hf
      refine lv_iconst (v := (0 : Int32)) hx hb dX8_car_26 (by decide) ?_
      exact b_X8_car_27 X _ _ _ _ _ _ _ _ _ _ _ hf hI (lv_sub hl [0, 1, 2] rfl)
    · have hf := g_f c19 hf
      exact b_X8_car_22 X _ _ _ _ _ _ _ _ _ _ hf hI (lv_sub hl [0, 1, 2] rfl)
/-! X1_took -/
def f_X1_took (a0 : Nat) : gM Int32 :=
    gB (gFR a0 0 0) fun v1 =>
    gB (gFI v1 1 6) fun v2 =>
    gB (gFR a0 0 0) fun v3 =>
    gB (gPI v3 1 6 (0 : Int32)) fun _ =>
    (gRet v2)
set_option maxHeartbeats 4000000 in
set_option maxRecDepth 100000 in
theorem m_X1_took {G : gG} {l : Launch} (hfl : l.stackTraces = false) {a0 : Nat} {h h' : g_H} {r : Int32} (hf : (f_X1_took a0).1 h = some (r, h')) : gMet G l yX1_took (Cond.code yX1_took cX1_took 2 (some .int)) 1 20 [.ref a0] h (.inl (g_wI r)) h' := by
  refine g_head hfl ((f_X1_took a0).2 h r h' hf) (plainFor_of_name (by decide)) (Nat.le_of_ble_eq_true rfl) (fun p e s m below meth c H locs cells slots ls X hI hl9 => ?_)
  have hl : lv_has ls 2 [(0, .ref a0)] := hl9
  have hx := X.1
  have hb := X.2.1
  have hown := X.2.2.2.1
  have hts := X.2.2.2.2.1
  unfold f_X1_took at hf
  refine lv_aload_n hx hb dX1_took_0 rfl (lv_at hl 0 rfl) ?_
  refine g_fr X hI hf fX1_0 q460 rfl rfl dX1_took_1 (fun v1 hf => ?_)
  refine g_fiN X hI hf fX2_6 q403 rfl rfl dX1_took_4 (fun v2 hf => ?_)
  refine lv_istore_n (lv' := [(1, .int v2), (0, .ref a0)]) hx hb dX1_took_7 rfl hl (by decide) rfl (fun ls hl => ?_)
  refine lv_aload_n hx hb dX1_took_8 rfl (lv_at hl 1 rfl) ?_
  refine g_fr X hI hf fX1_0 q460 rfl rfl dX1_took_9 (fun v3 hf => ?_)
  refine lv_iconst (v := (0 : Int32)) hx hb dX1_took_12 (by decide) ?_
  refine g_piN X hI hf fX2_6 q403 rfl dX1_took_13 (fun h H locs hf hI => ?_)
  refine lv_iload_n hx hb dX1_took_16 rfl (lv_at hl 0 rfl) ?_
  cases gRet_e hf
  exact g_retI X hI rfl dX1_took_17
/-! X1_hears -/
abbrev w_X1_hears_70 (G : gG) (l : Launch) (p : Program) (e : Env) (s : State) (m : MethodId) (args : Array Value) (below : List Frame) (meth : Method) (c : Code) (h0 : g_H) (r : (Int32 ⊕ gE)) (h' : g_H) (k : Nat → Int32 → Int32 → Int32 → Int32 → gM (Int32 ⊕ gE)) : Prop := ∀ (a0 : Nat) (x1 : Int32) (x2 : Int32) (x4 : Int32) (u0 : Int32) (h : g_H) (H : Heap) (locs : List Loc) (cells slots : Nat) (ls : Array Slot), (k a0 x1 x2 x4 u0).1 h = some (r, h') → gI G h0 h H locs cells slots → lv_has ls 8 [(0, .ref a0), (1, .int x1), (2, .int x2), (4, .int x4)] → W p l e (g_rm 101 1866 h0 h') s m args below meth c H locs cells slots (gQ G below args s h0 h' (g_w g_wI r)) (F0 m 70 ls [.int u0])
abbrev w_X1_hears_254 (G : gG) (l : Launch) (p : Program) (e : Env) (s : State) (m : MethodId) (args : Array Value) (below : List Frame) (meth : Method) (c : Code) (h0 : g_H) (r : (Int32 ⊕ gE)) (h' : g_H) (k : Nat → Int32 → Int32 → Int32 → Int32 → Nat → Int32 → Int32 → gM (Int32 ⊕ gE)) : Prop := ∀ (a0 : Nat) (x2 : Int32) (x4 : Int32) (x5 : Int32) (x7 : Int32) (b0 : Nat) (u1 : Int32) (u2 : Int32) (h : g_H) (H : Heap) (locs : List Loc) (cells slots : Nat) (ls : Array Slot), (k a0 x2 x4 x5 x7 b0 u1 u2).1 h = some (r, h') → gI G h0 h H locs cells slots → lv_has ls 8 [(0, .ref a0), (2, .int x2), (4, .int x4), (5, .int x5), (7, .int x7)] → W p l e (g_rm 101 1866 h0 h') s m args below meth c H locs cells slots (gQ G below args s h0 h' (g_w g_wI r)) (F0 m 254 ls [.int u2, .int u1, .ref b0])
abbrev w_X1_hears_278 (G : gG) (l : Launch) (p : Program) (e : Env) (s : State) (m : MethodId) (args : Array Value) (below : List Frame) (meth : Method) (c : Code) (h0 : g_H) (r : (Int32 ⊕ gE)) (h' : g_H) (k : Nat → Int32 → Int32 → Int32 → Int32 → gM (Int32 ⊕ gE)) : Prop := ∀ (a0 : Nat) (x2 : Int32) (x5 : Int32) (u0 : Int32) (u1 : Int32) (h : g_H) (H : Heap) (locs : List Loc) (cells slots : Nat) (ls : Array Slot), (k a0 x2 x5 u0 u1).1 h = some (r, h') → gI G h0 h H locs cells slots → lv_has ls 8 [(0, .ref a0), (2, .int x2), (5, .int x5)] → W p l e (g_rm 101 1866 h0 h') s m args below meth c H locs cells slots (gQ G below args s h0 h' (g_w g_wI r)) (F0 m 278 ls [.int u1, .int u0])
abbrev w_X1_hears_261 (G : gG) (l : Launch) (p : Program) (e : Env) (s : State) (m : MethodId) (args : Array Value) (below : List Frame) (meth : Method) (c : Code) (h0 : g_H) (r : (Int32 ⊕ gE)) (h' : g_H) (k : Nat → Int32 → Int32 → Int32 → gM (Int32 ⊕ gE)) : Prop := ∀ (a0 : Nat) (x2 : Int32) (x4 : Int32) (x5 : Int32) (h : g_H) (H : Heap) (locs : List Loc) (cells slots : Nat) (ls : Array Slot), (k a0 x2 x4 x5).1 h = some (r, h') → gI G h0 h H locs cells slots → lv_has ls 8 [(0, .ref a0), (2, .int x2), (4, .int x4), (5, .int x5)] → W p l e (g_rm 101 1866 h0 h') s m args below meth c H locs cells slots (gQ G below args s h0 h' (g_w g_wI r)) (F0 m 261 ls [])
abbrev w_X1_hears_187 (G : gG) (l : Launch) (p : Program) (e : Env) (s : State) (m : MethodId) (args : Array Value) (below : List Frame) (meth : Method) (c : Code) (h0 : g_H) (r : (Int32 ⊕ gE)) (h' : g_H) (k : Nat → Int32 → Int32 → Int32 → Int32 → gM (Int32 ⊕ gE)) : Prop := ∀ (a0 : Nat) (x2 : Int32) (x4 : Int32) (x5 : Int32) (x7 : Int32) (h : g_H) (H : Heap) (locs : List Loc) (cells slots : Nat) (ls : Array Slot), (k a0 x2 x4 x5 x7).1 h = some (r, h') → gI G h0 h H locs cells slots → lv_has ls 8 [(0, .ref a0), (2, .int x2), (4, .int x4), (5, .int x5), (7, .int x7)] → W p l e (g_rm 101 1866 h0 h') s m args below meth c H locs cells slots (gQ G below args s h0 h' (g_w g_wI r)) (F0 m 187 ls [])
abbrev w_X1_hears_176 (G : gG) (l : Launch) (p : Program) (e : Env) (s : State) (m : MethodId) (args : Array Value) (below : List Frame) (meth : Method) (c : Code) (h0 : g_H) (r : (Int32 ⊕ gE)) (h' : g_H) (k : Nat → Int32 → Int32 → Int32 → gM (Int32 ⊕ gE)) : Prop := ∀ (a0 : Nat) (x2 : Int32) (x4 : Int32) (x5 : Int32) (h : g_H) (H : Heap) (locs : List Loc) (cells slots : Nat) (ls : Array Slot), (k a0 x2 x4 x5).1 h = some (r, h') → gI G h0 h H locs cells slots → lv_has ls 8 [(0, .ref a0), (2, .int x2), (4, .int x4), (5, .int x5)] → W p l e (g_rm 101 1866 h0 h') s m args below meth c H locs cells slots (gQ G below args s h0 h' (g_w g_wI r)) (F0 m 176 ls [])
abbrev w_X1_hears_117 (G : gG) (l : Launch) (p : Program) (e : Env) (s : State) (m : MethodId) (args : Array Value) (below : List Frame) (meth : Method) (c : Code) (h0 : g_H) (r : (Int32 ⊕ gE)) (h' : g_H) (k : Nat → Int32 → Int32 → Int32 → Int32 → Int32 → gM (Int32 ⊕ gE)) : Prop := ∀ (a0 : Nat) (x2 : Int32) (x4 : Int32) (x5 : Int32) (x6 : Int32) (x7 : Int32) (h : g_H) (H : Heap) (locs : List Loc) (cells slots : Nat) (ls : Array Slot), (k a0 x2 x4 x5 x6 x7).1 h = some (r, h') → gI G h0 h H locs cells slots → lv_has ls 8 [(0, .ref a0), (2, .int x2), (4, .int x4), (5, .int x5), (6, .int x6), (7, .int x7)] → W p l e (g_rm 101 1866 h0 h') s m args below meth c H locs cells slots (gQ G below args s h0 h' (g_w g_wI r)) (F0 m 117 ls [])
abbrev w_X1_hears_287 (G : gG) (l : Launch) (p : Program) (e : Env) (s : State) (m : MethodId) (args : Array Value) (below : List Frame) (meth : Method) (c : Code) (h0 : g_H) (r : (Int32 ⊕ gE)) (h' : g_H) (k : Int32 → gM (Int32 ⊕ gE)) : Prop := ∀ (x4 : Int32) (h : g_H) (H : Heap) (locs : List Loc) (cells slots : Nat) (ls : Array Slot), (k x4).1 h = some (r, h') → gI G h0 h H locs cells slots → lv_has ls 8 [(4, .int x4)] → W p l e (g_rm 101 1866 h0 h') s m args below meth c H locs cells slots (gQ G below args s h0 h' (g_w g_wI r)) (F0 m 287 ls [])
abbrev w_X1_hears_95 (G : gG) (l : Launch) (p : Program) (e : Env) (s : State) (m : MethodId) (args : Array Value) (below : List Frame) (meth : Method) (c : Code) (h0 : g_H) (r : (Int32 ⊕ gE)) (h' : g_H) (k : Nat → Int32 → Int32 → Int32 → gM (Int32 ⊕ gE)) : Prop := ∀ (a0 : Nat) (x2 : Int32) (x4 : Int32) (x5 : Int32) (h : g_H) (H : Heap) (locs : List Loc) (cells slots : Nat) (ls : Array Slot), (k a0 x2 x4 x5).1 h = some (r, h') → gI G h0 h H locs cells slots → lv_has ls 8 [(0, .ref a0), (2, .int x2), (4, .int x4), (5, .int x5)] → W p l e (g_rm 101 1866 h0 h') s m args below meth c H locs cells slots (gQ G below args s h0 h' (g_w g_wI r)) (F0 m 95 ls [])
abbrev w_X1_hears_77 (G : gG) (l : Launch) (p : Program) (e : Env) (s : State) (m : MethodId) (args : Array Value) (below : List Frame) (meth : Method) (c : Code) (h0 : g_H) (r : (Int32 ⊕ gE)) (h' : g_H) (k : Nat → Int32 → Int32 → Int32 → gM (Int32 ⊕ gE)) : Prop := ∀ (a0 : Nat) (x1 : Int32) (x2 : Int32) (x3 : Int32) (h : g_H) (H : Heap) (locs : List Loc) (cells slots : Nat) (ls : Array Slot), (k a0 x1 x2 x3).1 h = some (r, h') → gI G h0 h H locs cells slots → lv_has ls 8 [(0, .ref a0), (1, .int x1), (2, .int x2), (3, .int x3)] → W p l e (g_rm 101 1866 h0 h') s m args below meth c H locs cells slots (gQ G below args s h0 h' (g_w g_wI r)) (F0 m 77 ls [])
abbrev w_X1_hears_36 (G : gG) (l : Launch) (p : Program) (e : Env) (s : State) (m : MethodId) (args : Array Value) (below : List Frame) (meth : Method) (c : Code) (h0 : g_H) (r : (Int32 ⊕ gE)) (h' : g_H) (k : Nat → Int32 → Int32 → Int32 → Int32 → gM (Int32 ⊕ gE)) : Prop := ∀ (a0 : Nat) (x1 : Int32) (x2 : Int32) (x3 : Int32) (x4 : Int32) (h : g_H) (H : Heap) (locs : List Loc) (cells slots : Nat) (ls : Array Slot), (k a0 x1 x2 x3 x4).1 h = some (r, h') → gI G h0 h H locs cells slots → lv_has ls 8 [(0, .ref a0), (1, .int x1), (2, .int x2), (3, .int x3), (4, .int x4)] → W p l e (g_rm 101 1866 h0 h') s m args below meth c H locs cells slots (gQ G below args s h0 h' (g_w g_wI r)) (F0 m 36 ls [])
abbrev w_X1_hears_32 (G : gG) (l : Launch) (p : Program) (e : Env) (s : State) (m : MethodId) (args : Array Value) (below : List Frame) (meth : Method) (c : Code) (h0 : g_H) (r : (Int32 ⊕ gE)) (h' : g_H) (k : Nat → Int32 → Int32 → Int32 → gM (Int32 ⊕ gE)) : Prop := ∀ (a0 : Nat) (x1 : Int32) (x2 : Int32) (u0 : Int32) (h : g_H) (H : Heap) (locs : List Loc) (cells slots : Nat) (ls : Array Slot), (k a0 x1 x2 u0).1 h = some (r, h') → gI G h0 h H locs cells slots → lv_has ls 8 [(0, .ref a0), (1, .int x1), (2, .int x2)] → W p l e (g_rm 101 1866 h0 h') s m args below meth c H locs cells slots (gQ G below args s h0 h' (g_w g_wI r)) (F0 m 32 ls [.int u0])
abbrev w_X1_hears_31 (G : gG) (l : Launch) (p : Program) (e : Env) (s : State) (m : MethodId) (args : Array Value) (below : List Frame) (meth : Method) (c : Code) (h0 : g_H) (r : (Int32 ⊕ gE)) (h' : g_H) (k : Nat → Int32 → Int32 → gM (Int32 ⊕ gE)) : Prop := ∀ (a0 : Nat) (x1 : Int32) (x2 : Int32) (h : g_H) (H : Heap) (locs : List Loc) (cells slots : Nat) (ls : Array Slot), (k a0 x1 x2).1 h = some (r, h') → gI G h0 h H locs cells slots → lv_has ls 8 [(0, .ref a0), (1, .int x1), (2, .int x2)] → W p l e (g_rm 101 1866 h0 h') s m args below meth c H locs cells slots (gQ G below args s h0 h' (g_w g_wI r)) (F0 m 31 ls [])
def f_X1_hears_70 (k36 : Nat → Int32 → Int32 → Int32 → Int32 → gM (Int32 ⊕ gE)) (a0 : Nat) (x1 : Int32) (x2 : Int32) (x4 : Int32) (u0 : Int32) : gM (Int32 ⊕ gE) :=
    k36 a0 x1 x2 u0 (x4 + (2 : Int32))
set_option maxHeartbeats 4000000 in
set_option maxRecDepth 100000 in
theorem b_X1_hears_70 {G : gG} {l : Launch} {p : Program} {e : Env} {s : State} {m : MethodId} {args : Array Value} {below : List Frame} {meth : Method} {c : Code} {h0 : g_H} {r : (Int32 ⊕ gE)} {h' : g_H} (X : gX G l yX1_hears.cls cX1_hears 8 (some .int) [] yX1_hears.name p s m args meth c) {k36 : Nat → Int32 → Int32 → Int32 → Int32 → gM (Int32 ⊕ gE)} (K36 : w_X1_hears_36 G l p e s m args below meth c h0 r h' k36) : w_X1_hears_70 G l p e s m args below meth c h0 r h' (f_X1_hears_70 k36) := by
  have hx := X.1
  have hb := X.2.1
  have hown := X.2.2.2.1
  have hts := X.2.2.2.2.1
  intro a0 x1 x2 x4 u0 h H locs cells slots ls hf hI hl
  unfold f_X1_hears_70 at hf
  refine lv_istore_n (lv' := [(3, .int u0), (0, .ref a0), (1, .int x1), (2, .int x2), (4, .int x4)]) hx hb dX1_hears_70 rfl hl (by decide) rfl (fun ls hl => ?_)
  refine lv_iinc (v := (x4 + (2 : Int32))) (lv' := [(4, .int (x4 + (2 : Int32))), (3, .int u0), (0, .ref a0), (1, .int x1), (2, .int x2)]) hx hb dX1_hears_71 hl (k := 4) rfl rfl (by decide) rfl (fun ls hl => ?_)
  refine lv_goto (tgt := 36) hx hb dX1_hears_74 (by decide) ?_
  exact K36 _ _ _ _ _ _ _ _ _ _ _ hf hI (lv_sub hl [2, 3, 4, 1, 0] rfl)
def f_X1_hears_254 (k187 : Nat → Int32 → Int32 → Int32 → Int32 → gM (Int32 ⊕ gE)) (a0 : Nat) (x2 : Int32) (x4 : Int32) (x5 : Int32) (x7 : Int32) (b0 : Nat) (u1 : Int32) (u2 : Int32) : gM (Int32 ⊕ gE) :=
    gB (gSI b0 3 u1 (vp_nar .boolean u2)) fun _ =>
    k187 a0 x2 x4 x5 (x7 + (2 : Int32))
set_option maxHeartbeats 4000000 in
set_option maxRecDepth 100000 in
theorem b_X1_hears_254 {G : gG} {l : Launch} {p : Program} {e : Env} {s : State} {m : MethodId} {args : Array Value} {below : List Frame} {meth : Method} {c : Code} {h0 : g_H} {r : (Int32 ⊕ gE)} {h' : g_H} (X : gX G l yX1_hears.cls cX1_hears 8 (some .int) [] yX1_hears.name p s m args meth c) {k187 : Nat → Int32 → Int32 → Int32 → Int32 → gM (Int32 ⊕ gE)} (K187 : w_X1_hears_187 G l p e s m args below meth c h0 r h' k187) : w_X1_hears_254 G l p e s m args below meth c h0 r h' (f_X1_hears_254 k187) := by
  have hx := X.1
  have hb := X.2.1
  have hown := X.2.2.2.1
  have hts := X.2.2.2.2.1
  intro a0 x2 x4 x5 x7 b0 u1 u2 h H locs cells slots ls hf hI hl
  unfold f_X1_hears_254 at hf
  refine g_si3 X hI hf dX1_hears_254 (fun h H locs hf hI => ?_)
  refine lv_iinc (v := (x7 + (2 : Int32))) (lv' := [(7, .int (x7 + (2 : Int32))), (0, .ref a0), (2, .int x2), (4, .int x4), (5, .int x5)]) hx hb dX1_hears_255 hl (k := 4) rfl rfl (by decide) rfl (fun ls hl => ?_)
  refine lv_goto (tgt := 187) hx hb dX1_hears_258 (by decide) ?_
  exact K187 _ _ _ _ _ _ _ _ _ _ _ hf hI (lv_sub hl [1, 2, 3, 4, 0] rfl)
def f_X1_hears_278 (k95 : Nat → Int32 → Int32 → Int32 → gM (Int32 ⊕ gE)) (a0 : Nat) (x2 : Int32) (x5 : Int32) (u0 : Int32) (u1 : Int32) : gM (Int32 ⊕ gE) :=
    k95 a0 x2 (u0 + u1) (x5 + (1 : Int32))
set_option maxHeartbeats 4000000 in
set_option maxRecDepth 100000 in
theorem b_X1_hears_278 {G : gG} {l : Launch} {p : Program} {e : Env} {s : State} {m : MethodId} {args : Array Value} {below : List Frame} {meth : Method} {c : Code} {h0 : g_H} {r : (Int32 ⊕ gE)} {h' : g_H} (X : gX G l yX1_hears.cls cX1_hears 8 (some .int) [] yX1_hears.name p s m args meth c) {k95 : Nat → Int32 → Int32 → Int32 → gM (Int32 ⊕ gE)} (K95 : w_X1_hears_95 G l p e s m args below meth c h0 r h' k95) : w_X1_hears_278 G l p e s m args below meth c h0 r h' (f_X1_hears_278 k95) := by
  have hx := X.1
  have hb := X.2.1
  have hown := X.2.2.2.1
  have hts := X.2.2.2.2.1
  intro a0 x2 x5 u0 u1 h H locs cells slots ls hf hI hl
  unfold f_X1_hears_278 at hf
  refine lv_iadd hx hb dX1_hears_278 ?_
  refine lv_istore (lv' := [(4, .int (u0 + u1)), (0, .ref a0), (2, .int x2), (5, .int x5)]) hx hb dX1_hears_279 hl (by decide) rfl (fun ls hl => ?_)
  refine lv_iinc (v := (x5 + (1 : Int32))) (lv' := [(5, .int (x5 + (1 : Int32))), (4, .int (u0 + u1)), (0, .ref a0), (2, .int x2)]) hx hb dX1_hears_281 hl (k := 3) rfl rfl (by decide) rfl (fun ls hl => ?_)
  refine lv_goto (tgt := 95) hx hb dX1_hears_284 (by decide) ?_
  exact K95 _ _ _ _ _ _ _ _ _ _ hf hI (lv_sub hl [2, 3, 1, 0] rfl)
def f_X1_hears_261 (k95 : Nat → Int32 → Int32 → Int32 → gM (Int32 ⊕ gE)) (a0 : Nat) (x2 : Int32) (x4 : Int32) (x5 : Int32) : gM (Int32 ⊕ gE) :=
    gB (gFR a0 0 10) fun v101 =>
    gB (gAI v101 3 x5) fun v102 =>
    gIf (v102 = 0)
    (f_X1_hears_278 k95 a0 x2 x5 x4 (0 : Int32))
    (f_X1_hears_278 k95 a0 x2 x5 x4 (1 : Int32))
set_option maxHeartbeats 4000000 in
set_option maxRecDepth 100000 in
theorem b_X1_hears_261 {G : gG} {l : Launch} {p : Program} {e : Env} {s : State} {m : MethodId} {args : Array Value} {below : List Frame} {meth : Method} {c : Code} {h0 : g_H} {r : (Int32 ⊕ gE)} {h' : g_H} (X : gX G l yX1_hears.cls cX1_hears 8 (some .int) [] yX1_hears.name p s m args meth c) {k95 : Nat → Int32 → Int32 → Int32 → gM (Int32 ⊕ gE)} (K95 : w_X1_hears_95 G l p e s m args below meth c h0 r h' k95) : w_X1_hears_261 G l p e s m args below meth c h0 r h' (f_X1_hears_261 k95) := by
  have hx := X.1
  have hb := X.2.1
  have hown := X.2.2.2.1
  have hts := X.2.2.2.2.1
  intro a0 x2 x4 x5 h H locs cells slots ls hf hI hl
  unfold f_X1_hears_261 at hf
  refine lv_iload hx hb dX1_hears_261 (lv_at hl 2 rfl) ?_
  refine lv_aload_n hx hb dX1_hears_263 rfl (lv_at hl 0 rfl) ?_
  refine g_fr X hI hf fX1_10 q471 rfl rfl dX1_hears_264 (fun v101 hf => ?_)
  refine lv_iload hx hb dX1_hears_267 (lv_at hl 3 rfl) ?_
  refine g_ai3 X hI hf dX1_hears_269 (fun v102 hf => ?_)
  refine lv_if_eq (tgt := 277) hx hb dX1_hears_270 (by decide) (fun c270 => ?_) (fun c270 => ?_)
  · have hf := g_t c270 hf
    refine lv_iconst (v := (0 : Int32)) hx hb dX1_hears_277 (by decide) ?_
    exact b_X1_hears_278 X K95 _ _ _ _ _ _ _ _ _ _ _ hf hI (lv_sub hl [0, 1, 3] rfl)
  · have hf := g_f c270 hf
    refine lv_iconst (v := (1 : Int32)) hx hb dX1_hears_273 (by decide) ?_
    refine lv_goto (tgt := 278) hx hb dX1_hears_274 (by decide) ?_
    exact b_X1_hears_278 X K95 _ _ _ _ _ _ _ _ _ _ _ hf hI (lv_sub hl [0, 1, 3] rfl)
def f_X1_hears_187 (k95 : Nat → Int32 → Int32 → Int32 → gM (Int32 ⊕ gE)) : Nat → Nat → Int32 → Int32 → Int32 → Int32 → gM (Int32 ⊕ gE)
  | 0, _, _, _, _, _ => gFail
  | n + 1, a0, x2, x4, x5, x7 =>
    gIf (x2 ≤ x7)
    (f_X1_hears_261 k95 a0 x2 x4 x5)
    (gB (gFR a0 0 10) fun v101 =>
    gB (gAI v101 3 x5) fun v102 =>
    gIf (v102 = 0)
    (f_X1_hears_261 k95 a0 x2 x4 x5)
    (gB (gFR a0 0 10) fun v103 =>
    gB (gFR a0 0 9) fun v104 =>
    gB (gFR a0 0 0) fun v105 =>
    gB (gFR v105 1 0) fun v106 =>
    gB (gAI v106 1 x7) fun v107 =>
    gB (gAI v104 0 (((10 : Int32) * x5) + v107)) fun v108 =>
    gB (gFR a0 0 0) fun v109 =>
    gB (gFR v109 1 0) fun v110 =>
    gB (gAI v110 1 (x7 + (1 : Int32))) fun v111 =>
    gIf (v108 = (v111 &&& (255 : Int32)))
    (f_X1_hears_254 (f_X1_hears_187 k95 n) a0 x2 x4 x5 x7 v103 x5 (1 : Int32))
    (f_X1_hears_254 (f_X1_hears_187 k95 n) a0 x2 x4 x5 x7 v103 x5 (0 : Int32))))
set_option maxHeartbeats 4000000 in
set_option maxRecDepth 100000 in
theorem b_X1_hears_187 {G : gG} {l : Launch} {p : Program} {e : Env} {s : State} {m : MethodId} {args : Array Value} {below : List Frame} {meth : Method} {c : Code} {h0 : g_H} {r : (Int32 ⊕ gE)} {h' : g_H} (X : gX G l yX1_hears.cls cX1_hears 8 (some .int) [] yX1_hears.name p s m args meth c) {k95 : Nat → Int32 → Int32 → Int32 → gM (Int32 ⊕ gE)} (K95 : w_X1_hears_95 G l p e s m args below meth c h0 r h' k95) : ∀ n : Nat, w_X1_hears_187 G l p e s m args below meth c h0 r h' (f_X1_hears_187 k95 n) := by
  have hx := X.1
  have hb := X.2.1
  have hown := X.2.2.2.1
  have hts := X.2.2.2.2.1
  intro n
  induction n with
  | zero =>
    intro a0 x2 x4 x5 x7 h H locs cells slots ls hf hI hl
    exact (gFail_f hf).elim
  | succ n ih =>
    intro a0 x2 x4 x5 x7 h H locs cells slots ls hf hI hl
    rw [f_X1_hears_187] at hf
    refine lv_iload hx hb dX1_hears_187 (lv_at hl 4 rfl) ?_
    refine lv_iload_n hx hb dX1_hears_189 rfl (lv_at hl 1 rfl) ?_
    refine lv_icmp_ge (tgt := 261) hx hb dX1_hears_190 (by decide) (fun c190 => ?_) (fun c190 => ?_)
    · have hf := g_t c190 hf
      exact b_X1_hears_261 X K95 _ _ _ _ _ _ _ _ _ _ hf hI (lv_sub hl [0, 1, 2, 3] rfl)
    · have hf := g_f c190 hf
      refine lv_aload_n hx hb dX1_hears_193 rfl (lv_at hl 0 rfl) ?_
      refine g_fr X hI hf fX1_10 q471 rfl rfl dX1_hears_194 (fun v101 hf => ?_)
      refine lv_iload hx hb dX1_hears_197 (lv_at hl 3 rfl) ?_
      refine g_ai3 X hI hf dX1_hears_199 (fun v102 hf => ?_)
      refine lv_if_eq (tgt := 261) hx hb dX1_hears_200 (by decide) (fun c200 => ?_) (fun c200 => ?_)
      · have hf := g_t c200 hf
        exact b_X1_hears_261 X K95 _ _ _ _ _ _ _ _ _ _ hf hI (lv_sub hl [0, 1, 2, 3] rfl)
      · have hf := g_f c200 hf
        refine lv_aload_n hx hb dX1_hears_203 rfl (lv_at hl 0 rfl) ?_
        refine g_fr X hI hf fX1_10 q471 rfl rfl dX1_hears_204 (fun v103 hf => ?_)
        refine lv_iload hx hb dX1_hears_207 (lv_at hl 3 rfl) ?_
        refine lv_aload_n hx hb dX1_hears_209 rfl (lv_at hl 0 rfl) ?_
        refine g_fr X hI hf fX1_9 q470 rfl rfl dX1_hears_210 (fun v104 hf => ?_)
        refine lv_bipush (v := (10 : Int32)) hx hb dX1_hears_213 (by decide) ?_
        refine lv_iload hx hb dX1_hears_215 (lv_at hl 3 rfl) ?_
        refine lv_imul hx hb dX1_hears_217 ?_
        refine lv_aload_n hx hb dX1_hears_218 rfl (lv_at hl 0 rfl) ?_
        refine g_fr X hI hf fX1_0 q460 rfl rfl dX1_hears_219 (fun v105 hf => ?_)
        refine g_frN X hI hf fX2_0 q396 rfl rfl dX1_hears_222 (fun v106 hf => ?_)
        refine lv_iload hx hb dX1_hears_225 (lv_at hl 4 rfl) ?_
        refine g_ai1 X hI hf dX1_hears_227 (fun v107 hf => ?_)
        refine lv_iadd hx hb dX1_hears_228 ?_
        refine g_ai0 X hI hf dX1_hears_229 (fun v108 hf => ?_)
        refine lv_aload_n hx hb dX1_hears_230 rfl (lv_at hl 0 rfl) ?_
        refine g_fr X hI hf fX1_0 q460 rfl rfl dX1_hears_231 (fun v109 hf => ?_)
        refine g_frN X hI hf fX2_0 q396 rfl rfl dX1_hears_234 (fun v110 hf => ?_)
        refine lv_iload hx hb dX1_hears_237 (lv_at hl 4 rfl) ?_
        refine lv_iconst (v := (1 : Int32)) hx hb dX1_hears_239 (by decide) ?_
        refine lv_iadd hx hb dX1_hears_240 ?_
        refine g_ai1 X hI hf dX1_hears_241 (fun v111 hf => ?_)
        refine lv_sipush (v := (255 : Int32)) hx hb dX1_hears_242 (by decide) ?_
        refine lv_iand hx hb dX1_hears_245 ?_
        refine lv_icmp_ne (tgt := 253) hx hb dX1_hears_246 (by decide) (fun c246 => ?_) (fun c246 => ?_)
        · have hf := g_f c246 hf
          refine lv_iconst (v := (0 : Int32)) hx hb dX1_hears_253 (by decide) ?_
          exact b_X1_hears_254 X ih _ _ _ _ _ _ _ _ _ _ _ _ _ _ hf hI (lv_sub hl [0, 1, 2, 3, 4] rfl)
        · have hf := g_t c246 hf
          refine lv_iconst (v := (1 : Int32)) hx hb dX1_hears_249 (by decide) ?_
          refine lv_goto (tgt := 254) hx hb dX1_hears_250 (by decide) ?_
          exact b_X1_hears_254 X ih _ _ _ _ _ _ _ _ _ _ _ _ _ _ hf hI (lv_sub hl [0, 1, 2, 3, 4] rfl)
def f_X1_hears_176 (k95 : Nat → Int32 → Int32 → Int32 → gM (Int32 ⊕ gE)) (a0 : Nat) (x2 : Int32) (x4 : Int32) (x5 : Int32) : gM (Int32 ⊕ gE) :=
    gB (gFR a0 0 10) fun v101 =>
    gB (gSI v101 3 x5 (vp_nar .boolean (1 : Int32))) fun _ =>
    f_X1_hears_187 k95 gN a0 x2 x4 x5 (0 : Int32)
set_option maxHeartbeats 4000000 in
set_option maxRecDepth 100000 in
theorem b_X1_hears_176 {G : gG} {l : Launch} {p : Program} {e : Env} {s : State} {m : MethodId} {args : Array Value} {below : List Frame} {meth : Method} {c : Code} {h0 : g_H} {r : (Int32 ⊕ gE)} {h' : g_H} (X : gX G l yX1_hears.cls cX1_hears 8 (some .int) [] yX1_hears.name p s m args meth c) {k95 : Nat → Int32 → Int32 → Int32 → gM (Int32 ⊕ gE)} (K95 : w_X1_hears_95 G l p e s m args below meth c h0 r h' k95) : w_X1_hears_176 G l p e s m args below meth c h0 r h' (f_X1_hears_176 k95) := by
  have hx := X.1
  have hb := X.2.1
  have hown := X.2.2.2.1
  have hts := X.2.2.2.2.1
  intro a0 x2 x4 x5 h H locs cells slots ls hf hI hl
  unfold f_X1_hears_176 at hf
  refine lv_aload_n hx hb dX1_hears_176 rfl (lv_at hl 0 rfl) ?_
  refine g_fr X hI hf fX1_10 q471 rfl rfl dX1_hears_177 (fun v101 hf => ?_)
  refine lv_iload hx hb dX1_hears_180 (lv_at hl 3 rfl) ?_
  refine lv_iconst (v := (1 : Int32)) hx hb dX1_hears_182 (by decide) ?_
  refine g_si3 X hI hf dX1_hears_183 (fun h H locs hf hI => ?_)
  refine lv_iconst (v := (0 : Int32)) hx hb dX1_hears_184 (by decide) ?_
  refine lv_istore (lv' := [(7, .int (0 : Int32)), (0, .ref a0), (2, .int x2), (4, .int x4), (5, .int x5)]) hx hb dX1_hears_185 hl (by decide) rfl (fun ls hl => ?_)
  exact b_X1_hears_187 X K95 gN _ _ _ _ _ _ _ _ _ _ _ hf hI (lv_sub hl [1, 2, 3, 4, 0] rfl)
def f_X1_hears_117 (k95 : Nat → Int32 → Int32 → Int32 → gM (Int32 ⊕ gE)) : Nat → Nat → Int32 → Int32 → Int32 → Int32 → Int32 → gM (Int32 ⊕ gE)
  | 0, _, _, _, _, _, _ => gFail
  | n + 1, a0, x2, x4, x5, x6, x7 =>
    gIf ((10 : Int32) ≤ x7)
    (f_X1_hears_176 k95 a0 x2 x4 x5)
    (gB (gFR a0 0 9) fun v101 =>
    gB (gFR a0 0 1) fun v102 =>
    gB (gFR a0 0 6) fun v103 =>
    gB (gCk v102 2) fun _ =>
    gB (f_X3_frights v102 v103 x7 x6) fun r104 =>
    gB (gSI v101 0 (((10 : Int32) * x5) + x7) r104) fun _ =>
    gB (gFR a0 0 1) fun v105 =>
    gB (gFR a0 0 6) fun v106 =>
    gB (gCk v105 2) fun _ =>
    gB (f_X3_behind v105 v106 x7 x6 (1 : Int32)) fun r107 =>
    f_X1_hears_117 k95 n a0 x2 x4 x5 r107 (x7 + (1 : Int32)))
set_option maxHeartbeats 4000000 in
set_option maxRecDepth 100000 in
theorem b_X1_hears_117 {G : gG} {l : Launch} {p : Program} {e : Env} {s : State} {m : MethodId} {args : Array Value} {below : List Frame} {meth : Method} {c : Code} {h0 : g_H} {r : (Int32 ⊕ gE)} {h' : g_H} (X : gX G l yX1_hears.cls cX1_hears 8 (some .int) [] yX1_hears.name p s m args meth c) {k95 : Nat → Int32 → Int32 → Int32 → gM (Int32 ⊕ gE)} (K95 : w_X1_hears_95 G l p e s m args below meth c h0 r h' k95) : ∀ n : Nat, w_X1_hears_117 G l p e s m args below meth c h0 r h' (f_X1_hears_117 k95 n) := by
  have hx := X.1
  have hb := X.2.1
  have hown := X.2.2.2.1
  have hts := X.2.2.2.2.1
  intro n
  induction n with
  | zero =>
    intro a0 x2 x4 x5 x6 x7 h H locs cells slots ls hf hI hl
    exact (gFail_f hf).elim
  | succ n ih =>
    intro a0 x2 x4 x5 x6 x7 h H locs cells slots ls hf hI hl
    rw [f_X1_hears_117] at hf
    refine lv_iload hx hb dX1_hears_117 (lv_at hl 5 rfl) ?_
    refine lv_bipush (v := (10 : Int32)) hx hb dX1_hears_119 (by decide) ?_
    refine lv_icmp_ge (tgt := 176) hx hb dX1_hears_121 (by decide) (fun c121 => ?_) (fun c121 => ?_)
    · have hf := g_t c121 hf
      exact b_X1_hears_176 X K95 _ _ _ _ _ _ _ _ _ _ hf hI (lv_sub hl [0, 1, 2, 3] rfl)
    · have hf := g_f c121 hf
      refine lv_aload_n hx hb dX1_hears_124 rfl (lv_at hl 0 rfl) ?_
      refine g_fr X hI hf fX1_9 q470 rfl rfl dX1_hears_125 (fun v101 hf => ?_)
      refine lv_bipush (v := (10 : Int32)) hx hb dX1_hears_128 (by decide) ?_
      refine lv_iload hx hb dX1_hears_130 (lv_at hl 3 rfl) ?_
      refine lv_imul hx hb dX1_hears_132 ?_
      refine lv_iload hx hb dX1_hears_133 (lv_at hl 5 rfl) ?_
      refine lv_iadd hx hb dX1_hears_135 ?_
      refine lv_aload_n hx hb dX1_hears_136 rfl (lv_at hl 0 rfl) ?_
      refine g_fr X hI hf fX1_1 q461 rfl rfl dX1_hears_137 (fun v102 hf => ?_)
      refine lv_aload_n hx hb dX1_hears_140 rfl (lv_at hl 0 rfl) ?_
      refine g_fr X hI hf fX1_6 q467 rfl rfl dX1_hears_141 (fun v103 hf => ?_)
      refine lv_iload hx hb dX1_hears_144 (lv_at hl 5 rfl) ?_
      refine lv_iload hx hb dX1_hears_146 (lv_at hl 4 rfl) ?_
      obtain ⟨hs, hf⟩ := gCk_b hf
      refine g_cBI hI hf (fun v9 h9 e9 l9 l9' => g_rV X hI l9 l9' ⟨Nat.le_refl _, Nat.le_refl _⟩ (As := [.ref v103, .int x7, .int x6]) (m_X3_frights X.2.2.2.2.2.2.2.2.2.2.1 e9) ydX3_frights hs rfl rfl q1203 q567 q568 q123 q569 rfl (Nat.le_of_ble_eq_true rfl) (Nat.le_of_ble_eq_true rfl) hl.1 rfl (Nat.le_of_ble_eq_true rfl) dX1_hears_148) (fun r104 h H locs cells slots hf hI => ?_)
      refine g_si0 X hI hf dX1_hears_151 (fun h H locs hf hI => ?_)
      refine lv_aload_n hx hb dX1_hears_152 rfl (lv_at hl 0 rfl) ?_
      refine g_fr X hI hf fX1_1 q461 rfl rfl dX1_hears_153 (fun v105 hf => ?_)
      refine lv_aload_n hx hb dX1_hears_156 rfl (lv_at hl 0 rfl) ?_
      refine g_fr X hI hf fX1_6 q467 rfl rfl dX1_hears_157 (fun v106 hf => ?_)
      refine lv_iload hx hb dX1_hears_160 (lv_at hl 5 rfl) ?_
      refine lv_iload hx hb dX1_hears_162 (lv_at hl 4 rfl) ?_
      refine lv_iconst (v := (1 : Int32)) hx hb dX1_hears_164 (by decide) ?_
      obtain ⟨hs, hf⟩ := gCk_b hf
      refine g_cBI hI hf (fun v9 h9 e9 l9 l9' => g_rV X hI l9 l9' ⟨Nat.le_refl _, Nat.le_refl _⟩ (As := [.ref v106, .int x7, .int x6, .int (1 : Int32)]) (m_X3_behind X.2.2.2.2.2.2.2.2.2.2.1 e9) ydX3_behind hs rfl rfl q717 q560 q561 q123 q562 rfl (Nat.le_of_ble_eq_true rfl) (Nat.le_of_ble_eq_true rfl) hl.1 rfl (Nat.le_of_ble_eq_true rfl) dX1_hears_165) (fun r107 h H locs cells slots hf hI => ?_)
      refine lv_istore (lv' := [(6, .int r107), (0, .ref a0), (2, .int x2), (4, .int x4), (5, .int x5), (7, .int x7)]) hx hb dX1_hears_168 hl (by decide) rfl (fun ls hl => ?_)
      refine lv_iinc (v := (x7 + (1 : Int32))) (lv' := [(7, .int (x7 + (1 : Int32))), (6, .int r107), (0, .ref a0), (2, .int x2), (4, .int x4), (5, .int x5)]) hx hb dX1_hears_170 hl (k := 5) rfl rfl (by decide) rfl (fun ls hl => ?_)
      refine lv_goto (tgt := 117) hx hb dX1_hears_173 (by decide) ?_
      exact ih _ _ _ _ _ _ _ _ _ _ _ _ hf hI (lv_sub hl [2, 3, 4, 5, 1, 0] rfl)
def f_X1_hears_287 (x4 : Int32) : gM (Int32 ⊕ gE) :=
    (gRet (.inl x4))
set_option maxHeartbeats 4000000 in
set_option maxRecDepth 100000 in
theorem b_X1_hears_287 {G : gG} {l : Launch} {p : Program} {e : Env} {s : State} {m : MethodId} {args : Array Value} {below : List Frame} {meth : Method} {c : Code} {h0 : g_H} {r : (Int32 ⊕ gE)} {h' : g_H} (X : gX G l yX1_hears.cls cX1_hears 8 (some .int) [] yX1_hears.name p s m args meth c) : w_X1_hears_287 G l p e s m args below meth c h0 r h' (f_X1_hears_287) := by
  have hx := X.1
  have hb := X.2.1
  have hown := X.2.2.2.1
  have hts := X.2.2.2.2.1
  intro x4 h H locs cells slots ls hf hI hl
  unfold f_X1_hears_287 at hf
  refine lv_iload hx hb dX1_hears_287 (lv_at hl 0 rfl) ?_
  cases gRet_e hf
  exact g_retI X hI rfl dX1_hears_289
def f_X1_hears_95 : Nat → Nat → Int32 → Int32 → Int32 → gM (Int32 ⊕ gE)
  | 0, _, _, _, _ => gFail
  | n + 1, a0, x2, x4, x5 =>
    gIf ((64 : Int32) ≤ x5)
    (f_X1_hears_287 x4)
    (gB (gFR a0 0 6) fun v101 =>
    gB (gPI v101 4 0 x5) fun _ =>
    f_X1_hears_117 (f_X1_hears_95 n) gN a0 x2 x4 x5 (0 : Int32) (0 : Int32))
set_option maxHeartbeats 4000000 in
set_option maxRecDepth 100000 in
theorem b_X1_hears_95 {G : gG} {l : Launch} {p : Program} {e : Env} {s : State} {m : MethodId} {args : Array Value} {below : List Frame} {meth : Method} {c : Code} {h0 : g_H} {r : (Int32 ⊕ gE)} {h' : g_H} (X : gX G l yX1_hears.cls cX1_hears 8 (some .int) [] yX1_hears.name p s m args meth c) : ∀ n : Nat, w_X1_hears_95 G l p e s m args below meth c h0 r h' (f_X1_hears_95 n) := by
  have hx := X.1
  have hb := X.2.1
  have hown := X.2.2.2.1
  have hts := X.2.2.2.2.1
  intro n
  induction n with
  | zero =>
    intro a0 x2 x4 x5 h H locs cells slots ls hf hI hl
    exact (gFail_f hf).elim
  | succ n ih =>
    intro a0 x2 x4 x5 h H locs cells slots ls hf hI hl
    rw [f_X1_hears_95] at hf
    refine lv_iload hx hb dX1_hears_95 (lv_at hl 3 rfl) ?_
    refine lv_bipush (v := (64 : Int32)) hx hb dX1_hears_97 (by decide) ?_
    refine lv_icmp_ge (tgt := 287) hx hb dX1_hears_99 (by decide) (fun c99 => ?_) (fun c99 => ?_)
    · have hf := g_t c99 hf
      exact b_X1_hears_287 X _ _ _ _ _ _ _ hf hI (lv_sub hl [2] rfl)
    · have hf := g_f c99 hf
      refine lv_aload_n hx hb dX1_hears_102 rfl (lv_at hl 0 rfl) ?_
      refine g_fr X hI hf fX1_6 q467 rfl rfl dX1_hears_103 (fun v101 hf => ?_)
      refine lv_iload hx hb dX1_hears_106 (lv_at hl 3 rfl) ?_
      refine g_piN X hI hf fX5_0 q230 rfl dX1_hears_108 (fun h H locs hf hI => ?_)
      refine lv_iconst (v := (0 : Int32)) hx hb dX1_hears_111 (by decide) ?_
      refine lv_istore (lv' := [(6, .int (0 : Int32)), (0, .ref a0), (2, .int x2), (4, .int x4), (5, .int x5)]) hx hb dX1_hears_112 hl (by decide) rfl (fun ls hl => ?_)
      refine lv_iconst (v := (0 : Int32)) hx hb dX1_hears_114 (by decide) ?_
      refine lv_istore (lv' := [(7, .int (0 : Int32)), (6, .int (0 : Int32)), (0, .ref a0), (2, .int x2), (4, .int x4), (5, .int x5)]) hx hb dX1_hears_115 hl (by decide) rfl (fun ls hl => ?_)
      exact b_X1_hears_117 X ih gN _ _ _ _ _ _ _ _ _ _ _ _ hf hI (lv_sub hl [2, 3, 4, 5, 1, 0] rfl)
def f_X1_hears_77 (a0 : Nat) (x1 : Int32) (x2 : Int32) (x3 : Int32) : gM (Int32 ⊕ gE) :=
    gT (f_X1_must x3) fun _ =>
    gB (gFR a0 0 6) fun v102 =>
    gB (gPI v102 4 1 x1) fun _ =>
    f_X1_hears_95 gN a0 x2 (0 : Int32) (0 : Int32)
set_option maxHeartbeats 4000000 in
set_option maxRecDepth 100000 in
theorem b_X1_hears_77 {G : gG} {l : Launch} {p : Program} {e : Env} {s : State} {m : MethodId} {args : Array Value} {below : List Frame} {meth : Method} {c : Code} {h0 : g_H} {r : (Int32 ⊕ gE)} {h' : g_H} (X : gX G l yX1_hears.cls cX1_hears 8 (some .int) [] yX1_hears.name p s m args meth c) : w_X1_hears_77 G l p e s m args below meth c h0 r h' (f_X1_hears_77) := by
  have hx := X.1
  have hb := X.2.1
  have hown := X.2.2.2.1
  have hts := X.2.2.2.2.1
  intro a0 x1 x2 x3 h H locs cells slots ls hf hI hl
  unfold f_X1_hears_77 at hf
  refine lv_iload_n hx hb dX1_hears_77 rfl (lv_at hl 3 rfl) ?_
  refine g_cTU X hI (by decide) hf (fun v9 h9 e9 l9 l9' => g_rS (b := 0) X hI l9 l9' ⟨Nat.le_refl _, Nat.le_refl _⟩ (As := [.int x3]) (m_X1_must X.2.2.2.2.2.2.2.2.2.2.1 e9) ydX1_must q1200 q1201 q121 q1202 rfl (Nat.le_of_ble_eq_true rfl) (Nat.le_of_ble_eq_true rfl) hl.1 rfl (Nat.le_of_ble_eq_true rfl) dX1_hears_78) (fun r101 h H locs cells slots hf hI => ?_)
  refine lv_aload_n hx hb dX1_hears_81 rfl (lv_at hl 0 rfl) ?_
  refine g_fr X hI hf fX1_6 q467 rfl rfl dX1_hears_82 (fun v102 hf => ?_)
  refine lv_iload_n hx hb dX1_hears_85 rfl (lv_at hl 1 rfl) ?_
  refine g_piN X hI hf fX5_1 q235 rfl dX1_hears_86 (fun h H locs hf hI => ?_)
  refine lv_iconst (v := (0 : Int32)) hx hb dX1_hears_89 (by decide) ?_
  refine lv_istore (lv' := [(4, .int (0 : Int32)), (0, .ref a0), (1, .int x1), (2, .int x2), (3, .int x3)]) hx hb dX1_hears_90 hl (by decide) rfl (fun ls hl => ?_)
  refine lv_iconst (v := (0 : Int32)) hx hb dX1_hears_92 (by decide) ?_
  refine lv_istore (lv' := [(5, .int (0 : Int32)), (4, .int (0 : Int32)), (0, .ref a0), (1, .int x1), (2, .int x2), (3, .int x3)]) hx hb dX1_hears_93 hl (by decide) rfl (fun ls hl => ?_)
  exact b_X1_hears_95 X gN _ _ _ _ _ _ _ _ _ _ hf hI (lv_sub hl [2, 4, 1, 0] rfl)
def f_X1_hears_36 : Nat → Nat → Int32 → Int32 → Int32 → Int32 → gM (Int32 ⊕ gE)
  | 0, _, _, _, _, _ => gFail
  | n + 1, a0, x1, x2, x3, x4 =>
    gIf (x2 ≤ x4)
    (f_X1_hears_77 a0 x1 x2 x3)
    (gIf (x3 = 0)
    (f_X1_hears_77 a0 x1 x2 x3)
    (gB (gFR a0 0 0) fun v101 =>
    gB (gFR v101 1 0) fun v102 =>
    gB (gAI v102 1 x4) fun v103 =>
    gIf ((10 : Int32) ≤ (v103 &&& (255 : Int32)))
    (f_X1_hears_70 (f_X1_hears_36 n) a0 x1 x2 x4 (0 : Int32))
    (f_X1_hears_70 (f_X1_hears_36 n) a0 x1 x2 x4 (1 : Int32))))
set_option maxHeartbeats 4000000 in
set_option maxRecDepth 100000 in
theorem b_X1_hears_36 {G : gG} {l : Launch} {p : Program} {e : Env} {s : State} {m : MethodId} {args : Array Value} {below : List Frame} {meth : Method} {c : Code} {h0 : g_H} {r : (Int32 ⊕ gE)} {h' : g_H} (X : gX G l yX1_hears.cls cX1_hears 8 (some .int) [] yX1_hears.name p s m args meth c) : ∀ n : Nat, w_X1_hears_36 G l p e s m args below meth c h0 r h' (f_X1_hears_36 n) := by
  have hx := X.1
  have hb := X.2.1
  have hown := X.2.2.2.1
  have hts := X.2.2.2.2.1
  intro n
  induction n with
  | zero =>
    intro a0 x1 x2 x3 x4 h H locs cells slots ls hf hI hl
    exact (gFail_f hf).elim
  | succ n ih =>
    intro a0 x1 x2 x3 x4 h H locs cells slots ls hf hI hl
    rw [f_X1_hears_36] at hf
    refine lv_iload hx hb dX1_hears_36 (lv_at hl 4 rfl) ?_
    refine lv_iload_n hx hb dX1_hears_38 rfl (lv_at hl 2 rfl) ?_
    refine lv_icmp_ge (tgt := 77) hx hb dX1_hears_39 (by decide) (fun c39 => ?_) (fun c39 => ?_)
    · have hf := g_t c39 hf
      exact b_X1_hears_77 X _ _ _ _ _ _ _ _ _ _ hf hI (lv_sub hl [0, 1, 2, 3] rfl)
    · have hf := g_f c39 hf
      refine lv_iload_n hx hb dX1_hears_42 rfl (lv_at hl 3 rfl) ?_
      refine lv_if_eq (tgt := 77) hx hb dX1_hears_43 (by decide) (fun c43 => ?_) (fun c43 => ?_)
      · have hf := g_t c43 hf
        exact b_X1_hears_77 X _ _ _ _ _ _ _ _ _ _ hf hI (lv_sub hl [0, 1, 2, 3] rfl)
      · have hf := g_f c43 hf
        refine lv_aload_n hx hb dX1_hears_46 rfl (lv_at hl 0 rfl) ?_
        refine g_fr X hI hf fX1_0 q460 rfl rfl dX1_hears_47 (fun v101 hf => ?_)
        refine g_frN X hI hf fX2_0 q396 rfl rfl dX1_hears_50 (fun v102 hf => ?_)
        refine lv_iload hx hb dX1_hears_53 (lv_at hl 4 rfl) ?_
        refine g_ai1 X hI hf dX1_hears_55 (fun v103 hf => ?_)
        refine lv_sipush (v := (255 : Int32)) hx hb dX1_hears_56 (by decide) ?_
        refine lv_iand hx hb dX1_hears_59 ?_
        refine lv_bipush (v := (10 : Int32)) hx hb dX1_hears_60 (by decide) ?_
        refine lv_icmp_ge (tgt := 69) hx hb dX1_hears_62 (by decide) (fun c62 => ?_) (fun c62 => ?_)
        · have hf := g_t c62 hf
          refine lv_iconst (v := (0 : Int32)) hx hb dX1_hears_69 (by decide) ?_
          exact b_X1_hears_70 X ih _ _ _ _ _ _ _ _ _ _ _ hf hI (lv_sub hl [0, 1, 2, 4] rfl)
        · have hf := g_f c62 hf
          refine lv_iconst (v := (1 : Int32)) hx hb dX1_hears_65 (by decide) ?_
          refine lv_goto (tgt := 70) hx hb dX1_hears_66 (by decide) ?_
          exact b_X1_hears_70 X ih _ _ _ _ _ _ _ _ _ _ _ hf hI (lv_sub hl [0, 1, 2, 4] rfl)
def f_X1_hears_32 (a0 : Nat) (x1 : Int32) (x2 : Int32) (u0 : Int32) : gM (Int32 ⊕ gE) :=
    f_X1_hears_36 gN a0 x1 x2 u0 (0 : Int32)
set_option maxHeartbeats 4000000 in
set_option maxRecDepth 100000 in
theorem b_X1_hears_32 {G : gG} {l : Launch} {p : Program} {e : Env} {s : State} {m : MethodId} {args : Array Value} {below : List Frame} {meth : Method} {c : Code} {h0 : g_H} {r : (Int32 ⊕ gE)} {h' : g_H} (X : gX G l yX1_hears.cls cX1_hears 8 (some .int) [] yX1_hears.name p s m args meth c) : w_X1_hears_32 G l p e s m args below meth c h0 r h' (f_X1_hears_32) := by
  have hx := X.1
  have hb := X.2.1
  have hown := X.2.2.2.1
  have hts := X.2.2.2.2.1
  intro a0 x1 x2 u0 h H locs cells slots ls hf hI hl
  unfold f_X1_hears_32 at hf
  refine lv_istore_n (lv' := [(3, .int u0), (0, .ref a0), (1, .int x1), (2, .int x2)]) hx hb dX1_hears_32 rfl hl (by decide) rfl (fun ls hl => ?_)
  refine lv_iconst (v := (0 : Int32)) hx hb dX1_hears_33 (by decide) ?_
  refine lv_istore (lv' := [(4, .int (0 : Int32)), (3, .int u0), (0, .ref a0), (1, .int x1), (2, .int x2)]) hx hb dX1_hears_34 hl (by decide) rfl (fun ls hl => ?_)
  exact b_X1_hears_36 X gN _ _ _ _ _ _ _ _ _ _ _ hf hI (lv_sub hl [2, 3, 4, 1, 0] rfl)
def f_X1_hears_31 (a0 : Nat) (x1 : Int32) (x2 : Int32) : gM (Int32 ⊕ gE) :=
    f_X1_hears_32 a0 x1 x2 (0 : Int32)
set_option maxHeartbeats 4000000 in
set_option maxRecDepth 100000 in
theorem b_X1_hears_31 {G : gG} {l : Launch} {p : Program} {e : Env} {s : State} {m : MethodId} {args : Array Value} {below : List Frame} {meth : Method} {c : Code} {h0 : g_H} {r : (Int32 ⊕ gE)} {h' : g_H} (X : gX G l yX1_hears.cls cX1_hears 8 (some .int) [] yX1_hears.name p s m args meth c) : w_X1_hears_31 G l p e s m args below meth c h0 r h' (f_X1_hears_31) := by
  have hx := X.1
  have hb := X.2.1
  have hown := X.2.2.2.1
  have hts := X.2.2.2.2.1
  intro a0 x1 x2 h H locs cells slots ls hf hI hl
  unfold f_X1_hears_31 at hf
  refine lv_iconst (v := (0 : Int32)) hx hb dX1_hears_31 (by decide) ?_
  exact b_X1_hears_32 X _ _ _ _ _ _ _ _ _ _ hf hI (lv_sub hl [0, 1, 2] rfl)
def f_X1_hears (a0 : Nat) (x1 : Int32) : gM (Int32 ⊕ gE) :=
    gB (gCk a0 0) fun _ =>
    gB (f_X1_took a0) fun r1 =>
    gIf ((r1 - r1 / (2 : Int32) * (2 : Int32)) = 0)
    (gIf ((40 : Int32) < r1)
    (f_X1_hears_31 a0 x1 r1)
    (gB (f_X1_isIn x1 (1 : Int32) (60 : Int32)) fun r2 =>
    gIf (r2 = 0)
    (f_X1_hears_31 a0 x1 r1)
    (f_X1_hears_32 a0 x1 r1 (1 : Int32))))
    (f_X1_hears_31 a0 x1 r1)
set_option maxHeartbeats 4000000 in
set_option maxRecDepth 100000 in
theorem m_X1_hears {G : gG} {l : Launch} (hfl : l.stackTraces = false) {a0 : Nat} {x1 : Int32} {h h' : g_H} {r : (Int32 ⊕ gE)} (hf : (f_X1_hears a0 x1).1 h = some (r, h')) : gMet G l yX1_hears (Cond.code yX1_hears cX1_hears 8 (some .int)) 101 1866 [.ref a0, .int x1] h (g_w g_wI r) h' := by
  refine g_head hfl ((f_X1_hears a0 x1).2 h r h' hf) (plainFor_of_name (by decide)) (Nat.le_of_ble_eq_true rfl) (fun p e s m below meth c H locs cells slots ls X hI hl9 => ?_)
  have hl : lv_has ls 8 [(0, .ref a0), (1, .int x1)] := hl9
  have hx := X.1
  have hb := X.2.1
  have hown := X.2.2.2.1
  have hts := X.2.2.2.2.1
  unfold f_X1_hears at hf
  refine lv_aload_n hx hb dX1_hears_0 rfl (lv_at hl 0 rfl) ?_
  obtain ⟨hs, hf⟩ := gCk_b hf
  refine g_cBI hI hf (fun v9 h9 e9 l9 l9' => g_rV X hI l9 l9' ⟨Nat.le_refl _, Nat.le_refl _⟩ (As := []) (m_X1_took X.2.2.2.2.2.2.2.2.2.2.1 e9) ydX1_took hs rfl rfl q792 q794 qs15 q121 q795 rfl (Nat.le_of_ble_eq_true rfl) (Nat.le_of_ble_eq_true rfl) hl.1 rfl (Nat.le_of_ble_eq_true rfl) dX1_hears_1) (fun r1 h H locs cells slots hf hI => ?_)
  refine lv_istore_n (lv' := [(2, .int r1), (0, .ref a0), (1, .int x1)]) hx hb dX1_hears_4 rfl hl (by decide) rfl (fun ls hl => ?_)
  refine lv_iload_n hx hb dX1_hears_5 rfl (lv_at hl 0 rfl) ?_
  refine lv_iconst (v := (2 : Int32)) hx hb dX1_hears_6 (by decide) ?_
  refine lv_irem hx hb dX1_hears_7 (by decide) ?_
  refine lv_if_ne (tgt := 31) hx hb dX1_hears_8 (by decide) (fun c8 => ?_) (fun c8 => ?_)
  · have hf := g_f c8 hf
    exact b_X1_hears_31 X _ _ _ _ _ _ _ _ _ hf hI (lv_sub hl [1, 2, 0] rfl)
  · have hf := g_t c8 hf
    refine lv_iload_n hx hb dX1_hears_11 rfl (lv_at hl 0 rfl) ?_
    refine lv_bipush (v := (40 : Int32)) hx hb dX1_hears_12 (by decide) ?_
    refine lv_icmp_gt (tgt := 31) hx hb dX1_hears_14 (by decide) (fun c14 => ?_) (fun c14 => ?_)
    · have hf := g_t c14 hf
      exact b_X1_hears_31 X _ _ _ _ _ _ _ _ _ hf hI (lv_sub hl [1, 2, 0] rfl)
    · have hf := g_f c14 hf
      refine lv_iload_n hx hb dX1_hears_17 rfl (lv_at hl 2 rfl) ?_
      refine lv_iconst (v := (1 : Int32)) hx hb dX1_hears_18 (by decide) ?_
      refine lv_bipush (v := (60 : Int32)) hx hb dX1_hears_19 (by decide) ?_
      refine g_cBI hI hf (fun v9 h9 e9 l9 l9' => g_rS (b := 0) X hI l9 l9' ⟨Nat.le_refl _, Nat.le_refl _⟩ (As := [.int x1, .int (1 : Int32), .int (60 : Int32)]) (m_X1_isIn X.2.2.2.2.2.2.2.2.2.2.1 e9) ydX1_isIn q532 q533 q121 q534 rfl (Nat.le_of_ble_eq_true rfl) (Nat.le_of_ble_eq_true rfl) hl.1 rfl (Nat.le_of_ble_eq_true rfl) dX1_hears_21) (fun r2 h H locs cells slots hf hI => ?_)
      refine lv_if_eq (tgt := 31) hx hb dX1_hears_24 (by decide) (fun c24 => ?_) (fun c24 => ?_)
      · have hf := g_t c24 hf
        exact b_X1_hears_31 X _ _ _ _ _ _ _ _ _ hf hI (lv_sub hl [1, 2, 0] rfl)
      · have hf := g_f c24 hf
        refine lv_iconst (v := (1 : Int32)) hx hb dX1_hears_27 (by decide) ?_
        refine lv_goto (tgt := 32) hx hb dX1_hears_28 (by decide) ?_
        exact b_X1_hears_32 X _ _ _ _ _ _ _ _ _ _ hf hI (lv_sub hl [1, 2, 0] rfl)
/-! X1_part -/
abbrev w_X1_part_75 (G : gG) (l : Launch) (p : Program) (e : Env) (s : State) (m : MethodId) (args : Array Value) (below : List Frame) (meth : Method) (c : Code) (h0 : g_H) (r : Int32) (h' : g_H) (k : Nat → Int32 → Int32 → Int32 → Int32 → Int32 → Int32 → gM Int32) : Prop := ∀ (a0 : Nat) (x1 : Int32) (x2 : Int32) (x3 : Int32) (x5 : Int32) (u0 : Int32) (u1 : Int32) (h : g_H) (H : Heap) (locs : List Loc) (cells slots : Nat) (ls : Array Slot), (k a0 x1 x2 x3 x5 u0 u1).1 h = some (r, h') → gI G h0 h H locs cells slots → lv_has ls 6 [(0, .ref a0), (1, .int x1), (2, .int x2), (3, .int x3), (5, .int x5)] → W p l e (g_rm 2 41 h0 h') s m args below meth c H locs cells slots (gQ G below args s h0 h' (.inl (g_wI r))) (F0 m 75 ls [.int u1, .int u0])
abbrev w_X1_part_74 (G : gG) (l : Launch) (p : Program) (e : Env) (s : State) (m : MethodId) (args : Array Value) (below : List Frame) (meth : Method) (c : Code) (h0 : g_H) (r : Int32) (h' : g_H) (k : Nat → Int32 → Int32 → Int32 → Int32 → Int32 → gM Int32) : Prop := ∀ (a0 : Nat) (x1 : Int32) (x2 : Int32) (x3 : Int32) (x5 : Int32) (u0 : Int32) (h : g_H) (H : Heap) (locs : List Loc) (cells slots : Nat) (ls : Array Slot), (k a0 x1 x2 x3 x5 u0).1 h = some (r, h') → gI G h0 h H locs cells slots → lv_has ls 6 [(0, .ref a0), (1, .int x1), (2, .int x2), (3, .int x3), (5, .int x5)] → W p l e (g_rm 2 41 h0 h') s m args below meth c H locs cells slots (gQ G below args s h0 h' (.inl (g_wI r))) (F0 m 74 ls [.int u0])
abbrev w_X1_part_84 (G : gG) (l : Launch) (p : Program) (e : Env) (s : State) (m : MethodId) (args : Array Value) (below : List Frame) (meth : Method) (c : Code) (h0 : g_H) (r : Int32) (h' : g_H) (k : Nat → Int32 → Int32 → Int32 → Int32 → gM Int32) : Prop := ∀ (a0 : Nat) (x1 : Int32) (x2 : Int32) (x3 : Int32) (x4 : Int32) (h : g_H) (H : Heap) (locs : List Loc) (cells slots : Nat) (ls : Array Slot), (k a0 x1 x2 x3 x4).1 h = some (r, h') → gI G h0 h H locs cells slots → lv_has ls 6 [(0, .ref a0), (1, .int x1), (2, .int x2), (3, .int x3), (4, .int x4)] → W p l e (g_rm 2 41 h0 h') s m args below meth c H locs cells slots (gQ G below args s h0 h' (.inl (g_wI r))) (F0 m 84 ls [])
abbrev w_X1_part_16 (G : gG) (l : Launch) (p : Program) (e : Env) (s : State) (m : MethodId) (args : Array Value) (below : List Frame) (meth : Method) (c : Code) (h0 : g_H) (r : Int32) (h' : g_H) (k : Nat → Int32 → Int32 → Int32 → Int32 → Int32 → gM Int32) : Prop := ∀ (a0 : Nat) (x1 : Int32) (x2 : Int32) (x3 : Int32) (x4 : Int32) (x5 : Int32) (h : g_H) (H : Heap) (locs : List Loc) (cells slots : Nat) (ls : Array Slot), (k a0 x1 x2 x3 x4 x5).1 h = some (r, h') → gI G h0 h H locs cells slots → lv_has ls 6 [(0, .ref a0), (1, .int x1), (2, .int x2), (3, .int x3), (4, .int x4), (5, .int x5)] → W p l e (g_rm 2 41 h0 h') s m args below meth c H locs cells slots (gQ G below args s h0 h' (.inl (g_wI r))) (F0 m 16 ls [])
abbrev w_X1_part_97 (G : gG) (l : Launch) (p : Program) (e : Env) (s : State) (m : MethodId) (args : Array Value) (below : List Frame) (meth : Method) (c : Code) (h0 : g_H) (r : Int32) (h' : g_H) (k : Int32 → gM Int32) : Prop := ∀ (x2 : Int32) (h : g_H) (H : Heap) (locs : List Loc) (cells slots : Nat) (ls : Array Slot), (k x2).1 h = some (r, h') → gI G h0 h H locs cells slots → lv_has ls 6 [(2, .int x2)] → W p l e (g_rm 2 41 h0 h') s m args below meth c H locs cells slots (gQ G below args s h0 h' (.inl (g_wI r))) (F0 m 97 ls [])
abbrev w_X1_part_4 (G : gG) (l : Launch) (p : Program) (e : Env) (s : State) (m : MethodId) (args : Array Value) (below : List Frame) (meth : Method) (c : Code) (h0 : g_H) (r : Int32) (h' : g_H) (k : Nat → Int32 → Int32 → Int32 → gM Int32) : Prop := ∀ (a0 : Nat) (x1 : Int32) (x2 : Int32) (x3 : Int32) (h : g_H) (H : Heap) (locs : List Loc) (cells slots : Nat) (ls : Array Slot), (k a0 x1 x2 x3).1 h = some (r, h') → gI G h0 h H locs cells slots → lv_has ls 6 [(0, .ref a0), (1, .int x1), (2, .int x2), (3, .int x3)] → W p l e (g_rm 2 41 h0 h') s m args below meth c H locs cells slots (gQ G below args s h0 h' (.inl (g_wI r))) (F0 m 4 ls [])
def f_X1_part_75 (k16 : Nat → Int32 → Int32 → Int32 → Int32 → Int32 → gM Int32) (a0 : Nat) (x1 : Int32) (x2 : Int32) (x3 : Int32) (x5 : Int32) (u0 : Int32) (u1 : Int32) : gM Int32 :=
    k16 a0 x1 x2 x3 (u0 + u1) (x5 + (1 : Int32))
set_option maxHeartbeats 4000000 in
set_option maxRecDepth 100000 in
theorem b_X1_part_75 {G : gG} {l : Launch} {p : Program} {e : Env} {s : State} {m : MethodId} {args : Array Value} {below : List Frame} {meth : Method} {c : Code} {h0 : g_H} {r : Int32} {h' : g_H} (X : gX G l yX1_part.cls cX1_part 6 (some .int) [] yX1_part.name p s m args meth c) {k16 : Nat → Int32 → Int32 → Int32 → Int32 → Int32 → gM Int32} (K16 : w_X1_part_16 G l p e s m args below meth c h0 r h' k16) : w_X1_part_75 G l p e s m args below meth c h0 r h' (f_X1_part_75 k16) := by
  have hx := X.1
  have hb := X.2.1
  have hown := X.2.2.2.1
  have hts := X.2.2.2.2.1
  intro a0 x1 x2 x3 x5 u0 u1 h H locs cells slots ls hf hI hl
  unfold f_X1_part_75 at hf
  refine lv_iadd hx hb dX1_part_75 ?_
  refine lv_istore (lv' := [(4, .int (u0 + u1)), (0, .ref a0), (1, .int x1), (2, .int x2), (3, .int x3), (5, .int x5)]) hx hb dX1_part_76 hl (by decide) rfl (fun ls hl => ?_)
  refine lv_iinc (v := (x5 + (1 : Int32))) (lv' := [(5, .int (x5 + (1 : Int32))), (4, .int (u0 + u1)), (0, .ref a0), (1, .int x1), (2, .int x2), (3, .int x3)]) hx hb dX1_part_78 hl (k := 5) rfl rfl (by decide) rfl (fun ls hl => ?_)
  refine lv_goto (tgt := 16) hx hb dX1_part_81 (by decide) ?_
  exact K16 _ _ _ _ _ _ _ _ _ _ _ _ hf hI (lv_sub hl [2, 3, 4, 5, 1, 0] rfl)
def f_X1_part_74 (k16 : Nat → Int32 → Int32 → Int32 → Int32 → Int32 → gM Int32) (a0 : Nat) (x1 : Int32) (x2 : Int32) (x3 : Int32) (x5 : Int32) (u0 : Int32) : gM Int32 :=
    f_X1_part_75 k16 a0 x1 x2 x3 x5 u0 (0 : Int32)
set_option maxHeartbeats 4000000 in
set_option maxRecDepth 100000 in
theorem b_X1_part_74 {G : gG} {l : Launch} {p : Program} {e : Env} {s : State} {m : MethodId} {args : Array Value} {below : List Frame} {meth : Method} {c : Code} {h0 : g_H} {r : Int32} {h' : g_H} (X : gX G l yX1_part.cls cX1_part 6 (some .int) [] yX1_part.name p s m args meth c) {k16 : Nat → Int32 → Int32 → Int32 → Int32 → Int32 → gM Int32} (K16 : w_X1_part_16 G l p e s m args below meth c h0 r h' k16) : w_X1_part_74 G l p e s m args below meth c h0 r h' (f_X1_part_74 k16) := by
  have hx := X.1
  have hb := X.2.1
  have hown := X.2.2.2.1
  have hts := X.2.2.2.2.1
  intro a0 x1 x2 x3 x5 u0 h H locs cells slots ls hf hI hl
  unfold f_X1_part_74 at hf
  refine lv_iconst (v := (0 : Int32)) hx hb dX1_part_74 (by decide) ?_
  exact b_X1_part_75 X K16 _ _ _ _ _ _ _ _ _ _ _ _ _ hf hI (lv_sub hl [0, 1, 2, 3, 4] rfl)
def f_X1_part_84 (k4 : Nat → Int32 → Int32 → Int32 → gM Int32) (a0 : Nat) (x1 : Int32) (x2 : Int32) (x3 : Int32) (x4 : Int32) : gM Int32 :=
    gB (f_J13_max x2 x4) fun r101 =>
    k4 a0 x1 r101 (x3 + (1 : Int32))
set_option maxHeartbeats 4000000 in
set_option maxRecDepth 100000 in
theorem b_X1_part_84 {G : gG} {l : Launch} {p : Program} {e : Env} {s : State} {m : MethodId} {args : Array Value} {below : List Frame} {meth : Method} {c : Code} {h0 : g_H} {r : Int32} {h' : g_H} (X : gX G l yX1_part.cls cX1_part 6 (some .int) [] yX1_part.name p s m args meth c) {k4 : Nat → Int32 → Int32 → Int32 → gM Int32} (K4 : w_X1_part_4 G l p e s m args below meth c h0 r h' k4) : w_X1_part_84 G l p e s m args below meth c h0 r h' (f_X1_part_84 k4) := by
  have hx := X.1
  have hb := X.2.1
  have hown := X.2.2.2.1
  have hts := X.2.2.2.2.1
  intro a0 x1 x2 x3 x4 h H locs cells slots ls hf hI hl
  unfold f_X1_part_84 at hf
  refine lv_iload_n hx hb dX1_part_84 rfl (lv_at hl 2 rfl) ?_
  refine lv_iload hx hb dX1_part_85 (lv_at hl 4 rfl) ?_
  refine g_cBI hI hf (fun v9 h9 e9 l9 l9' => g_rS (b := 0) X hI l9 l9' ⟨Nat.le_refl _, Nat.le_refl _⟩ (As := [.int x2, .int x4]) (m_J13_max X.2.2.2.2.2.2.2.2.2.2.1 e9) ydJ13_max q1288 q564 q151 q565 rfl (Nat.le_of_ble_eq_true rfl) (Nat.le_of_ble_eq_true rfl) hl.1 rfl (Nat.le_of_ble_eq_true rfl) dX1_part_87) (fun r101 h H locs cells slots hf hI => ?_)
  refine lv_istore_n (lv' := [(2, .int r101), (0, .ref a0), (1, .int x1), (3, .int x3), (4, .int x4)]) hx hb dX1_part_90 rfl hl (by decide) rfl (fun ls hl => ?_)
  refine lv_iinc (v := (x3 + (1 : Int32))) (lv' := [(3, .int (x3 + (1 : Int32))), (2, .int r101), (0, .ref a0), (1, .int x1), (4, .int x4)]) hx hb dX1_part_91 hl (k := 3) rfl rfl (by decide) rfl (fun ls hl => ?_)
  refine lv_goto (tgt := 4) hx hb dX1_part_94 (by decide) ?_
  exact K4 _ _ _ _ _ _ _ _ _ _ hf hI (lv_sub hl [2, 3, 1, 0] rfl)
def f_X1_part_16 (k4 : Nat → Int32 → Int32 → Int32 → gM Int32) : Nat → Nat → Int32 → Int32 → Int32 → Int32 → Int32 → gM Int32
  | 0, _, _, _, _, _, _ => gFail
  | n + 1, a0, x1, x2, x3, x4, x5 =>
    gIf ((64 : Int32) ≤ x5)
    (f_X1_part_84 k4 a0 x1 x2 x3 x4)
    (gB (gFR a0 0 10) fun v101 =>
    gB (gAI v101 3 x3) fun v102 =>
    gIf (v102 = 0)
    (f_X1_part_74 (f_X1_part_16 k4 n) a0 x1 x2 x3 x5 x4)
    (gB (gFR a0 0 10) fun v103 =>
    gB (gAI v103 3 x5) fun v104 =>
    gIf (v104 = 0)
    (f_X1_part_74 (f_X1_part_16 k4 n) a0 x1 x2 x3 x5 x4)
    (gB (gFR a0 0 9) fun v105 =>
    gB (gAI v105 0 (((10 : Int32) * x5) + x1)) fun v106 =>
    gB (gFR a0 0 9) fun v107 =>
    gB (gAI v107 0 (((10 : Int32) * x3) + x1)) fun v108 =>
    gIf (v106 = v108)
    (f_X1_part_75 (f_X1_part_16 k4 n) a0 x1 x2 x3 x5 x4 (1 : Int32))
    (f_X1_part_74 (f_X1_part_16 k4 n) a0 x1 x2 x3 x5 x4))))
set_option maxHeartbeats 4000000 in
set_option maxRecDepth 100000 in
theorem b_X1_part_16 {G : gG} {l : Launch} {p : Program} {e : Env} {s : State} {m : MethodId} {args : Array Value} {below : List Frame} {meth : Method} {c : Code} {h0 : g_H} {r : Int32} {h' : g_H} (X : gX G l yX1_part.cls cX1_part 6 (some .int) [] yX1_part.name p s m args meth c) {k4 : Nat → Int32 → Int32 → Int32 → gM Int32} (K4 : w_X1_part_4 G l p e s m args below meth c h0 r h' k4) : ∀ n : Nat, w_X1_part_16 G l p e s m args below meth c h0 r h' (f_X1_part_16 k4 n) := by
  have hx := X.1
  have hb := X.2.1
  have hown := X.2.2.2.1
  have hts := X.2.2.2.2.1
  intro n
  induction n with
  | zero =>
    intro a0 x1 x2 x3 x4 x5 h H locs cells slots ls hf hI hl
    exact (gFail_f hf).elim
  | succ n ih =>
    intro a0 x1 x2 x3 x4 x5 h H locs cells slots ls hf hI hl
    rw [f_X1_part_16] at hf
    refine lv_iload hx hb dX1_part_16 (lv_at hl 5 rfl) ?_
    refine lv_bipush (v := (64 : Int32)) hx hb dX1_part_18 (by decide) ?_
    refine lv_icmp_ge (tgt := 84) hx hb dX1_part_20 (by decide) (fun c20 => ?_) (fun c20 => ?_)
    · have hf := g_t c20 hf
      exact b_X1_part_84 X K4 _ _ _ _ _ _ _ _ _ _ _ hf hI (lv_sub hl [0, 1, 2, 3, 4] rfl)
    · have hf := g_f c20 hf
      refine lv_iload hx hb dX1_part_23 (lv_at hl 4 rfl) ?_
      refine lv_aload_n hx hb dX1_part_25 rfl (lv_at hl 0 rfl) ?_
      refine g_fr X hI hf fX1_10 q471 rfl rfl dX1_part_26 (fun v101 hf => ?_)
      refine lv_iload_n hx hb dX1_part_29 rfl (lv_at hl 3 rfl) ?_
      refine g_ai3 X hI hf dX1_part_30 (fun v102 hf => ?_)
      refine lv_if_eq (tgt := 74) hx hb dX1_part_31 (by decide) (fun c31 => ?_) (fun c31 => ?_)
      · have hf := g_t c31 hf
        exact b_X1_part_74 X ih _ _ _ _ _ _ _ _ _ _ _ _ hf hI (lv_sub hl [0, 1, 2, 3, 5] rfl)
      · have hf := g_f c31 hf
        refine lv_aload_n hx hb dX1_part_34 rfl (lv_at hl 0 rfl) ?_
        refine g_fr X hI hf fX1_10 q471 rfl rfl dX1_part_35 (fun v103 hf => ?_)
        refine lv_iload hx hb dX1_part_38 (lv_at hl 5 rfl) ?_
        refine g_ai3 X hI hf dX1_part_40 (fun v104 hf => ?_)
        refine lv_if_eq (tgt := 74) hx hb dX1_part_41 (by decide) (fun c41 => ?_) (fun c41 => ?_)
        · have hf := g_t c41 hf
          exact b_X1_part_74 X ih _ _ _ _ _ _ _ _ _ _ _ _ hf hI (lv_sub hl [0, 1, 2, 3, 5] rfl)
        · have hf := g_f c41 hf
          refine lv_aload_n hx hb dX1_part_44 rfl (lv_at hl 0 rfl) ?_
          refine g_fr X hI hf fX1_9 q470 rfl rfl dX1_part_45 (fun v105 hf => ?_)
          refine lv_bipush (v := (10 : Int32)) hx hb dX1_part_48 (by decide) ?_
          refine lv_iload hx hb dX1_part_50 (lv_at hl 5 rfl) ?_
          refine lv_imul hx hb dX1_part_52 ?_
          refine lv_iload_n hx hb dX1_part_53 rfl (lv_at hl 1 rfl) ?_
          refine lv_iadd hx hb dX1_part_54 ?_
          refine g_ai0 X hI hf dX1_part_55 (fun v106 hf => ?_)
          refine lv_aload_n hx hb dX1_part_56 rfl (lv_at hl 0 rfl) ?_
          refine g_fr X hI hf fX1_9 q470 rfl rfl dX1_part_57 (fun v107 hf => ?_)
          refine lv_bipush (v := (10 : Int32)) hx hb dX1_part_60 (by decide) ?_
          refine lv_iload_n hx hb dX1_part_62 rfl (lv_at hl 3 rfl) ?_
          refine lv_imul hx hb dX1_part_63 ?_
          refine lv_iload_n hx hb dX1_part_64 rfl (lv_at hl 1 rfl) ?_
          refine lv_iadd hx hb dX1_part_65 ?_
          refine g_ai0 X hI hf dX1_part_66 (fun v108 hf => ?_)
          refine lv_icmp_ne (tgt := 74) hx hb dX1_part_67 (by decide) (fun c67 => ?_) (fun c67 => ?_)
          · have hf := g_f c67 hf
            exact b_X1_part_74 X ih _ _ _ _ _ _ _ _ _ _ _ _ hf hI (lv_sub hl [0, 1, 2, 3, 5] rfl)
          · have hf := g_t c67 hf
            refine lv_iconst (v := (1 : Int32)) hx hb dX1_part_70 (by decide) ?_
            refine lv_goto (tgt := 75) hx hb dX1_part_71 (by decide) ?_
            exact b_X1_part_75 X ih _ _ _ _ _ _ _ _ _ _ _ _ _ hf hI (lv_sub hl [0, 1, 2, 3, 5] rfl)
def f_X1_part_97 (x2 : Int32) : gM Int32 :=
    (gRet x2)
set_option maxHeartbeats 4000000 in
set_option maxRecDepth 100000 in
theorem b_X1_part_97 {G : gG} {l : Launch} {p : Program} {e : Env} {s : State} {m : MethodId} {args : Array Value} {below : List Frame} {meth : Method} {c : Code} {h0 : g_H} {r : Int32} {h' : g_H} (X : gX G l yX1_part.cls cX1_part 6 (some .int) [] yX1_part.name p s m args meth c) : w_X1_part_97 G l p e s m args below meth c h0 r h' (f_X1_part_97) := by
  have hx := X.1
  have hb := X.2.1
  have hown := X.2.2.2.1
  have hts := X.2.2.2.2.1
  intro x2 h H locs cells slots ls hf hI hl
  unfold f_X1_part_97 at hf
  refine lv_iload_n hx hb dX1_part_97 rfl (lv_at hl 0 rfl) ?_
  cases gRet_e hf
  exact g_retI X hI rfl dX1_part_98
def f_X1_part_4 : Nat → Nat → Int32 → Int32 → Int32 → gM Int32
  | 0, _, _, _, _ => gFail
  | n + 1, a0, x1, x2, x3 =>
    gIf ((64 : Int32) ≤ x3)
    (f_X1_part_97 x2)
    (f_X1_part_16 (f_X1_part_4 n) gN a0 x1 x2 x3 (0 : Int32) (0 : Int32))
set_option maxHeartbeats 4000000 in
set_option maxRecDepth 100000 in
theorem b_X1_part_4 {G : gG} {l : Launch} {p : Program} {e : Env} {s : State} {m : MethodId} {args : Array Value} {below : List Frame} {meth : Method} {c : Code} {h0 : g_H} {r : Int32} {h' : g_H} (X : gX G l yX1_part.cls cX1_part 6 (some .int) [] yX1_part.name p s m args meth c) : ∀ n : Nat, w_X1_part_4 G l p e s m args below meth c h0 r h' (f_X1_part_4 n) := by
  have hx := X.1
  have hb := X.2.1
  have hown := X.2.2.2.1
  have hts := X.2.2.2.2.1
  intro n
  induction n with
  | zero =>
    intro a0 x1 x2 x3 h H locs cells slots ls hf hI hl
    exact (gFail_f hf).elim
  | succ n ih =>
    intro a0 x1 x2 x3 h H locs cells slots ls hf hI hl
    rw [f_X1_part_4] at hf
    refine lv_iload_n hx hb dX1_part_4 rfl (lv_at hl 3 rfl) ?_
    refine lv_bipush (v := (64 : Int32)) hx hb dX1_part_5 (by decide) ?_
    refine lv_icmp_ge (tgt := 97) hx hb dX1_part_7 (by decide) (fun c7 => ?_) (fun c7 => ?_)
    · have hf := g_t c7 hf
      exact b_X1_part_97 X _ _ _ _ _ _ _ hf hI (lv_sub hl [2] rfl)
    · have hf := g_f c7 hf
      refine lv_iconst (v := (0 : Int32)) hx hb dX1_part_10 (by decide) ?_
      refine lv_istore (lv' := [(4, .int (0 : Int32)), (0, .ref a0), (1, .int x1), (2, .int x2), (3, .int x3)]) hx hb dX1_part_11 hl (by decide) rfl (fun ls hl => ?_)
      refine lv_iconst (v := (0 : Int32)) hx hb dX1_part_13 (by decide) ?_
      refine lv_istore (lv' := [(5, .int (0 : Int32)), (4, .int (0 : Int32)), (0, .ref a0), (1, .int x1), (2, .int x2), (3, .int x3)]) hx hb dX1_part_14 hl (by decide) rfl (fun ls hl => ?_)
      exact b_X1_part_16 X ih gN _ _ _ _ _ _ _ _ _ _ _ _ hf hI (lv_sub hl [2, 3, 4, 5, 1, 0] rfl)
def f_X1_part (a0 : Nat) (x1 : Int32) : gM Int32 :=
    f_X1_part_4 gN a0 x1 (0 : Int32) (0 : Int32)
set_option maxHeartbeats 4000000 in
set_option maxRecDepth 100000 in
theorem m_X1_part {G : gG} {l : Launch} (hfl : l.stackTraces = false) {a0 : Nat} {x1 : Int32} {h h' : g_H} {r : Int32} (hf : (f_X1_part a0 x1).1 h = some (r, h')) : gMet G l yX1_part (Cond.code yX1_part cX1_part 6 (some .int)) 2 41 [.ref a0, .int x1] h (.inl (g_wI r)) h' := by
  refine g_head hfl ((f_X1_part a0 x1).2 h r h' hf) (plainFor_of_name (by decide)) (Nat.le_of_ble_eq_true rfl) (fun p e s m below meth c H locs cells slots ls X hI hl9 => ?_)
  have hl : lv_has ls 6 [(0, .ref a0), (1, .int x1)] := hl9
  have hx := X.1
  have hb := X.2.1
  have hown := X.2.2.2.1
  have hts := X.2.2.2.2.1
  unfold f_X1_part at hf
  refine lv_iconst (v := (0 : Int32)) hx hb dX1_part_0 (by decide) ?_
  refine lv_istore_n (lv' := [(2, .int (0 : Int32)), (0, .ref a0), (1, .int x1)]) hx hb dX1_part_1 rfl hl (by decide) rfl (fun ls hl => ?_)
  refine lv_iconst (v := (0 : Int32)) hx hb dX1_part_2 (by decide) ?_
  refine lv_istore_n (lv' := [(3, .int (0 : Int32)), (2, .int (0 : Int32)), (0, .ref a0), (1, .int x1)]) hx hb dX1_part_3 rfl hl (by decide) rfl (fun ls hl => ?_)
  exact b_X1_part_4 X gN _ _ _ _ _ _ _ _ _ _ hf hI (lv_sub hl [2, 3, 1, 0] rfl)
/-! X1_ask -/
abbrev w_X1_ask_73 (G : gG) (l : Launch) (p : Program) (e : Env) (s : State) (m : MethodId) (args : Array Value) (below : List Frame) (meth : Method) (c : Code) (h0 : g_H) (r : (Int32 ⊕ gE)) (h' : g_H) (k : Nat → Int32 → Int32 → Int32 → Int32 → gM (Int32 ⊕ gE)) : Prop := ∀ (a0 : Nat) (x2 : Int32) (x3 : Int32) (x4 : Int32) (x5 : Int32) (h : g_H) (H : Heap) (locs : List Loc) (cells slots : Nat) (ls : Array Slot), (k a0 x2 x3 x4 x5).1 h = some (r, h') → gI G h0 h H locs cells slots → lv_has ls 7 [(0, .ref a0), (2, .int x2), (3, .int x3), (4, .int x4), (5, .int x5)] → W p l e (g_rm 102 1893 h0 h') s m args below meth c H locs cells slots (gQ G below args s h0 h' (g_w g_wI r)) (F0 m 73 ls [])
abbrev w_X1_ask_54 (G : gG) (l : Launch) (p : Program) (e : Env) (s : State) (m : MethodId) (args : Array Value) (below : List Frame) (meth : Method) (c : Code) (h0 : g_H) (r : (Int32 ⊕ gE)) (h' : g_H) (k : Nat → Int32 → Int32 → Int32 → Int32 → Int32 → gM (Int32 ⊕ gE)) : Prop := ∀ (a0 : Nat) (x2 : Int32) (x3 : Int32) (x4 : Int32) (x5 : Int32) (u0 : Int32) (h : g_H) (H : Heap) (locs : List Loc) (cells slots : Nat) (ls : Array Slot), (k a0 x2 x3 x4 x5 u0).1 h = some (r, h') → gI G h0 h H locs cells slots → lv_has ls 7 [(0, .ref a0), (2, .int x2), (3, .int x3), (4, .int x4), (5, .int x5)] → W p l e (g_rm 102 1893 h0 h') s m args below meth c H locs cells slots (gQ G below args s h0 h' (g_w g_wI r)) (F0 m 54 ls [.int u0])
abbrev w_X1_ask_79 (G : gG) (l : Launch) (p : Program) (e : Env) (s : State) (m : MethodId) (args : Array Value) (below : List Frame) (meth : Method) (c : Code) (h0 : g_H) (r : (Int32 ⊕ gE)) (h' : g_H) (k : Int32 → gM (Int32 ⊕ gE)) : Prop := ∀ (x3 : Int32) (h : g_H) (H : Heap) (locs : List Loc) (cells slots : Nat) (ls : Array Slot), (k x3).1 h = some (r, h') → gI G h0 h H locs cells slots → lv_has ls 7 [(3, .int x3)] → W p l e (g_rm 102 1893 h0 h') s m args below meth c H locs cells slots (gQ G below args s h0 h' (g_w g_wI r)) (F0 m 79 ls [])
abbrev w_X1_ask_16 (G : gG) (l : Launch) (p : Program) (e : Env) (s : State) (m : MethodId) (args : Array Value) (below : List Frame) (meth : Method) (c : Code) (h0 : g_H) (r : (Int32 ⊕ gE)) (h' : g_H) (k : Nat → Int32 → Int32 → Int32 → Int32 → gM (Int32 ⊕ gE)) : Prop := ∀ (a0 : Nat) (x2 : Int32) (x3 : Int32) (x4 : Int32) (x5 : Int32) (h : g_H) (H : Heap) (locs : List Loc) (cells slots : Nat) (ls : Array Slot), (k a0 x2 x3 x4 x5).1 h = some (r, h') → gI G h0 h H locs cells slots → lv_has ls 7 [(0, .ref a0), (2, .int x2), (3, .int x3), (4, .int x4), (5, .int x5)] → W p l e (g_rm 102 1893 h0 h') s m args below meth c H locs cells slots (gQ G below args s h0 h' (g_w g_wI r)) (F0 m 16 ls [])
def f_X1_ask_73 (k16 : Nat → Int32 → Int32 → Int32 → Int32 → gM (Int32 ⊕ gE)) (a0 : Nat) (x2 : Int32) (x3 : Int32) (x4 : Int32) (x5 : Int32) : gM (Int32 ⊕ gE) :=
    k16 a0 x2 x3 x4 (x5 + (1 : Int32))
set_option maxHeartbeats 4000000 in
set_option maxRecDepth 100000 in
theorem b_X1_ask_73 {G : gG} {l : Launch} {p : Program} {e : Env} {s : State} {m : MethodId} {args : Array Value} {below : List Frame} {meth : Method} {c : Code} {h0 : g_H} {r : (Int32 ⊕ gE)} {h' : g_H} (X : gX G l yX1_ask.cls cX1_ask 7 (some .int) [] yX1_ask.name p s m args meth c) {k16 : Nat → Int32 → Int32 → Int32 → Int32 → gM (Int32 ⊕ gE)} (K16 : w_X1_ask_16 G l p e s m args below meth c h0 r h' k16) : w_X1_ask_73 G l p e s m args below meth c h0 r h' (f_X1_ask_73 k16) := by
  have hx := X.1
  have hb := X.2.1
  have hown := X.2.2.2.1
  have hts := X.2.2.2.2.1
  intro a0 x2 x3 x4 x5 h H locs cells slots ls hf hI hl
  unfold f_X1_ask_73 at hf
  refine lv_iinc (v := (x5 + (1 : Int32))) (lv' := [(5, .int (x5 + (1 : Int32))), (0, .ref a0), (2, .int x2), (3, .int x3), (4, .int x4)]) hx hb dX1_ask_73 hl (k := 4) rfl rfl (by decide) rfl (fun ls hl => ?_)
  refine lv_goto (tgt := 16) hx hb dX1_ask_76 (by decide) ?_
  exact K16 _ _ _ _ _ _ _ _ _ _ _ hf hI (lv_sub hl [1, 2, 3, 4, 0] rfl)
def f_X1_ask_54 (k16 : Nat → Int32 → Int32 → Int32 → Int32 → gM (Int32 ⊕ gE)) (a0 : Nat) (x2 : Int32) (x3 : Int32) (x4 : Int32) (x5 : Int32) (u0 : Int32) : gM (Int32 ⊕ gE) :=
    gIf (u0 < x4)
    (f_X1_ask_73 k16 a0 x2 x5 u0 x5)
    (f_X1_ask_73 k16 a0 x2 x3 x4 x5)
set_option maxHeartbeats 4000000 in
set_option maxRecDepth 100000 in
theorem b_X1_ask_54 {G : gG} {l : Launch} {p : Program} {e : Env} {s : State} {m : MethodId} {args : Array Value} {below : List Frame} {meth : Method} {c : Code} {h0 : g_H} {r : (Int32 ⊕ gE)} {h' : g_H} (X : gX G l yX1_ask.cls cX1_ask 7 (some .int) [] yX1_ask.name p s m args meth c) {k16 : Nat → Int32 → Int32 → Int32 → Int32 → gM (Int32 ⊕ gE)} (K16 : w_X1_ask_16 G l p e s m args below meth c h0 r h' k16) : w_X1_ask_54 G l p e s m args below meth c h0 r h' (f_X1_ask_54 k16) := by
  have hx := X.1
  have hb := X.2.1
  have hown := X.2.2.2.1
  have hts := X.2.2.2.2.1
  intro a0 x2 x3 x4 x5 u0 h H locs cells slots ls hf hI hl
  unfold f_X1_ask_54 at hf
  refine lv_istore (lv' := [(6, .int u0), (0, .ref a0), (2, .int x2), (3, .int x3), (4, .int x4), (5, .int x5)]) hx hb dX1_ask_54 hl (by decide) rfl (fun ls hl => ?_)
  refine lv_iload hx hb dX1_ask_56 (lv_at hl 0 rfl) ?_
  refine lv_iload hx hb dX1_ask_58 (lv_at hl 4 rfl) ?_
  refine lv_icmp_lt (tgt := 66) hx hb dX1_ask_60 (by decide) (fun c60 => ?_) (fun c60 => ?_)
  · have hf := g_t c60 hf
    refine lv_iload hx hb dX1_ask_66 (lv_at hl 0 rfl) ?_
    refine lv_istore (lv' := [(4, .int u0), (6, .int u0), (0, .ref a0), (2, .int x2), (3, .int x3), (5, .int x5)]) hx hb dX1_ask_68 hl (by decide) rfl (fun ls hl => ?_)
    refine lv_iload hx hb dX1_ask_70 (lv_at hl 5 rfl) ?_
    refine lv_istore_n (lv' := [(3, .int x5), (4, .int u0), (6, .int u0), (0, .ref a0), (2, .int x2), (5, .int x5)]) hx hb dX1_ask_72 rfl hl (by decide) rfl (fun ls hl => ?_)
    exact b_X1_ask_73 X K16 _ _ _ _ _ _ _ _ _ _ _ hf hI (lv_sub hl [3, 4, 0, 1, 5] rfl)
  · have hf := g_f c60 hf
    refine lv_goto (tgt := 73) hx hb dX1_ask_63 (by decide) ?_
    exact b_X1_ask_73 X K16 _ _ _ _ _ _ _ _ _ _ _ hf hI (lv_sub hl [1, 2, 3, 4, 5] rfl)
def f_X1_ask_79 (x3 : Int32) : gM (Int32 ⊕ gE) :=
    (gRet (.inl x3))
set_option maxHeartbeats 4000000 in
set_option maxRecDepth 100000 in
theorem b_X1_ask_79 {G : gG} {l : Launch} {p : Program} {e : Env} {s : State} {m : MethodId} {args : Array Value} {below : List Frame} {meth : Method} {c : Code} {h0 : g_H} {r : (Int32 ⊕ gE)} {h' : g_H} (X : gX G l yX1_ask.cls cX1_ask 7 (some .int) [] yX1_ask.name p s m args meth c) : w_X1_ask_79 G l p e s m args below meth c h0 r h' (f_X1_ask_79) := by
  have hx := X.1
  have hb := X.2.1
  have hown := X.2.2.2.1
  have hts := X.2.2.2.2.1
  intro x3 h H locs cells slots ls hf hI hl
  unfold f_X1_ask_79 at hf
  refine lv_iload_n hx hb dX1_ask_79 rfl (lv_at hl 0 rfl) ?_
  cases gRet_e hf
  exact g_retI X hI rfl dX1_ask_80
def f_X1_ask_16 : Nat → Nat → Int32 → Int32 → Int32 → Int32 → gM (Int32 ⊕ gE)
  | 0, _, _, _, _, _ => gFail
  | n + 1, a0, x2, x3, x4, x5 =>
    gIf ((10 : Int32) ≤ x5)
    (f_X1_ask_79 x3)
    (gIf (x2 ≤ (1 : Int32))
    (f_X1_ask_79 x3)
    (gB (gFR a0 0 1) fun v101 =>
    gB (gFR v101 2 3) fun v102 =>
    gB (gAI v102 0 x5) fun v103 =>
    gIf (v103 = (-1 : Int32))
    (f_X1_ask_54 (f_X1_ask_16 n) a0 x2 x3 x4 x5 (100000000 : Int32))
    (gB (gCk a0 0) fun _ =>
    gB (f_X1_part a0 x5) fun r104 =>
    f_X1_ask_54 (f_X1_ask_16 n) a0 x2 x3 x4 x5 r104)))
set_option maxHeartbeats 4000000 in
set_option maxRecDepth 100000 in
theorem b_X1_ask_16 {G : gG} {l : Launch} {p : Program} {e : Env} {s : State} {m : MethodId} {args : Array Value} {below : List Frame} {meth : Method} {c : Code} {h0 : g_H} {r : (Int32 ⊕ gE)} {h' : g_H} (X : gX G l yX1_ask.cls cX1_ask 7 (some .int) [] yX1_ask.name p s m args meth c) : ∀ n : Nat, w_X1_ask_16 G l p e s m args below meth c h0 r h' (f_X1_ask_16 n) := by
  have hx := X.1
  have hb := X.2.1
  have hown := X.2.2.2.1
  have hts := X.2.2.2.2.1
  intro n
  induction n with
  | zero =>
    intro a0 x2 x3 x4 x5 h H locs cells slots ls hf hI hl
    exact (gFail_f hf).elim
  | succ n ih =>
    intro a0 x2 x3 x4 x5 h H locs cells slots ls hf hI hl
    rw [f_X1_ask_16] at hf
    refine lv_iload hx hb dX1_ask_16 (lv_at hl 4 rfl) ?_
    refine lv_bipush (v := (10 : Int32)) hx hb dX1_ask_18 (by decide) ?_
    refine lv_icmp_ge (tgt := 79) hx hb dX1_ask_20 (by decide) (fun c20 => ?_) (fun c20 => ?_)
    · have hf := g_t c20 hf
      exact b_X1_ask_79 X _ _ _ _ _ _ _ hf hI (lv_sub hl [2] rfl)
    · have hf := g_f c20 hf
      refine lv_iload_n hx hb dX1_ask_23 rfl (lv_at hl 1 rfl) ?_
      refine lv_iconst (v := (1 : Int32)) hx hb dX1_ask_24 (by decide) ?_
      refine lv_icmp_le (tgt := 79) hx hb dX1_ask_25 (by decide) (fun c25 => ?_) (fun c25 => ?_)
      · have hf := g_t c25 hf
        exact b_X1_ask_79 X _ _ _ _ _ _ _ hf hI (lv_sub hl [2] rfl)
      · have hf := g_f c25 hf
        refine lv_aload_n hx hb dX1_ask_28 rfl (lv_at hl 0 rfl) ?_
        refine g_fr X hI hf fX1_1 q461 rfl rfl dX1_ask_29 (fun v101 hf => ?_)
        refine g_frN X hI hf fX3_3 q264 rfl rfl dX1_ask_32 (fun v102 hf => ?_)
        refine lv_iload hx hb dX1_ask_35 (lv_at hl 4 rfl) ?_
        refine g_ai0 X hI hf dX1_ask_37 (fun v103 hf => ?_)
        refine lv_iconst (v := (-1 : Int32)) hx hb dX1_ask_38 (by decide) ?_
        refine lv_icmp_ne (tgt := 48) hx hb dX1_ask_39 (by decide) (fun c39 => ?_) (fun c39 => ?_)
        · have hf := g_f c39 hf
          refine lv_aload_n hx hb dX1_ask_48 rfl (lv_at hl 0 rfl) ?_
          refine lv_iload hx hb dX1_ask_49 (lv_at hl 4 rfl) ?_
          obtain ⟨hs, hf⟩ := gCk_b hf
          refine g_cBI hI hf (fun v9 h9 e9 l9 l9' => g_rV X hI l9 l9' ⟨Nat.le_refl _, Nat.le_refl _⟩ (As := [.int x5]) (m_X1_part X.2.2.2.2.2.2.2.2.2.2.1 e9) ydX1_part hs rfl rfl q1342 q1344 qs40 q121 q1345 rfl (Nat.le_of_ble_eq_true rfl) (Nat.le_of_ble_eq_true rfl) hl.1 rfl (Nat.le_of_ble_eq_true rfl) dX1_ask_51) (fun r104 h H locs cells slots hf hI => ?_)
          exact b_X1_ask_54 X ih _ _ _ _ _ _ _ _ _ _ _ _ hf hI (lv_sub hl [0, 1, 2, 3, 4] rfl)
        · have hf := g_t c39 hf
          refine lv_ldcw (v := (100000000 : Int32)) hx hb hown (hts _ q726) dX1_ask_42 ?_
          refine lv_goto (tgt := 54) hx hb dX1_ask_45 (by decide) ?_
          exact b_X1_ask_54 X ih _ _ _ _ _ _ _ _ _ _ _ _ hf hI (lv_sub hl [0, 1, 2, 3, 4] rfl)
def f_X1_ask (a0 : Nat) (x1 : Int32) : gM (Int32 ⊕ gE) :=
    gB (gCk a0 0) fun _ =>
    gT (f_X1_hears a0 x1) fun r1 =>
    f_X1_ask_16 gN a0 r1 (-1 : Int32) (100000000 : Int32) (0 : Int32)
set_option maxHeartbeats 4000000 in
set_option maxRecDepth 100000 in
theorem m_X1_ask {G : gG} {l : Launch} (hfl : l.stackTraces = false) {a0 : Nat} {x1 : Int32} {h h' : g_H} {r : (Int32 ⊕ gE)} (hf : (f_X1_ask a0 x1).1 h = some (r, h')) : gMet G l yX1_ask (Cond.code yX1_ask cX1_ask 7 (some .int)) 102 1893 [.ref a0, .int x1] h (g_w g_wI r) h' := by
  refine g_head hfl ((f_X1_ask a0 x1).2 h r h' hf) (plainFor_of_name (by decide)) (Nat.le_of_ble_eq_true rfl) (fun p e s m below meth c H locs cells slots ls X hI hl9 => ?_)
  have hl : lv_has ls 7 [(0, .ref a0), (1, .int x1)] := hl9
  have hx := X.1
  have hb := X.2.1
  have hown := X.2.2.2.1
  have hts := X.2.2.2.2.1
  unfold f_X1_ask at hf
  refine lv_aload_n hx hb dX1_ask_0 rfl (lv_at hl 0 rfl) ?_
  refine lv_iload_n hx hb dX1_ask_1 rfl (lv_at hl 1 rfl) ?_
  obtain ⟨hs, hf⟩ := gCk_b hf
  refine g_cTI X hI (by decide) hf (fun v9 h9 e9 l9 l9' => g_rV X hI l9 l9' ⟨Nat.le_refl _, Nat.le_refl _⟩ (As := [.int x1]) (m_X1_hears X.2.2.2.2.2.2.2.2.2.2.1 e9) ydX1_hears hs rfl rfl q1331 q1333 qs39 q121 q1334 rfl (Nat.le_of_ble_eq_true rfl) (Nat.le_of_ble_eq_true rfl) hl.1 rfl (Nat.le_of_ble_eq_true rfl) dX1_ask_2) (fun r1 h H locs cells slots hf hI => ?_)
  refine lv_istore_n (lv' := [(2, .int r1), (0, .ref a0), (1, .int x1)]) hx hb dX1_ask_5 rfl hl (by decide) rfl (fun ls hl => ?_)
  refine lv_iconst (v := (-1 : Int32)) hx hb dX1_ask_6 (by decide) ?_
  refine lv_istore_n (lv' := [(3, .int (-1 : Int32)), (2, .int r1), (0, .ref a0), (1, .int x1)]) hx hb dX1_ask_7 rfl hl (by decide) rfl (fun ls hl => ?_)
  refine lv_ldcw (v := (100000000 : Int32)) hx hb hown (hts _ q726) dX1_ask_8 ?_
  refine lv_istore (lv' := [(4, .int (100000000 : Int32)), (3, .int (-1 : Int32)), (2, .int r1), (0, .ref a0), (1, .int x1)]) hx hb dX1_ask_11 hl (by decide) rfl (fun ls hl => ?_)
  refine lv_iconst (v := (0 : Int32)) hx hb dX1_ask_13 (by decide) ?_
  refine lv_istore (lv' := [(5, .int (0 : Int32)), (4, .int (100000000 : Int32)), (3, .int (-1 : Int32)), (2, .int r1), (0, .ref a0), (1, .int x1)]) hx hb dX1_ask_14 hl (by decide) rfl (fun ls hl => ?_)
  exact b_X1_ask_16 X gN _ _ _ _ _ _ _ _ _ _ _ hf hI (lv_sub hl [4, 3, 2, 1, 0] rfl)
/-! X0_ask -/
def f_X0_ask (a0 : Nat) (x1 : Int32) (a2 : Nat) : gM Int32 :=
    gB (gCk a0 0) fun _ =>
    gB (f_X1_ask a0 x1) fun r9 => match r9 with
    | .inl r1 => (gB (gSI a2 2 (0 : Int32) (r1)) fun _ =>
    (gRet (0 : Int32)))
    | .inr x9 => (gIf (x9.1 = 17)
    ((gRet (1 : Int32)))
    (gFail))
set_option maxHeartbeats 4000000 in
set_option maxRecDepth 100000 in
theorem m_X0_ask {G : gG} {l : Launch} (hfl : l.stackTraces = false) {a0 : Nat} {x1 : Int32} {a2 : Nat} {h h' : g_H} {r : Int32} (hf : (f_X0_ask a0 x1 a2).1 h = some (r, h')) : gMet G l yX0_ask (Cond.codeWith yX0_ask cX0_ask 4 (some .int) [(0, 9, 12, 13)]) 103 1919 [.ref a0, .int x1, .ref a2] h (.inl (g_wI r)) h' := by
  refine g_headW hfl ((f_X0_ask a0 x1 a2).2 h r h' hf) (plainFor_of_name (by decide)) (Nat.le_of_ble_eq_true rfl) (fun p e s m below meth c H locs cells slots ls X hI hl9 => ?_)
  have hl : lv_has ls 4 [(0, .ref a0), (1, .int x1), (2, .ref a2)] := hl9
  have hx := X.1
  have hb := X.2.1
  have hown := X.2.2.2.1
  have hts := X.2.2.2.2.1
  unfold f_X0_ask at hf
  refine lv_aload_n hx hb dX0_ask_0 rfl (lv_at hl 2 rfl) ?_
  refine lv_iconst (v := (0 : Int32)) hx hb dX0_ask_1 (by decide) ?_
  refine lv_aload_n hx hb dX0_ask_2 rfl (lv_at hl 0 rfl) ?_
  refine lv_iload_n hx hb dX0_ask_3 rfl (lv_at hl 1 rfl) ?_
  obtain ⟨hs, hf⟩ := gCk_b hf
  refine g_cHI hI hf (fun v9 h9 e9 l9 l9' => g_rV X hI l9 l9' ⟨Nat.le_refl _, Nat.le_refl _⟩ (As := [.int x1]) (m_X1_ask X.2.2.2.2.2.2.2.2.2.2.1 e9) ydX1_ask hs rfl rfl q1338 q1339 q1340 q121 q1341 rfl (Nat.le_of_ble_eq_true rfl) (Nat.le_of_ble_eq_true rfl) hl.1 rfl (Nat.le_of_ble_eq_true rfl) dX0_ask_4) (fun r1 h H locs cells slots hf hI => ?_) ?_
  · refine lv_i2l hx hb dX0_ask_7 rfl ?_
    refine g_si2 X hI hf dX0_ask_8 (fun h H locs hf hI => ?_)
    refine lv_goto (tgt := 15) hx hb dX0_ask_9 (by decide) ?_
    refine lv_iconst (v := (0 : Int32)) hx hb dX0_ask_15 (by decide) ?_
    cases gRet_e hf
    exact g_retI X hI rfl dX0_ask_16
  · intro ci9 x9 h H locs cells slots r9 ce9 hf hr9 hI hce hcv hcl
    by_cases k0 : ci9 = 17
    · subst k0
      cases hr9
      have hf := g_t rfl hf
      refine g_catch0 X hI (name := "java/lang/IllegalArgumentException") rfl (by rfl) (by decide) (by decide) q785 q922 hce hcv hcl ?_
      refine lv_astore_n (lv' := [(3, .ref x9), (0, .ref a0), (1, .int x1), (2, .ref a2)]) hx hb dX0_ask_12 rfl hl (by decide) rfl (fun ls hl => ?_)
      refine lv_iconst (v := (1 : Int32)) hx hb dX0_ask_13 (by decide) ?_
      cases gRet_e hf
      exact g_retI X hI rfl dX0_ask_14
    have hf := g_f k0 hf
    exact (gFail_f hf).elim
/-! X8_uses -/
def f_X8_uses (a0 : Nat) : gM Unit :=
    gB (gPI a0 7 0 (0 : Int32)) fun _ =>
    gB (gFI a0 7 9) fun v1 =>
    gB (gPI a0 7 11 v1) fun _ =>
    gB (gPI a0 7 9 (0 : Int32)) fun _ =>
    gB (gPI a0 7 10 (0 : Int32)) fun _ =>
    gRet ()
set_option maxHeartbeats 4000000 in
set_option maxRecDepth 100000 in
theorem m_X8_uses {G : gG} {l : Launch} (hfl : l.stackTraces = false) {a0 : Nat} {h h' : g_H} {r : Unit} (hf : (f_X8_uses a0).1 h = some (r, h')) : gMet G l yX8_uses (Cond.code yX8_uses cX8_uses 1 none) 1 20 [.ref a0] h (.inl (g_wU r)) h' := by
  refine g_head hfl ((f_X8_uses a0).2 h r h' hf) (plainFor_of_name (by decide)) (Nat.le_of_ble_eq_true rfl) (fun p e s m below meth c H locs cells slots ls X hI hl9 => ?_)
  have hl : lv_has ls 1 [(0, .ref a0)] := hl9
  have hx := X.1
  have hb := X.2.1
  have hown := X.2.2.2.1
  have hts := X.2.2.2.2.1
  unfold f_X8_uses at hf
  refine lv_aload_n hx hb dX8_uses_0 rfl (lv_at hl 0 rfl) ?_
  refine lv_iconst (v := (0 : Int32)) hx hb dX8_uses_1 (by decide) ?_
  refine g_pi X hI hf fX8_0 q1444 rfl dX8_uses_2 (fun h H locs hf hI => ?_)
  refine lv_aload_n hx hb dX8_uses_5 rfl (lv_at hl 0 rfl) ?_
  refine lv_aload_n hx hb dX8_uses_6 rfl (lv_at hl 0 rfl) ?_
  refine g_fi X hI hf fX8_9 q1453 rfl rfl dX8_uses_7 (fun v1 hf => ?_)
  refine g_pi X hI hf fX8_11 q1455 rfl dX8_uses_10 (fun h H locs hf hI => ?_)
  refine lv_aload_n hx hb dX8_uses_13 rfl (lv_at hl 0 rfl) ?_
  refine lv_iconst (v := (0 : Int32)) hx hb dX8_uses_14 (by decide) ?_
  refine g_pi X hI hf fX8_9 q1453 rfl dX8_uses_15 (fun h H locs hf hI => ?_)
  refine lv_aload_n hx hb dX8_uses_18 rfl (lv_at hl 0 rfl) ?_
  refine lv_iconst (v := (0 : Int32)) hx hb dX8_uses_19 (by decide) ?_
  refine g_pi X hI hf fX8_10 q1454 rfl dX8_uses_20 (fun h H locs hf hI => ?_)
  cases gRet_e hf
  exact g_retU X hI rfl dX8_uses_23
/-! X8_noSlot -/
abbrev w_X8_noSlot_15 (G : gG) (l : Launch) (p : Program) (e : Env) (s : State) (m : MethodId) (args : Array Value) (below : List Frame) (meth : Method) (c : Code) (h0 : g_H) (r : Int32) (h' : g_H) (k : Int32 → gM Int32) : Prop := ∀ (u0 : Int32) (h : g_H) (H : Heap) (locs : List Loc) (cells slots : Nat) (ls : Array Slot), (k u0).1 h = some (r, h') → gI G h0 h H locs cells slots → lv_has ls 1 [] → W p l e (g_rm 2 42 h0 h') s m args below meth c H locs cells slots (gQ G below args s h0 h' (.inl (g_wI r))) (F0 m 15 ls [.int u0])
def f_X8_noSlot_15 (u0 : Int32) : gM Int32 :=
    gB (gGd (u0 = 0 ∨ u0 = 1)) fun _ =>
    (gRet u0)
set_option maxHeartbeats 4000000 in
set_option maxRecDepth 100000 in
theorem b_X8_noSlot_15 {G : gG} {l : Launch} {p : Program} {e : Env} {s : State} {m : MethodId} {args : Array Value} {below : List Frame} {meth : Method} {c : Code} {h0 : g_H} {r : Int32} {h' : g_H} (X : gX G l yX8_noSlot.cls cX8_noSlot 1 (some .boolean) [] yX8_noSlot.name p s m args meth c) : w_X8_noSlot_15 G l p e s m args below meth c h0 r h' (f_X8_noSlot_15) := by
  have hx := X.1
  have hb := X.2.1
  have hown := X.2.2.2.1
  have hts := X.2.2.2.2.1
  intro u0 h H locs cells slots ls hf hI hl
  unfold f_X8_noSlot_15 at hf
  obtain ⟨hz, hf⟩ := gB_gd hf
  cases gRet_e hf
  exact g_retZ X hI hz rfl dX8_noSlot_15
def f_X8_noSlot (x0 : Int32) : gM Int32 :=
    gB (f_X8_in x0 (0 : Int32) (9 : Int32)) fun r1 =>
    gIf (r1 = 0)
    (f_X8_noSlot_15 (1 : Int32))
    (f_X8_noSlot_15 (0 : Int32))
set_option maxHeartbeats 4000000 in
set_option maxRecDepth 100000 in
theorem m_X8_noSlot {G : gG} {l : Launch} (hfl : l.stackTraces = false) {x0 : Int32} {h h' : g_H} {r : Int32} (hf : (f_X8_noSlot x0).1 h = some (r, h')) : gMet G l yX8_noSlot (Cond.code yX8_noSlot cX8_noSlot 1 (some .boolean)) 2 42 [.int x0] h (.inl (g_wI r)) h' := by
  refine g_head hfl ((f_X8_noSlot x0).2 h r h' hf) (plainFor_of_name (by decide)) (Nat.le_of_ble_eq_true rfl) (fun p e s m below meth c H locs cells slots ls X hI hl9 => ?_)
  have hl : lv_has ls 1 [(0, .int x0)] := hl9
  have hx := X.1
  have hb := X.2.1
  have hown := X.2.2.2.1
  have hts := X.2.2.2.2.1
  unfold f_X8_noSlot at hf
  refine lv_iload_n hx hb dX8_noSlot_0 rfl (lv_at hl 0 rfl) ?_
  refine lv_iconst (v := (0 : Int32)) hx hb dX8_noSlot_1 (by decide) ?_
  refine lv_bipush (v := (9 : Int32)) hx hb dX8_noSlot_2 (by decide) ?_
  refine g_cBI hI hf (fun v9 h9 e9 l9 l9' => g_rS (b := 0) X hI l9 l9' ⟨Nat.le_refl _, Nat.le_refl _⟩ (As := [.int x0, .int (0 : Int32), .int (9 : Int32)]) (m_X8_in X.2.2.2.2.2.2.2.2.2.2.1 e9) ydX8_in q1634 q1635 q131 q1636 rfl (Nat.le_of_ble_eq_true rfl) (Nat.le_of_ble_eq_true rfl) hl.1 rfl (Nat.le_of_ble_eq_true rfl) dX8_noSlot_4) (fun r1 h H locs cells slots hf hI => ?_)
  refine lv_if_ne (tgt := 14) hx hb dX8_noSlot_7 (by decide) (fun c7 => ?_) (fun c7 => ?_)
  · have hf := g_f c7 hf
    refine lv_iconst (v := (0 : Int32)) hx hb dX8_noSlot_14 (by decide) ?_
    exact b_X8_noSlot_15 X _ _ _ _ _ _ _ hf hI (lv_sub hl [] rfl)
  · have hf := g_t c7 hf
    refine lv_iconst (v := (1 : Int32)) hx hb dX8_noSlot_10 (by decide) ?_
    refine lv_goto (tgt := 15) hx hb dX8_noSlot_11 (by decide) ?_
    exact b_X8_noSlot_15 X _ _ _ _ _ _ _ hf hI (lv_sub hl [] rfl)
/-! X8_isTold -/
abbrev w_X8_isTold_65 (G : gG) (l : Launch) (p : Program) (e : Env) (s : State) (m : MethodId) (args : Array Value) (below : List Frame) (meth : Method) (c : Code) (h0 : g_H) (r : Int32) (h' : g_H) (k : Nat → Int32 → Int32 → gM Int32) : Prop := ∀ (a0 : Nat) (x3 : Int32) (u0 : Int32) (h : g_H) (H : Heap) (locs : List Loc) (cells slots : Nat) (ls : Array Slot), (k a0 x3 u0).1 h = some (r, h') → gI G h0 h H locs cells slots → lv_has ls 4 [(0, .ref a0), (3, .int x3)] → W p l e (g_rm 3 62 h0 h') s m args below meth c H locs cells slots (gQ G below args s h0 h' (.inl (g_wI r))) (F0 m 65 ls [.int u0])
abbrev w_X8_isTold_72 (G : gG) (l : Launch) (p : Program) (e : Env) (s : State) (m : MethodId) (args : Array Value) (below : List Frame) (meth : Method) (c : Code) (h0 : g_H) (r : Int32) (h' : g_H) (k : Int32 → gM Int32) : Prop := ∀ (x2 : Int32) (h : g_H) (H : Heap) (locs : List Loc) (cells slots : Nat) (ls : Array Slot), (k x2).1 h = some (r, h') → gI G h0 h H locs cells slots → lv_has ls 4 [(2, .int x2)] → W p l e (g_rm 3 62 h0 h') s m args below meth c H locs cells slots (gQ G below args s h0 h' (.inl (g_wI r))) (F0 m 72 ls [])
abbrev w_X8_isTold_36 (G : gG) (l : Launch) (p : Program) (e : Env) (s : State) (m : MethodId) (args : Array Value) (below : List Frame) (meth : Method) (c : Code) (h0 : g_H) (r : Int32) (h' : g_H) (k : Nat → Int32 → Int32 → gM Int32) : Prop := ∀ (a0 : Nat) (x2 : Int32) (x3 : Int32) (h : g_H) (H : Heap) (locs : List Loc) (cells slots : Nat) (ls : Array Slot), (k a0 x2 x3).1 h = some (r, h') → gI G h0 h H locs cells slots → lv_has ls 4 [(0, .ref a0), (2, .int x2), (3, .int x3)] → W p l e (g_rm 3 62 h0 h') s m args below meth c H locs cells slots (gQ G below args s h0 h' (.inl (g_wI r))) (F0 m 36 ls [])
abbrev w_X8_isTold_33 (G : gG) (l : Launch) (p : Program) (e : Env) (s : State) (m : MethodId) (args : Array Value) (below : List Frame) (meth : Method) (c : Code) (h0 : g_H) (r : Int32) (h' : g_H) (k : Nat → Int32 → gM Int32) : Prop := ∀ (a0 : Nat) (u0 : Int32) (h : g_H) (H : Heap) (locs : List Loc) (cells slots : Nat) (ls : Array Slot), (k a0 u0).1 h = some (r, h') → gI G h0 h H locs cells slots → lv_has ls 4 [(0, .ref a0)] → W p l e (g_rm 3 62 h0 h') s m args below meth c H locs cells slots (gQ G below args s h0 h' (.inl (g_wI r))) (F0 m 33 ls [.int u0])
abbrev w_X8_isTold_32 (G : gG) (l : Launch) (p : Program) (e : Env) (s : State) (m : MethodId) (args : Array Value) (below : List Frame) (meth : Method) (c : Code) (h0 : g_H) (r : Int32) (h' : g_H) (k : Nat → gM Int32) : Prop := ∀ (a0 : Nat) (h : g_H) (H : Heap) (locs : List Loc) (cells slots : Nat) (ls : Array Slot), (k a0).1 h = some (r, h') → gI G h0 h H locs cells slots → lv_has ls 4 [(0, .ref a0)] → W p l e (g_rm 3 62 h0 h') s m args below meth c H locs cells slots (gQ G below args s h0 h' (.inl (g_wI r))) (F0 m 32 ls [])
def f_X8_isTold_65 (k36 : Nat → Int32 → Int32 → gM Int32) (a0 : Nat) (x3 : Int32) (u0 : Int32) : gM Int32 :=
    k36 a0 u0 (x3 + (2 : Int32))
set_option maxHeartbeats 4000000 in
set_option maxRecDepth 100000 in
theorem b_X8_isTold_65 {G : gG} {l : Launch} {p : Program} {e : Env} {s : State} {m : MethodId} {args : Array Value} {below : List Frame} {meth : Method} {c : Code} {h0 : g_H} {r : Int32} {h' : g_H} (X : gX G l yX8_isTold.cls cX8_isTold 4 (some .boolean) [] yX8_isTold.name p s m args meth c) {k36 : Nat → Int32 → Int32 → gM Int32} (K36 : w_X8_isTold_36 G l p e s m args below meth c h0 r h' k36) : w_X8_isTold_65 G l p e s m args below meth c h0 r h' (f_X8_isTold_65 k36) := by
  have hx := X.1
  have hb := X.2.1
  have hown := X.2.2.2.1
  have hts := X.2.2.2.2.1
  intro a0 x3 u0 h H locs cells slots ls hf hI hl
  unfold f_X8_isTold_65 at hf
  refine lv_istore_n (lv' := [(2, .int u0), (0, .ref a0), (3, .int x3)]) hx hb dX8_isTold_65 rfl hl (by decide) rfl (fun ls hl => ?_)
  refine lv_iinc (v := (x3 + (2 : Int32))) (lv' := [(3, .int (x3 + (2 : Int32))), (2, .int u0), (0, .ref a0)]) hx hb dX8_isTold_66 hl (k := 2) rfl rfl (by decide) rfl (fun ls hl => ?_)
  refine lv_goto (tgt := 36) hx hb dX8_isTold_69 (by decide) ?_
  exact K36 _ _ _ _ _ _ _ _ _ hf hI (lv_sub hl [2, 1, 0] rfl)
def f_X8_isTold_72 (x2 : Int32) : gM Int32 :=
    gB (gGd (x2 = 0 ∨ x2 = 1)) fun _ =>
    (gRet x2)
set_option maxHeartbeats 4000000 in
set_option maxRecDepth 100000 in
theorem b_X8_isTold_72 {G : gG} {l : Launch} {p : Program} {e : Env} {s : State} {m : MethodId} {args : Array Value} {below : List Frame} {meth : Method} {c : Code} {h0 : g_H} {r : Int32} {h' : g_H} (X : gX G l yX8_isTold.cls cX8_isTold 4 (some .boolean) [] yX8_isTold.name p s m args meth c) : w_X8_isTold_72 G l p e s m args below meth c h0 r h' (f_X8_isTold_72) := by
  have hx := X.1
  have hb := X.2.1
  have hown := X.2.2.2.1
  have hts := X.2.2.2.2.1
  intro x2 h H locs cells slots ls hf hI hl
  unfold f_X8_isTold_72 at hf
  refine lv_iload_n hx hb dX8_isTold_72 rfl (lv_at hl 0 rfl) ?_
  obtain ⟨hz, hf⟩ := gB_gd hf
  cases gRet_e hf
  exact g_retZ X hI hz rfl dX8_isTold_73
def f_X8_isTold_36 : Nat → Nat → Int32 → Int32 → gM Int32
  | 0, _, _, _ => gFail
  | n + 1, a0, x2, x3 =>
    gB (gFI a0 7 11) fun v101 =>
    gIf (v101 ≤ x3)
    (f_X8_isTold_72 x2)
    (gIf (x2 = 0)
    (f_X8_isTold_72 x2)
    (gB (gFR a0 7 8) fun v102 =>
    gB (gAI v102 1 x3) fun v103 =>
    gB (f_X8_noSlot v103) fun r104 =>
    gIf (r104 = 0)
    (f_X8_isTold_65 (f_X8_isTold_36 n) a0 x3 (1 : Int32))
    (f_X8_isTold_65 (f_X8_isTold_36 n) a0 x3 (0 : Int32))))
set_option maxHeartbeats 4000000 in
set_option maxRecDepth 100000 in
theorem b_X8_isTold_36 {G : gG} {l : Launch} {p : Program} {e : Env} {s : State} {m : MethodId} {args : Array Value} {below : List Frame} {meth : Method} {c : Code} {h0 : g_H} {r : Int32} {h' : g_H} (X : gX G l yX8_isTold.cls cX8_isTold 4 (some .boolean) [] yX8_isTold.name p s m args meth c) : ∀ n : Nat, w_X8_isTold_36 G l p e s m args below meth c h0 r h' (f_X8_isTold_36 n) := by
  have hx := X.1
  have hb := X.2.1
  have hown := X.2.2.2.1
  have hts := X.2.2.2.2.1
  intro n
  induction n with
  | zero =>
    intro a0 x2 x3 h H locs cells slots ls hf hI hl
    exact (gFail_f hf).elim
  | succ n ih =>
    intro a0 x2 x3 h H locs cells slots ls hf hI hl
    rw [f_X8_isTold_36] at hf
    refine lv_iload_n hx hb dX8_isTold_36 rfl (lv_at hl 2 rfl) ?_
    refine lv_aload_n hx hb dX8_isTold_37 rfl (lv_at hl 0 rfl) ?_
    refine g_fi X hI hf fX8_11 q1455 rfl rfl dX8_isTold_38 (fun v101 hf => ?_)
    refine lv_icmp_ge (tgt := 72) hx hb dX8_isTold_41 (by decide) (fun c41 => ?_) (fun c41 => ?_)
    · have hf := g_t c41 hf
      exact b_X8_isTold_72 X _ _ _ _ _ _ _ hf hI (lv_sub hl [1] rfl)
    · have hf := g_f c41 hf
      refine lv_iload_n hx hb dX8_isTold_44 rfl (lv_at hl 1 rfl) ?_
      refine lv_if_eq (tgt := 72) hx hb dX8_isTold_45 (by decide) (fun c45 => ?_) (fun c45 => ?_)
      · have hf := g_t c45 hf
        exact b_X8_isTold_72 X _ _ _ _ _ _ _ hf hI (lv_sub hl [1] rfl)
      · have hf := g_f c45 hf
        refine lv_aload_n hx hb dX8_isTold_48 rfl (lv_at hl 0 rfl) ?_
        refine g_fr X hI hf fX8_8 q1452 rfl rfl dX8_isTold_49 (fun v102 hf => ?_)
        refine lv_iload_n hx hb dX8_isTold_52 rfl (lv_at hl 2 rfl) ?_
        refine g_ai1 X hI hf dX8_isTold_53 (fun v103 hf => ?_)
        refine g_cBI hI hf (fun v9 h9 e9 l9 l9' => g_rS (b := 0) X hI l9 l9' ⟨Nat.le_refl _, Nat.le_refl _⟩ (As := [.int v103]) (m_X8_noSlot X.2.2.2.2.2.2.2.2.2.2.1 e9) ydX8_noSlot q1756 q1757 q131 q1758 rfl (Nat.le_of_ble_eq_true rfl) (Nat.le_of_ble_eq_true rfl) hl.1 rfl (Nat.le_of_ble_eq_true rfl) dX8_isTold_54) (fun r104 h H locs cells slots hf hI => ?_)
        refine lv_if_ne (tgt := 64) hx hb dX8_isTold_57 (by decide) (fun c57 => ?_) (fun c57 => ?_)
        · have hf := g_f c57 hf
          refine lv_iconst (v := (0 : Int32)) hx hb dX8_isTold_64 (by decide) ?_
          exact b_X8_isTold_65 X ih _ _ _ _ _ _ _ _ _ hf hI (lv_sub hl [0, 2] rfl)
        · have hf := g_t c57 hf
          refine lv_iconst (v := (1 : Int32)) hx hb dX8_isTold_60 (by decide) ?_
          refine lv_goto (tgt := 65) hx hb dX8_isTold_61 (by decide) ?_
          exact b_X8_isTold_65 X ih _ _ _ _ _ _ _ _ _ hf hI (lv_sub hl [0, 2] rfl)
def f_X8_isTold_33 (a0 : Nat) (u0 : Int32) : gM Int32 :=
    f_X8_isTold_36 gN a0 u0 (0 : Int32)
set_option maxHeartbeats 4000000 in
set_option maxRecDepth 100000 in
theorem b_X8_isTold_33 {G : gG} {l : Launch} {p : Program} {e : Env} {s : State} {m : MethodId} {args : Array Value} {below : List Frame} {meth : Method} {c : Code} {h0 : g_H} {r : Int32} {h' : g_H} (X : gX G l yX8_isTold.cls cX8_isTold 4 (some .boolean) [] yX8_isTold.name p s m args meth c) : w_X8_isTold_33 G l p e s m args below meth c h0 r h' (f_X8_isTold_33) := by
  have hx := X.1
  have hb := X.2.1
  have hown := X.2.2.2.1
  have hts := X.2.2.2.2.1
  intro a0 u0 h H locs cells slots ls hf hI hl
  unfold f_X8_isTold_33 at hf
  refine lv_istore_n (lv' := [(2, .int u0), (0, .ref a0)]) hx hb dX8_isTold_33 rfl hl (by decide) rfl (fun ls hl => ?_)
  refine lv_iconst (v := (0 : Int32)) hx hb dX8_isTold_34 (by decide) ?_
  refine lv_istore_n (lv' := [(3, .int (0 : Int32)), (2, .int u0), (0, .ref a0)]) hx hb dX8_isTold_35 rfl hl (by decide) rfl (fun ls hl => ?_)
  exact b_X8_isTold_36 X gN _ _ _ _ _ _ _ _ _ hf hI (lv_sub hl [2, 1, 0] rfl)
def f_X8_isTold_32 (a0 : Nat) : gM Int32 :=
    f_X8_isTold_33 a0 (0 : Int32)
set_option maxHeartbeats 4000000 in
set_option maxRecDepth 100000 in
theorem b_X8_isTold_32 {G : gG} {l : Launch} {p : Program} {e : Env} {s : State} {m : MethodId} {args : Array Value} {below : List Frame} {meth : Method} {c : Code} {h0 : g_H} {r : Int32} {h' : g_H} (X : gX G l yX8_isTold.cls cX8_isTold 4 (some .boolean) [] yX8_isTold.name p s m args meth c) : w_X8_isTold_32 G l p e s m args below meth c h0 r h' (f_X8_isTold_32) := by
  have hx := X.1
  have hb := X.2.1
  have hown := X.2.2.2.1
  have hts := X.2.2.2.2.1
  intro a0 h H locs cells slots ls hf hI hl
  unfold f_X8_isTold_32 at hf
  refine lv_iconst (v := (0 : Int32)) hx hb dX8_isTold_32 (by decide) ?_
  exact b_X8_isTold_33 X _ _ _ _ _ _ _ _ hf hI (lv_sub hl [0] rfl)
def f_X8_isTold (a0 : Nat) (x1 : Int32) : gM Int32 :=
    gB (gFI a0 7 11) fun v1 =>
    gIf ((v1 - v1 / (2 : Int32) * (2 : Int32)) = 0)
    (gB (gFI a0 7 11) fun v2 =>
    gIf ((40 : Int32) < v2)
    (f_X8_isTold_32 a0)
    (gB (f_X8_in x1 (1 : Int32) (60 : Int32)) fun r3 =>
    gIf (r3 = 0)
    (f_X8_isTold_32 a0)
    (f_X8_isTold_33 a0 (1 : Int32))))
    (f_X8_isTold_32 a0)
set_option maxHeartbeats 4000000 in
set_option maxRecDepth 100000 in
theorem m_X8_isTold {G : gG} {l : Launch} (hfl : l.stackTraces = false) {a0 : Nat} {x1 : Int32} {h h' : g_H} {r : Int32} (hf : (f_X8_isTold a0 x1).1 h = some (r, h')) : gMet G l yX8_isTold (Cond.code yX8_isTold cX8_isTold 4 (some .boolean)) 3 62 [.ref a0, .int x1] h (.inl (g_wI r)) h' := by
  refine g_head hfl ((f_X8_isTold a0 x1).2 h r h' hf) (plainFor_of_name (by decide)) (Nat.le_of_ble_eq_true rfl) (fun p e s m below meth c H locs cells slots ls X hI hl9 => ?_)
  have hl : lv_has ls 4 [(0, .ref a0), (1, .int x1)] := hl9
  have hx := X.1
  have hb := X.2.1
  have hown := X.2.2.2.1
  have hts := X.2.2.2.2.1
  unfold f_X8_isTold at hf
  refine lv_aload_n hx hb dX8_isTold_0 rfl (lv_at hl 0 rfl) ?_
  refine g_fi X hI hf fX8_11 q1455 rfl rfl dX8_isTold_1 (fun v1 hf => ?_)
  refine lv_iconst (v := (2 : Int32)) hx hb dX8_isTold_4 (by decide) ?_
  refine lv_irem hx hb dX8_isTold_5 (by decide) ?_
  refine lv_if_ne (tgt := 32) hx hb dX8_isTold_6 (by decide) (fun c6 => ?_) (fun c6 => ?_)
  · have hf := g_f c6 hf
    exact b_X8_isTold_32 X _ _ _ _ _ _ _ hf hI (lv_sub hl [0] rfl)
  · have hf := g_t c6 hf
    refine lv_aload_n hx hb dX8_isTold_9 rfl (lv_at hl 0 rfl) ?_
    refine g_fi X hI hf fX8_11 q1455 rfl rfl dX8_isTold_10 (fun v2 hf => ?_)
    refine lv_bipush (v := (40 : Int32)) hx hb dX8_isTold_13 (by decide) ?_
    refine lv_icmp_gt (tgt := 32) hx hb dX8_isTold_15 (by decide) (fun c15 => ?_) (fun c15 => ?_)
    · have hf := g_t c15 hf
      exact b_X8_isTold_32 X _ _ _ _ _ _ _ hf hI (lv_sub hl [0] rfl)
    · have hf := g_f c15 hf
      refine lv_iload_n hx hb dX8_isTold_18 rfl (lv_at hl 1 rfl) ?_
      refine lv_iconst (v := (1 : Int32)) hx hb dX8_isTold_19 (by decide) ?_
      refine lv_bipush (v := (60 : Int32)) hx hb dX8_isTold_20 (by decide) ?_
      refine g_cBI hI hf (fun v9 h9 e9 l9 l9' => g_rS (b := 0) X hI l9 l9' ⟨Nat.le_refl _, Nat.le_refl _⟩ (As := [.int x1, .int (1 : Int32), .int (60 : Int32)]) (m_X8_in X.2.2.2.2.2.2.2.2.2.2.1 e9) ydX8_in q1634 q1635 q131 q1636 rfl (Nat.le_of_ble_eq_true rfl) (Nat.le_of_ble_eq_true rfl) hl.1 rfl (Nat.le_of_ble_eq_true rfl) dX8_isTold_22) (fun r3 h H locs cells slots hf hI => ?_)
      refine lv_if_eq (tgt := 32) hx hb dX8_isTold_25 (by decide) (fun c25 => ?_) (fun c25 => ?_)
      · have hf := g_t c25 hf
        exact b_X8_isTold_32 X _ _ _ _ _ _ _ hf hI (lv_sub hl [0] rfl)
      · have hf := g_f c25 hf
        refine lv_iconst (v := (1 : Int32)) hx hb dX8_isTold_28 (by decide) ?_
        refine lv_goto (tgt := 33) hx hb dX8_isTold_29 (by decide) ?_
        exact b_X8_isTold_33 X _ _ _ _ _ _ _ _ hf hI (lv_sub hl [0] rfl)
/-! X8_fits -/
abbrev w_X8_fits_73 (G : gG) (l : Launch) (p : Program) (e : Env) (s : State) (m : MethodId) (args : Array Value) (below : List Frame) (meth : Method) (c : Code) (h0 : g_H) (r : Int32) (h' : g_H) (k : Nat → Int32 → Int32 → gM Int32) : Prop := ∀ (a0 : Nat) (x4 : Int32) (u0 : Int32) (h : g_H) (H : Heap) (locs : List Loc) (cells slots : Nat) (ls : Array Slot), (k a0 x4 u0).1 h = some (r, h') → gI G h0 h H locs cells slots → lv_has ls 5 [(0, .ref a0), (4, .int x4)] → W p l e (g_rm 10 228 h0 h') s m args below meth c H locs cells slots (gQ G below args s h0 h' (.inl (g_wI r))) (F0 m 73 ls [.int u0])
abbrev w_X8_fits_72 (G : gG) (l : Launch) (p : Program) (e : Env) (s : State) (m : MethodId) (args : Array Value) (below : List Frame) (meth : Method) (c : Code) (h0 : g_H) (r : Int32) (h' : g_H) (k : Nat → Int32 → gM Int32) : Prop := ∀ (a0 : Nat) (x4 : Int32) (h : g_H) (H : Heap) (locs : List Loc) (cells slots : Nat) (ls : Array Slot), (k a0 x4).1 h = some (r, h') → gI G h0 h H locs cells slots → lv_has ls 5 [(0, .ref a0), (4, .int x4)] → W p l e (g_rm 10 228 h0 h') s m args below meth c H locs cells slots (gQ G below args s h0 h' (.inl (g_wI r))) (F0 m 72 ls [])
abbrev w_X8_fits_80 (G : gG) (l : Launch) (p : Program) (e : Env) (s : State) (m : MethodId) (args : Array Value) (below : List Frame) (meth : Method) (c : Code) (h0 : g_H) (r : Int32) (h' : g_H) (k : Int32 → gM Int32) : Prop := ∀ (x3 : Int32) (h : g_H) (H : Heap) (locs : List Loc) (cells slots : Nat) (ls : Array Slot), (k x3).1 h = some (r, h') → gI G h0 h H locs cells slots → lv_has ls 5 [(3, .int x3)] → W p l e (g_rm 10 228 h0 h') s m args below meth c H locs cells slots (gQ G below args s h0 h' (.inl (g_wI r))) (F0 m 80 ls [])
abbrev w_X8_fits_27 (G : gG) (l : Launch) (p : Program) (e : Env) (s : State) (m : MethodId) (args : Array Value) (below : List Frame) (meth : Method) (c : Code) (h0 : g_H) (r : Int32) (h' : g_H) (k : Nat → Int32 → Int32 → gM Int32) : Prop := ∀ (a0 : Nat) (x3 : Int32) (x4 : Int32) (h : g_H) (H : Heap) (locs : List Loc) (cells slots : Nat) (ls : Array Slot), (k a0 x3 x4).1 h = some (r, h') → gI G h0 h H locs cells slots → lv_has ls 5 [(0, .ref a0), (3, .int x3), (4, .int x4)] → W p l e (g_rm 10 228 h0 h') s m args below meth c H locs cells slots (gQ G below args s h0 h' (.inl (g_wI r))) (F0 m 27 ls [])
def f_X8_fits_73 (k27 : Nat → Int32 → Int32 → gM Int32) (a0 : Nat) (x4 : Int32) (u0 : Int32) : gM Int32 :=
    k27 a0 u0 (x4 + (2 : Int32))
set_option maxHeartbeats 4000000 in
set_option maxRecDepth 100000 in
theorem b_X8_fits_73 {G : gG} {l : Launch} {p : Program} {e : Env} {s : State} {m : MethodId} {args : Array Value} {below : List Frame} {meth : Method} {c : Code} {h0 : g_H} {r : Int32} {h' : g_H} (X : gX G l yX8_fits.cls cX8_fits 5 (some .boolean) [] yX8_fits.name p s m args meth c) {k27 : Nat → Int32 → Int32 → gM Int32} (K27 : w_X8_fits_27 G l p e s m args below meth c h0 r h' k27) : w_X8_fits_73 G l p e s m args below meth c h0 r h' (f_X8_fits_73 k27) := by
  have hx := X.1
  have hb := X.2.1
  have hown := X.2.2.2.1
  have hts := X.2.2.2.2.1
  intro a0 x4 u0 h H locs cells slots ls hf hI hl
  unfold f_X8_fits_73 at hf
  refine lv_istore_n (lv' := [(3, .int u0), (0, .ref a0), (4, .int x4)]) hx hb dX8_fits_73 rfl hl (by decide) rfl (fun ls hl => ?_)
  refine lv_iinc (v := (x4 + (2 : Int32))) (lv' := [(4, .int (x4 + (2 : Int32))), (3, .int u0), (0, .ref a0)]) hx hb dX8_fits_74 hl (k := 2) rfl rfl (by decide) rfl (fun ls hl => ?_)
  refine lv_goto (tgt := 27) hx hb dX8_fits_77 (by decide) ?_
  exact K27 _ _ _ _ _ _ _ _ _ hf hI (lv_sub hl [2, 1, 0] rfl)
def f_X8_fits_72 (k27 : Nat → Int32 → Int32 → gM Int32) (a0 : Nat) (x4 : Int32) : gM Int32 :=
    f_X8_fits_73 k27 a0 x4 (0 : Int32)
set_option maxHeartbeats 4000000 in
set_option maxRecDepth 100000 in
theorem b_X8_fits_72 {G : gG} {l : Launch} {p : Program} {e : Env} {s : State} {m : MethodId} {args : Array Value} {below : List Frame} {meth : Method} {c : Code} {h0 : g_H} {r : Int32} {h' : g_H} (X : gX G l yX8_fits.cls cX8_fits 5 (some .boolean) [] yX8_fits.name p s m args meth c) {k27 : Nat → Int32 → Int32 → gM Int32} (K27 : w_X8_fits_27 G l p e s m args below meth c h0 r h' k27) : w_X8_fits_72 G l p e s m args below meth c h0 r h' (f_X8_fits_72 k27) := by
  have hx := X.1
  have hb := X.2.1
  have hown := X.2.2.2.1
  have hts := X.2.2.2.2.1
  intro a0 x4 h H locs cells slots ls hf hI hl
  unfold f_X8_fits_72 at hf
  refine lv_iconst (v := (0 : Int32)) hx hb dX8_fits_72 (by decide) ?_
  exact b_X8_fits_73 X K27 _ _ _ _ _ _ _ _ _ hf hI (lv_sub hl [0, 1] rfl)
def f_X8_fits_80 (x3 : Int32) : gM Int32 :=
    gB (gGd (x3 = 0 ∨ x3 = 1)) fun _ =>
    (gRet x3)
set_option maxHeartbeats 4000000 in
set_option maxRecDepth 100000 in
theorem b_X8_fits_80 {G : gG} {l : Launch} {p : Program} {e : Env} {s : State} {m : MethodId} {args : Array Value} {below : List Frame} {meth : Method} {c : Code} {h0 : g_H} {r : Int32} {h' : g_H} (X : gX G l yX8_fits.cls cX8_fits 5 (some .boolean) [] yX8_fits.name p s m args meth c) : w_X8_fits_80 G l p e s m args below meth c h0 r h' (f_X8_fits_80) := by
  have hx := X.1
  have hb := X.2.1
  have hown := X.2.2.2.1
  have hts := X.2.2.2.2.1
  intro x3 h H locs cells slots ls hf hI hl
  unfold f_X8_fits_80 at hf
  refine lv_iload_n hx hb dX8_fits_80 rfl (lv_at hl 0 rfl) ?_
  obtain ⟨hz, hf⟩ := gB_gd hf
  cases gRet_e hf
  exact g_retZ X hI hz rfl dX8_fits_81
def f_X8_fits_27 : Nat → Nat → Int32 → Int32 → gM Int32
  | 0, _, _, _ => gFail
  | n + 1, a0, x3, x4 =>
    gB (gFI a0 7 11) fun v101 =>
    gIf (v101 ≤ x4)
    (f_X8_fits_80 x3)
    (gIf (x3 = 0)
    (f_X8_fits_72 (f_X8_fits_27 n) a0 x4)
    (gB (gFR a0 7 26) fun v102 =>
    gB (gFR a0 7 8) fun v103 =>
    gB (gAI v103 1 x4) fun v104 =>
    gB (gAI v102 0 v104) fun v105 =>
    gB (gFR a0 7 8) fun v106 =>
    gB (gAI v106 1 (x4 + (1 : Int32))) fun v107 =>
    gIf (v105 = (v107 &&& (255 : Int32)))
    (f_X8_fits_73 (f_X8_fits_27 n) a0 x4 (1 : Int32))
    (f_X8_fits_72 (f_X8_fits_27 n) a0 x4)))
set_option maxHeartbeats 4000000 in
set_option maxRecDepth 100000 in
theorem b_X8_fits_27 {G : gG} {l : Launch} {p : Program} {e : Env} {s : State} {m : MethodId} {args : Array Value} {below : List Frame} {meth : Method} {c : Code} {h0 : g_H} {r : Int32} {h' : g_H} (X : gX G l yX8_fits.cls cX8_fits 5 (some .boolean) [] yX8_fits.name p s m args meth c) : ∀ n : Nat, w_X8_fits_27 G l p e s m args below meth c h0 r h' (f_X8_fits_27 n) := by
  have hx := X.1
  have hb := X.2.1
  have hown := X.2.2.2.1
  have hts := X.2.2.2.2.1
  intro n
  induction n with
  | zero =>
    intro a0 x3 x4 h H locs cells slots ls hf hI hl
    exact (gFail_f hf).elim
  | succ n ih =>
    intro a0 x3 x4 h H locs cells slots ls hf hI hl
    rw [f_X8_fits_27] at hf
    refine lv_iload hx hb dX8_fits_27 (lv_at hl 2 rfl) ?_
    refine lv_aload_n hx hb dX8_fits_29 rfl (lv_at hl 0 rfl) ?_
    refine g_fi X hI hf fX8_11 q1455 rfl rfl dX8_fits_30 (fun v101 hf => ?_)
    refine lv_icmp_ge (tgt := 80) hx hb dX8_fits_33 (by decide) (fun c33 => ?_) (fun c33 => ?_)
    · have hf := g_t c33 hf
      exact b_X8_fits_80 X _ _ _ _ _ _ _ hf hI (lv_sub hl [1] rfl)
    · have hf := g_f c33 hf
      refine lv_iload_n hx hb dX8_fits_36 rfl (lv_at hl 1 rfl) ?_
      refine lv_if_eq (tgt := 72) hx hb dX8_fits_37 (by decide) (fun c37 => ?_) (fun c37 => ?_)
      · have hf := g_t c37 hf
        exact b_X8_fits_72 X ih _ _ _ _ _ _ _ _ hf hI (lv_sub hl [0, 2] rfl)
      · have hf := g_f c37 hf
        refine lv_aload_n hx hb dX8_fits_40 rfl (lv_at hl 0 rfl) ?_
        refine g_fr X hI hf fX8_26 q1470 rfl rfl dX8_fits_41 (fun v102 hf => ?_)
        refine lv_aload_n hx hb dX8_fits_44 rfl (lv_at hl 0 rfl) ?_
        refine g_fr X hI hf fX8_8 q1452 rfl rfl dX8_fits_45 (fun v103 hf => ?_)
        refine lv_iload hx hb dX8_fits_48 (lv_at hl 2 rfl) ?_
        refine g_ai1 X hI hf dX8_fits_50 (fun v104 hf => ?_)
        refine g_ai0 X hI hf dX8_fits_51 (fun v105 hf => ?_)
        refine lv_aload_n hx hb dX8_fits_52 rfl (lv_at hl 0 rfl) ?_
        refine g_fr X hI hf fX8_8 q1452 rfl rfl dX8_fits_53 (fun v106 hf => ?_)
        refine lv_iload hx hb dX8_fits_56 (lv_at hl 2 rfl) ?_
        refine lv_iconst (v := (1 : Int32)) hx hb dX8_fits_58 (by decide) ?_
        refine lv_iadd hx hb dX8_fits_59 ?_
        refine g_ai1 X hI hf dX8_fits_60 (fun v107 hf => ?_)
        refine lv_sipush (v := (255 : Int32)) hx hb dX8_fits_61 (by decide) ?_
        refine lv_iand hx hb dX8_fits_64 ?_
        refine lv_icmp_ne (tgt := 72) hx hb dX8_fits_65 (by decide) (fun c65 => ?_) (fun c65 => ?_)
        · have hf := g_f c65 hf
          exact b_X8_fits_72 X ih _ _ _ _ _ _ _ _ hf hI (lv_sub hl [0, 2] rfl)
        · have hf := g_t c65 hf
          refine lv_iconst (v := (1 : Int32)) hx hb dX8_fits_68 (by decide) ?_
          refine lv_goto (tgt := 73) hx hb dX8_fits_69 (by decide) ?_
          exact b_X8_fits_73 X ih _ _ _ _ _ _ _ _ _ hf hI (lv_sub hl [0, 2] rfl)
def f_X8_fits (a0 : Nat) (x1 : Int32) (x2 : Int32) : gM Int32 :=
    gB (gPI a0 7 18 x1) fun _ =>
    gB (gPI a0 7 19 x2) fun _ =>
    gB (gPI a0 7 20 (0 : Int32)) fun _ =>
    gB (gCk a0 7) fun _ =>
    gB (f_X8_rides a0 (0 : Int32) (1 : Int32)) fun r1 =>
    f_X8_fits_27 gN a0 (1 : Int32) (0 : Int32)
set_option maxHeartbeats 4000000 in
set_option maxRecDepth 100000 in
theorem m_X8_fits {G : gG} {l : Launch} (hfl : l.stackTraces = false) {a0 : Nat} {x1 : Int32} {x2 : Int32} {h h' : g_H} {r : Int32} (hf : (f_X8_fits a0 x1 x2).1 h = some (r, h')) : gMet G l yX8_fits (Cond.code yX8_fits cX8_fits 5 (some .boolean)) 10 228 [.ref a0, .int x1, .int x2] h (.inl (g_wI r)) h' := by
  refine g_head hfl ((f_X8_fits a0 x1 x2).2 h r h' hf) (plainFor_of_name (by decide)) (Nat.le_of_ble_eq_true rfl) (fun p e s m below meth c H locs cells slots ls X hI hl9 => ?_)
  have hl : lv_has ls 5 [(0, .ref a0), (1, .int x1), (2, .int x2)] := hl9
  have hx := X.1
  have hb := X.2.1
  have hown := X.2.2.2.1
  have hts := X.2.2.2.2.1
  unfold f_X8_fits at hf
  refine lv_aload_n hx hb dX8_fits_0 rfl (lv_at hl 0 rfl) ?_
  refine lv_iload_n hx hb dX8_fits_1 rfl (lv_at hl 1 rfl) ?_
  refine g_pi X hI hf fX8_18 q1462 rfl dX8_fits_2 (fun h H locs hf hI => ?_)
  refine lv_aload_n hx hb dX8_fits_5 rfl (lv_at hl 0 rfl) ?_
  refine lv_iload_n hx hb dX8_fits_6 rfl (lv_at hl 2 rfl) ?_
  refine g_pi X hI hf fX8_19 q1463 rfl dX8_fits_7 (fun h H locs hf hI => ?_)
  refine lv_aload_n hx hb dX8_fits_10 rfl (lv_at hl 0 rfl) ?_
  refine lv_iconst (v := (0 : Int32)) hx hb dX8_fits_11 (by decide) ?_
  refine g_pi X hI hf fX8_20 q1464 rfl dX8_fits_12 (fun h H locs hf hI => ?_)
  refine lv_aload_n hx hb dX8_fits_15 rfl (lv_at hl 0 rfl) ?_
  refine lv_iconst (v := (0 : Int32)) hx hb dX8_fits_16 (by decide) ?_
  refine lv_iconst (v := (1 : Int32)) hx hb dX8_fits_17 (by decide) ?_
  obtain ⟨hs, hf⟩ := gCk_b hf
  refine g_cBI hI hf (fun v9 h9 e9 l9 l9' => g_rV X hI l9 l9' ⟨Nat.le_refl _, Nat.le_refl _⟩ (As := [.int (0 : Int32), .int (1 : Int32)]) (m_X8_rides X.2.2.2.2.2.2.2.2.2.2.1 e9) ydX8_rides hs rfl rfl q1812 q1814 qs84 q131 q1815 rfl (Nat.le_of_ble_eq_true rfl) (Nat.le_of_ble_eq_true rfl) hl.1 rfl (Nat.le_of_ble_eq_true rfl) dX8_fits_18) (fun r1 h H locs cells slots hf hI => ?_)
  refine lv_pop hx hb dX8_fits_21 rfl ?_
  refine lv_iconst (v := (1 : Int32)) hx hb dX8_fits_22 (by decide) ?_
  refine lv_istore_n (lv' := [(3, .int (1 : Int32)), (0, .ref a0), (1, .int x1), (2, .int x2)]) hx hb dX8_fits_23 rfl hl (by decide) rfl (fun ls hl => ?_)
  refine lv_iconst (v := (0 : Int32)) hx hb dX8_fits_24 (by decide) ?_
  refine lv_istore (lv' := [(4, .int (0 : Int32)), (3, .int (1 : Int32)), (0, .ref a0), (1, .int x1), (2, .int x2)]) hx hb dX8_fits_25 hl (by decide) rfl (fun ls hl => ?_)
  exact b_X8_fits_27 X gN _ _ _ _ _ _ _ _ _ hf hI (lv_sub hl [2, 1, 0] rfl)
end
