noncomputable section
/-! L_law -/
abbrev w_L_law_319 (G : gG) (l : Launch) (p : Program) (e : Env) (s : State) (m : MethodId) (args : Array Value) (below : List Frame) (meth : Method) (c : Code) (h0 : g_H) (r : Int32) (h' : g_H) (k : gM Int32) : Prop := ∀ (h : g_H) (H : Heap) (locs : List Loc) (cells slots : Nat) (ls : Array Slot), (k).1 h = some (r, h') → gI G h0 h H locs cells slots → lv_has ls 7 [] → W p l e room_1 s m args below meth c H locs cells slots (lw_Z below args s) (F0 m 319 ls [])
abbrev w_L_law_2492 (G : gG) (l : Launch) (p : Program) (e : Env) (s : State) (m : MethodId) (args : Array Value) (below : List Frame) (meth : Method) (c : Code) (h0 : g_H) (r : Int32) (h' : g_H) (k : Nat → Nat → Nat → Nat → Int32 → gM Int32) : Prop := ∀ (a0 : Nat) (a1 : Nat) (a2 : Nat) (a3 : Nat) (x4 : Int32) (h : g_H) (H : Heap) (locs : List Loc) (cells slots : Nat) (ls : Array Slot), (k a0 a1 a2 a3 x4).1 h = some (r, h') → gI G h0 h H locs cells slots → lv_has ls 7 [(0, .ref a0), (1, .ref a1), (2, .ref a2), (3, .ref a3), (4, .int x4)] → W p l e room_1 s m args below meth c H locs cells slots (lw_Z below args s) (F0 m 2492 ls [])
abbrev w_L_law_344 (G : gG) (l : Launch) (p : Program) (e : Env) (s : State) (m : MethodId) (args : Array Value) (below : List Frame) (meth : Method) (c : Code) (h0 : g_H) (r : Int32) (h' : g_H) (k : gM Int32) : Prop := ∀ (h : g_H) (H : Heap) (locs : List Loc) (cells slots : Nat) (ls : Array Slot), (k).1 h = some (r, h') → gI G h0 h H locs cells slots → lv_has ls 7 [] → W p l e room_1 s m args below meth c H locs cells slots (lw_Z below args s) (F0 m 344 ls [])
abbrev w_L_law_368 (G : gG) (l : Launch) (p : Program) (e : Env) (s : State) (m : MethodId) (args : Array Value) (below : List Frame) (meth : Method) (c : Code) (h0 : g_H) (r : Int32) (h' : g_H) (k : gM Int32) : Prop := ∀ (h : g_H) (H : Heap) (locs : List Loc) (cells slots : Nat) (ls : Array Slot), (k).1 h = some (r, h') → gI G h0 h H locs cells slots → lv_has ls 7 [] → W p l e room_1 s m args below meth c H locs cells slots (lw_Z below args s) (F0 m 368 ls [])
abbrev w_L_law_385 (G : gG) (l : Launch) (p : Program) (e : Env) (s : State) (m : MethodId) (args : Array Value) (below : List Frame) (meth : Method) (c : Code) (h0 : g_H) (r : Int32) (h' : g_H) (k : gM Int32) : Prop := ∀ (h : g_H) (H : Heap) (locs : List Loc) (cells slots : Nat) (ls : Array Slot), (k).1 h = some (r, h') → gI G h0 h H locs cells slots → lv_has ls 7 [] → W p l e room_1 s m args below meth c H locs cells slots (lw_Z below args s) (F0 m 385 ls [])
abbrev w_L_law_387 (G : gG) (l : Launch) (p : Program) (e : Env) (s : State) (m : MethodId) (args : Array Value) (below : List Frame) (meth : Method) (c : Code) (h0 : g_H) (r : Int32) (h' : g_H) (k : Nat → Nat → Nat → Nat → Int32 → gM Int32) : Prop := ∀ (a0 : Nat) (a1 : Nat) (a2 : Nat) (a3 : Nat) (x4 : Int32) (h : g_H) (H : Heap) (locs : List Loc) (cells slots : Nat) (ls : Array Slot), (k a0 a1 a2 a3 x4).1 h = some (r, h') → gI G h0 h H locs cells slots → lv_has ls 7 [(0, .ref a0), (1, .ref a1), (2, .ref a2), (3, .ref a3), (4, .int x4)] → W p l e room_1 s m args below meth c H locs cells slots (lw_Z below args s) (F0 m 387 ls [])
abbrev w_L_law_412 (G : gG) (l : Launch) (p : Program) (e : Env) (s : State) (m : MethodId) (args : Array Value) (below : List Frame) (meth : Method) (c : Code) (h0 : g_H) (r : Int32) (h' : g_H) (k : gM Int32) : Prop := ∀ (h : g_H) (H : Heap) (locs : List Loc) (cells slots : Nat) (ls : Array Slot), (k).1 h = some (r, h') → gI G h0 h H locs cells slots → lv_has ls 7 [] → W p l e room_1 s m args below meth c H locs cells slots (lw_Z below args s) (F0 m 412 ls [])
abbrev w_L_law_429 (G : gG) (l : Launch) (p : Program) (e : Env) (s : State) (m : MethodId) (args : Array Value) (below : List Frame) (meth : Method) (c : Code) (h0 : g_H) (r : Int32) (h' : g_H) (k : gM Int32) : Prop := ∀ (h : g_H) (H : Heap) (locs : List Loc) (cells slots : Nat) (ls : Array Slot), (k).1 h = some (r, h') → gI G h0 h H locs cells slots → lv_has ls 7 [] → W p l e room_1 s m args below meth c H locs cells slots (lw_Z below args s) (F0 m 429 ls [])
abbrev w_L_law_431 (G : gG) (l : Launch) (p : Program) (e : Env) (s : State) (m : MethodId) (args : Array Value) (below : List Frame) (meth : Method) (c : Code) (h0 : g_H) (r : Int32) (h' : g_H) (k : Nat → Nat → Nat → Nat → Int32 → gM Int32) : Prop := ∀ (a0 : Nat) (a1 : Nat) (a2 : Nat) (a3 : Nat) (x4 : Int32) (h : g_H) (H : Heap) (locs : List Loc) (cells slots : Nat) (ls : Array Slot), (k a0 a1 a2 a3 x4).1 h = some (r, h') → gI G h0 h H locs cells slots → lv_has ls 7 [(0, .ref a0), (1, .ref a1), (2, .ref a2), (3, .ref a3), (4, .int x4)] → W p l e room_1 s m args below meth c H locs cells slots (lw_Z below args s) (F0 m 431 ls [])
abbrev w_L_law_445 (G : gG) (l : Launch) (p : Program) (e : Env) (s : State) (m : MethodId) (args : Array Value) (below : List Frame) (meth : Method) (c : Code) (h0 : g_H) (r : Int32) (h' : g_H) (k : gM Int32) : Prop := ∀ (h : g_H) (H : Heap) (locs : List Loc) (cells slots : Nat) (ls : Array Slot), (k).1 h = some (r, h') → gI G h0 h H locs cells slots → lv_has ls 7 [] → W p l e room_1 s m args below meth c H locs cells slots (lw_Z below args s) (F0 m 445 ls [])
abbrev w_L_law_493 (G : gG) (l : Launch) (p : Program) (e : Env) (s : State) (m : MethodId) (args : Array Value) (below : List Frame) (meth : Method) (c : Code) (h0 : g_H) (r : Int32) (h' : g_H) (k : gM Int32) : Prop := ∀ (h : g_H) (H : Heap) (locs : List Loc) (cells slots : Nat) (ls : Array Slot), (k).1 h = some (r, h') → gI G h0 h H locs cells slots → lv_has ls 7 [] → W p l e room_1 s m args below meth c H locs cells slots (lw_Z below args s) (F0 m 493 ls [])
abbrev w_L_law_510 (G : gG) (l : Launch) (p : Program) (e : Env) (s : State) (m : MethodId) (args : Array Value) (below : List Frame) (meth : Method) (c : Code) (h0 : g_H) (r : Int32) (h' : g_H) (k : gM Int32) : Prop := ∀ (h : g_H) (H : Heap) (locs : List Loc) (cells slots : Nat) (ls : Array Slot), (k).1 h = some (r, h') → gI G h0 h H locs cells slots → lv_has ls 7 [] → W p l e room_1 s m args below meth c H locs cells slots (lw_Z below args s) (F0 m 510 ls [])
abbrev w_L_law_512 (G : gG) (l : Launch) (p : Program) (e : Env) (s : State) (m : MethodId) (args : Array Value) (below : List Frame) (meth : Method) (c : Code) (h0 : g_H) (r : Int32) (h' : g_H) (k : Nat → Nat → Nat → Nat → Int32 → gM Int32) : Prop := ∀ (a0 : Nat) (a1 : Nat) (a2 : Nat) (a3 : Nat) (x4 : Int32) (h : g_H) (H : Heap) (locs : List Loc) (cells slots : Nat) (ls : Array Slot), (k a0 a1 a2 a3 x4).1 h = some (r, h') → gI G h0 h H locs cells slots → lv_has ls 7 [(0, .ref a0), (1, .ref a1), (2, .ref a2), (3, .ref a3), (4, .int x4)] → W p l e room_1 s m args below meth c H locs cells slots (lw_Z below args s) (F0 m 512 ls [])
abbrev w_L_law_549 (G : gG) (l : Launch) (p : Program) (e : Env) (s : State) (m : MethodId) (args : Array Value) (below : List Frame) (meth : Method) (c : Code) (h0 : g_H) (r : Int32) (h' : g_H) (k : gM Int32) : Prop := ∀ (h : g_H) (H : Heap) (locs : List Loc) (cells slots : Nat) (ls : Array Slot), (k).1 h = some (r, h') → gI G h0 h H locs cells slots → lv_has ls 7 [] → W p l e room_1 s m args below meth c H locs cells slots (lw_Z below args s) (F0 m 549 ls [])
abbrev w_L_law_566 (G : gG) (l : Launch) (p : Program) (e : Env) (s : State) (m : MethodId) (args : Array Value) (below : List Frame) (meth : Method) (c : Code) (h0 : g_H) (r : Int32) (h' : g_H) (k : gM Int32) : Prop := ∀ (h : g_H) (H : Heap) (locs : List Loc) (cells slots : Nat) (ls : Array Slot), (k).1 h = some (r, h') → gI G h0 h H locs cells slots → lv_has ls 7 [] → W p l e room_1 s m args below meth c H locs cells slots (lw_Z below args s) (F0 m 566 ls [])
abbrev w_L_law_568 (G : gG) (l : Launch) (p : Program) (e : Env) (s : State) (m : MethodId) (args : Array Value) (below : List Frame) (meth : Method) (c : Code) (h0 : g_H) (r : Int32) (h' : g_H) (k : Nat → Nat → Nat → Nat → Int32 → gM Int32) : Prop := ∀ (a0 : Nat) (a1 : Nat) (a2 : Nat) (a3 : Nat) (x4 : Int32) (h : g_H) (H : Heap) (locs : List Loc) (cells slots : Nat) (ls : Array Slot), (k a0 a1 a2 a3 x4).1 h = some (r, h') → gI G h0 h H locs cells slots → lv_has ls 7 [(0, .ref a0), (1, .ref a1), (2, .ref a2), (3, .ref a3), (4, .int x4)] → W p l e room_1 s m args below meth c H locs cells slots (lw_Z below args s) (F0 m 568 ls [])
abbrev w_L_law_617 (G : gG) (l : Launch) (p : Program) (e : Env) (s : State) (m : MethodId) (args : Array Value) (below : List Frame) (meth : Method) (c : Code) (h0 : g_H) (r : Int32) (h' : g_H) (k : gM Int32) : Prop := ∀ (h : g_H) (H : Heap) (locs : List Loc) (cells slots : Nat) (ls : Array Slot), (k).1 h = some (r, h') → gI G h0 h H locs cells slots → lv_has ls 7 [] → W p l e room_1 s m args below meth c H locs cells slots (lw_Z below args s) (F0 m 617 ls [])
abbrev w_L_law_634 (G : gG) (l : Launch) (p : Program) (e : Env) (s : State) (m : MethodId) (args : Array Value) (below : List Frame) (meth : Method) (c : Code) (h0 : g_H) (r : Int32) (h' : g_H) (k : gM Int32) : Prop := ∀ (h : g_H) (H : Heap) (locs : List Loc) (cells slots : Nat) (ls : Array Slot), (k).1 h = some (r, h') → gI G h0 h H locs cells slots → lv_has ls 7 [] → W p l e room_1 s m args below meth c H locs cells slots (lw_Z below args s) (F0 m 634 ls [])
abbrev w_L_law_636 (G : gG) (l : Launch) (p : Program) (e : Env) (s : State) (m : MethodId) (args : Array Value) (below : List Frame) (meth : Method) (c : Code) (h0 : g_H) (r : Int32) (h' : g_H) (k : Nat → Nat → Nat → Nat → Int32 → gM Int32) : Prop := ∀ (a0 : Nat) (a1 : Nat) (a2 : Nat) (a3 : Nat) (x4 : Int32) (h : g_H) (H : Heap) (locs : List Loc) (cells slots : Nat) (ls : Array Slot), (k a0 a1 a2 a3 x4).1 h = some (r, h') → gI G h0 h H locs cells slots → lv_has ls 7 [(0, .ref a0), (1, .ref a1), (2, .ref a2), (3, .ref a3), (4, .int x4)] → W p l e room_1 s m args below meth c H locs cells slots (lw_Z below args s) (F0 m 636 ls [])
abbrev w_L_law_725 (G : gG) (l : Launch) (p : Program) (e : Env) (s : State) (m : MethodId) (args : Array Value) (below : List Frame) (meth : Method) (c : Code) (h0 : g_H) (r : Int32) (h' : g_H) (k : gM Int32) : Prop := ∀ (h : g_H) (H : Heap) (locs : List Loc) (cells slots : Nat) (ls : Array Slot), (k).1 h = some (r, h') → gI G h0 h H locs cells slots → lv_has ls 7 [] → W p l e room_1 s m args below meth c H locs cells slots (lw_Z below args s) (F0 m 725 ls [])
abbrev w_L_law_742 (G : gG) (l : Launch) (p : Program) (e : Env) (s : State) (m : MethodId) (args : Array Value) (below : List Frame) (meth : Method) (c : Code) (h0 : g_H) (r : Int32) (h' : g_H) (k : gM Int32) : Prop := ∀ (h : g_H) (H : Heap) (locs : List Loc) (cells slots : Nat) (ls : Array Slot), (k).1 h = some (r, h') → gI G h0 h H locs cells slots → lv_has ls 7 [] → W p l e room_1 s m args below meth c H locs cells slots (lw_Z below args s) (F0 m 742 ls [])
abbrev w_L_law_744 (G : gG) (l : Launch) (p : Program) (e : Env) (s : State) (m : MethodId) (args : Array Value) (below : List Frame) (meth : Method) (c : Code) (h0 : g_H) (r : Int32) (h' : g_H) (k : Nat → Nat → Nat → Nat → Int32 → gM Int32) : Prop := ∀ (a0 : Nat) (a1 : Nat) (a2 : Nat) (a3 : Nat) (x4 : Int32) (h : g_H) (H : Heap) (locs : List Loc) (cells slots : Nat) (ls : Array Slot), (k a0 a1 a2 a3 x4).1 h = some (r, h') → gI G h0 h H locs cells slots → lv_has ls 7 [(0, .ref a0), (1, .ref a1), (2, .ref a2), (3, .ref a3), (4, .int x4)] → W p l e room_1 s m args below meth c H locs cells slots (lw_Z below args s) (F0 m 744 ls [])
abbrev w_L_law_711 (G : gG) (l : Launch) (p : Program) (e : Env) (s : State) (m : MethodId) (args : Array Value) (below : List Frame) (meth : Method) (c : Code) (h0 : g_H) (r : Int32) (h' : g_H) (k : Nat → Nat → Nat → Nat → Int32 → Int32 → Nat → Int32 → Int32 → Int32 → Int32 → gM Int32) : Prop := ∀ (a0 : Nat) (a1 : Nat) (a2 : Nat) (a3 : Nat) (x4 : Int32) (x5 : Int32) (b0 : Nat) (u1 : Int32) (u2 : Int32) (u3 : Int32) (u4 : Int32) (h : g_H) (H : Heap) (locs : List Loc) (cells slots : Nat) (ls : Array Slot), (k a0 a1 a2 a3 x4 x5 b0 u1 u2 u3 u4).1 h = some (r, h') → gI G h0 h H locs cells slots → lv_has ls 7 [(0, .ref a0), (1, .ref a1), (2, .ref a2), (3, .ref a3), (4, .int x4), (5, .int x5)] → W p l e room_1 s m args below meth c H locs cells slots (lw_Z below args s) (F0 m 711 ls [.int u4, .int u3, .int u2, .int u1, .ref b0])
abbrev w_L_law_672 (G : gG) (l : Launch) (p : Program) (e : Env) (s : State) (m : MethodId) (args : Array Value) (below : List Frame) (meth : Method) (c : Code) (h0 : g_H) (r : Int32) (h' : g_H) (k : Nat → Nat → Nat → Nat → Int32 → Nat → Int32 → Int32 → Int32 → Int32 → gM Int32) : Prop := ∀ (a0 : Nat) (a1 : Nat) (a2 : Nat) (a3 : Nat) (x4 : Int32) (b0 : Nat) (u1 : Int32) (u2 : Int32) (u3 : Int32) (u4 : Int32) (h : g_H) (H : Heap) (locs : List Loc) (cells slots : Nat) (ls : Array Slot), (k a0 a1 a2 a3 x4 b0 u1 u2 u3 u4).1 h = some (r, h') → gI G h0 h H locs cells slots → lv_has ls 7 [(0, .ref a0), (1, .ref a1), (2, .ref a2), (3, .ref a3), (4, .int x4)] → W p l e room_1 s m args below meth c H locs cells slots (lw_Z below args s) (F0 m 672 ls [.int u4, .int u3, .int u2, .int u1, .ref b0])
abbrev w_L_law_781 (G : gG) (l : Launch) (p : Program) (e : Env) (s : State) (m : MethodId) (args : Array Value) (below : List Frame) (meth : Method) (c : Code) (h0 : g_H) (r : Int32) (h' : g_H) (k : gM Int32) : Prop := ∀ (h : g_H) (H : Heap) (locs : List Loc) (cells slots : Nat) (ls : Array Slot), (k).1 h = some (r, h') → gI G h0 h H locs cells slots → lv_has ls 7 [] → W p l e room_1 s m args below meth c H locs cells slots (lw_Z below args s) (F0 m 781 ls [])
abbrev w_L_law_798 (G : gG) (l : Launch) (p : Program) (e : Env) (s : State) (m : MethodId) (args : Array Value) (below : List Frame) (meth : Method) (c : Code) (h0 : g_H) (r : Int32) (h' : g_H) (k : gM Int32) : Prop := ∀ (h : g_H) (H : Heap) (locs : List Loc) (cells slots : Nat) (ls : Array Slot), (k).1 h = some (r, h') → gI G h0 h H locs cells slots → lv_has ls 7 [] → W p l e room_1 s m args below meth c H locs cells slots (lw_Z below args s) (F0 m 798 ls [])
abbrev w_L_law_800 (G : gG) (l : Launch) (p : Program) (e : Env) (s : State) (m : MethodId) (args : Array Value) (below : List Frame) (meth : Method) (c : Code) (h0 : g_H) (r : Int32) (h' : g_H) (k : Nat → Nat → Nat → Nat → Int32 → gM Int32) : Prop := ∀ (a0 : Nat) (a1 : Nat) (a2 : Nat) (a3 : Nat) (x4 : Int32) (h : g_H) (H : Heap) (locs : List Loc) (cells slots : Nat) (ls : Array Slot), (k a0 a1 a2 a3 x4).1 h = some (r, h') → gI G h0 h H locs cells slots → lv_has ls 7 [(0, .ref a0), (1, .ref a1), (2, .ref a2), (3, .ref a3), (4, .int x4)] → W p l e room_1 s m args below meth c H locs cells slots (lw_Z below args s) (F0 m 800 ls [])
abbrev w_L_law_846 (G : gG) (l : Launch) (p : Program) (e : Env) (s : State) (m : MethodId) (args : Array Value) (below : List Frame) (meth : Method) (c : Code) (h0 : g_H) (r : Int32) (h' : g_H) (k : gM Int32) : Prop := ∀ (h : g_H) (H : Heap) (locs : List Loc) (cells slots : Nat) (ls : Array Slot), (k).1 h = some (r, h') → gI G h0 h H locs cells slots → lv_has ls 7 [] → W p l e room_1 s m args below meth c H locs cells slots (lw_Z below args s) (F0 m 846 ls [])
abbrev w_L_law_885 (G : gG) (l : Launch) (p : Program) (e : Env) (s : State) (m : MethodId) (args : Array Value) (below : List Frame) (meth : Method) (c : Code) (h0 : g_H) (r : Int32) (h' : g_H) (k : gM Int32) : Prop := ∀ (h : g_H) (H : Heap) (locs : List Loc) (cells slots : Nat) (ls : Array Slot), (k).1 h = some (r, h') → gI G h0 h H locs cells slots → lv_has ls 7 [] → W p l e room_1 s m args below meth c H locs cells slots (lw_Z below args s) (F0 m 885 ls [])
abbrev w_L_law_902 (G : gG) (l : Launch) (p : Program) (e : Env) (s : State) (m : MethodId) (args : Array Value) (below : List Frame) (meth : Method) (c : Code) (h0 : g_H) (r : Int32) (h' : g_H) (k : gM Int32) : Prop := ∀ (h : g_H) (H : Heap) (locs : List Loc) (cells slots : Nat) (ls : Array Slot), (k).1 h = some (r, h') → gI G h0 h H locs cells slots → lv_has ls 7 [] → W p l e room_1 s m args below meth c H locs cells slots (lw_Z below args s) (F0 m 902 ls [])
abbrev w_L_law_904 (G : gG) (l : Launch) (p : Program) (e : Env) (s : State) (m : MethodId) (args : Array Value) (below : List Frame) (meth : Method) (c : Code) (h0 : g_H) (r : Int32) (h' : g_H) (k : Nat → Nat → Nat → Nat → Int32 → gM Int32) : Prop := ∀ (a0 : Nat) (a1 : Nat) (a2 : Nat) (a3 : Nat) (x4 : Int32) (h : g_H) (H : Heap) (locs : List Loc) (cells slots : Nat) (ls : Array Slot), (k a0 a1 a2 a3 x4).1 h = some (r, h') → gI G h0 h H locs cells slots → lv_has ls 7 [(0, .ref a0), (1, .ref a1), (2, .ref a2), (3, .ref a3), (4, .int x4)] → W p l e room_1 s m args below meth c H locs cells slots (lw_Z below args s) (F0 m 904 ls [])
abbrev w_L_law_941 (G : gG) (l : Launch) (p : Program) (e : Env) (s : State) (m : MethodId) (args : Array Value) (below : List Frame) (meth : Method) (c : Code) (h0 : g_H) (r : Int32) (h' : g_H) (k : gM Int32) : Prop := ∀ (h : g_H) (H : Heap) (locs : List Loc) (cells slots : Nat) (ls : Array Slot), (k).1 h = some (r, h') → gI G h0 h H locs cells slots → lv_has ls 7 [] → W p l e room_1 s m args below meth c H locs cells slots (lw_Z below args s) (F0 m 941 ls [])
abbrev w_L_law_958 (G : gG) (l : Launch) (p : Program) (e : Env) (s : State) (m : MethodId) (args : Array Value) (below : List Frame) (meth : Method) (c : Code) (h0 : g_H) (r : Int32) (h' : g_H) (k : gM Int32) : Prop := ∀ (h : g_H) (H : Heap) (locs : List Loc) (cells slots : Nat) (ls : Array Slot), (k).1 h = some (r, h') → gI G h0 h H locs cells slots → lv_has ls 7 [] → W p l e room_1 s m args below meth c H locs cells slots (lw_Z below args s) (F0 m 958 ls [])
abbrev w_L_law_960 (G : gG) (l : Launch) (p : Program) (e : Env) (s : State) (m : MethodId) (args : Array Value) (below : List Frame) (meth : Method) (c : Code) (h0 : g_H) (r : Int32) (h' : g_H) (k : Nat → Nat → Nat → Nat → Int32 → gM Int32) : Prop := ∀ (a0 : Nat) (a1 : Nat) (a2 : Nat) (a3 : Nat) (x4 : Int32) (h : g_H) (H : Heap) (locs : List Loc) (cells slots : Nat) (ls : Array Slot), (k a0 a1 a2 a3 x4).1 h = some (r, h') → gI G h0 h H locs cells slots → lv_has ls 7 [(0, .ref a0), (1, .ref a1), (2, .ref a2), (3, .ref a3), (4, .int x4)] → W p l e room_1 s m args below meth c H locs cells slots (lw_Z below args s) (F0 m 960 ls [])
abbrev w_L_law_994 (G : gG) (l : Launch) (p : Program) (e : Env) (s : State) (m : MethodId) (args : Array Value) (below : List Frame) (meth : Method) (c : Code) (h0 : g_H) (r : Int32) (h' : g_H) (k : gM Int32) : Prop := ∀ (h : g_H) (H : Heap) (locs : List Loc) (cells slots : Nat) (ls : Array Slot), (k).1 h = some (r, h') → gI G h0 h H locs cells slots → lv_has ls 7 [] → W p l e room_1 s m args below meth c H locs cells slots (lw_Z below args s) (F0 m 994 ls [])
abbrev w_L_law_1033 (G : gG) (l : Launch) (p : Program) (e : Env) (s : State) (m : MethodId) (args : Array Value) (below : List Frame) (meth : Method) (c : Code) (h0 : g_H) (r : Int32) (h' : g_H) (k : gM Int32) : Prop := ∀ (h : g_H) (H : Heap) (locs : List Loc) (cells slots : Nat) (ls : Array Slot), (k).1 h = some (r, h') → gI G h0 h H locs cells slots → lv_has ls 7 [] → W p l e room_1 s m args below meth c H locs cells slots (lw_Z below args s) (F0 m 1033 ls [])
abbrev w_L_law_1050 (G : gG) (l : Launch) (p : Program) (e : Env) (s : State) (m : MethodId) (args : Array Value) (below : List Frame) (meth : Method) (c : Code) (h0 : g_H) (r : Int32) (h' : g_H) (k : gM Int32) : Prop := ∀ (h : g_H) (H : Heap) (locs : List Loc) (cells slots : Nat) (ls : Array Slot), (k).1 h = some (r, h') → gI G h0 h H locs cells slots → lv_has ls 7 [] → W p l e room_1 s m args below meth c H locs cells slots (lw_Z below args s) (F0 m 1050 ls [])
abbrev w_L_law_1052 (G : gG) (l : Launch) (p : Program) (e : Env) (s : State) (m : MethodId) (args : Array Value) (below : List Frame) (meth : Method) (c : Code) (h0 : g_H) (r : Int32) (h' : g_H) (k : Nat → Nat → Nat → Nat → Int32 → gM Int32) : Prop := ∀ (a0 : Nat) (a1 : Nat) (a2 : Nat) (a3 : Nat) (x4 : Int32) (h : g_H) (H : Heap) (locs : List Loc) (cells slots : Nat) (ls : Array Slot), (k a0 a1 a2 a3 x4).1 h = some (r, h') → gI G h0 h H locs cells slots → lv_has ls 7 [(0, .ref a0), (1, .ref a1), (2, .ref a2), (3, .ref a3), (4, .int x4)] → W p l e room_1 s m args below meth c H locs cells slots (lw_Z below args s) (F0 m 1052 ls [])
abbrev w_L_law_1089 (G : gG) (l : Launch) (p : Program) (e : Env) (s : State) (m : MethodId) (args : Array Value) (below : List Frame) (meth : Method) (c : Code) (h0 : g_H) (r : Int32) (h' : g_H) (k : gM Int32) : Prop := ∀ (h : g_H) (H : Heap) (locs : List Loc) (cells slots : Nat) (ls : Array Slot), (k).1 h = some (r, h') → gI G h0 h H locs cells slots → lv_has ls 7 [] → W p l e room_1 s m args below meth c H locs cells slots (lw_Z below args s) (F0 m 1089 ls [])
abbrev w_L_law_1106 (G : gG) (l : Launch) (p : Program) (e : Env) (s : State) (m : MethodId) (args : Array Value) (below : List Frame) (meth : Method) (c : Code) (h0 : g_H) (r : Int32) (h' : g_H) (k : gM Int32) : Prop := ∀ (h : g_H) (H : Heap) (locs : List Loc) (cells slots : Nat) (ls : Array Slot), (k).1 h = some (r, h') → gI G h0 h H locs cells slots → lv_has ls 7 [] → W p l e room_1 s m args below meth c H locs cells slots (lw_Z below args s) (F0 m 1106 ls [])
abbrev w_L_law_1108 (G : gG) (l : Launch) (p : Program) (e : Env) (s : State) (m : MethodId) (args : Array Value) (below : List Frame) (meth : Method) (c : Code) (h0 : g_H) (r : Int32) (h' : g_H) (k : Nat → Nat → Nat → Nat → Int32 → gM Int32) : Prop := ∀ (a0 : Nat) (a1 : Nat) (a2 : Nat) (a3 : Nat) (x4 : Int32) (h : g_H) (H : Heap) (locs : List Loc) (cells slots : Nat) (ls : Array Slot), (k a0 a1 a2 a3 x4).1 h = some (r, h') → gI G h0 h H locs cells slots → lv_has ls 7 [(0, .ref a0), (1, .ref a1), (2, .ref a2), (3, .ref a3), (4, .int x4)] → W p l e room_1 s m args below meth c H locs cells slots (lw_Z below args s) (F0 m 1108 ls [])
abbrev w_L_law_1145 (G : gG) (l : Launch) (p : Program) (e : Env) (s : State) (m : MethodId) (args : Array Value) (below : List Frame) (meth : Method) (c : Code) (h0 : g_H) (r : Int32) (h' : g_H) (k : gM Int32) : Prop := ∀ (h : g_H) (H : Heap) (locs : List Loc) (cells slots : Nat) (ls : Array Slot), (k).1 h = some (r, h') → gI G h0 h H locs cells slots → lv_has ls 7 [] → W p l e room_1 s m args below meth c H locs cells slots (lw_Z below args s) (F0 m 1145 ls [])
abbrev w_L_law_1162 (G : gG) (l : Launch) (p : Program) (e : Env) (s : State) (m : MethodId) (args : Array Value) (below : List Frame) (meth : Method) (c : Code) (h0 : g_H) (r : Int32) (h' : g_H) (k : gM Int32) : Prop := ∀ (h : g_H) (H : Heap) (locs : List Loc) (cells slots : Nat) (ls : Array Slot), (k).1 h = some (r, h') → gI G h0 h H locs cells slots → lv_has ls 7 [] → W p l e room_1 s m args below meth c H locs cells slots (lw_Z below args s) (F0 m 1162 ls [])
abbrev w_L_law_1164 (G : gG) (l : Launch) (p : Program) (e : Env) (s : State) (m : MethodId) (args : Array Value) (below : List Frame) (meth : Method) (c : Code) (h0 : g_H) (r : Int32) (h' : g_H) (k : Nat → Nat → Nat → Nat → Int32 → gM Int32) : Prop := ∀ (a0 : Nat) (a1 : Nat) (a2 : Nat) (a3 : Nat) (x4 : Int32) (h : g_H) (H : Heap) (locs : List Loc) (cells slots : Nat) (ls : Array Slot), (k a0 a1 a2 a3 x4).1 h = some (r, h') → gI G h0 h H locs cells slots → lv_has ls 7 [(0, .ref a0), (1, .ref a1), (2, .ref a2), (3, .ref a3), (4, .int x4)] → W p l e room_1 s m args below meth c H locs cells slots (lw_Z below args s) (F0 m 1164 ls [])
abbrev w_L_law_1201 (G : gG) (l : Launch) (p : Program) (e : Env) (s : State) (m : MethodId) (args : Array Value) (below : List Frame) (meth : Method) (c : Code) (h0 : g_H) (r : Int32) (h' : g_H) (k : gM Int32) : Prop := ∀ (h : g_H) (H : Heap) (locs : List Loc) (cells slots : Nat) (ls : Array Slot), (k).1 h = some (r, h') → gI G h0 h H locs cells slots → lv_has ls 7 [] → W p l e room_1 s m args below meth c H locs cells slots (lw_Z below args s) (F0 m 1201 ls [])
abbrev w_L_law_1218 (G : gG) (l : Launch) (p : Program) (e : Env) (s : State) (m : MethodId) (args : Array Value) (below : List Frame) (meth : Method) (c : Code) (h0 : g_H) (r : Int32) (h' : g_H) (k : gM Int32) : Prop := ∀ (h : g_H) (H : Heap) (locs : List Loc) (cells slots : Nat) (ls : Array Slot), (k).1 h = some (r, h') → gI G h0 h H locs cells slots → lv_has ls 7 [] → W p l e room_1 s m args below meth c H locs cells slots (lw_Z below args s) (F0 m 1218 ls [])
abbrev w_L_law_1220 (G : gG) (l : Launch) (p : Program) (e : Env) (s : State) (m : MethodId) (args : Array Value) (below : List Frame) (meth : Method) (c : Code) (h0 : g_H) (r : Int32) (h' : g_H) (k : Nat → Nat → Nat → Nat → Int32 → gM Int32) : Prop := ∀ (a0 : Nat) (a1 : Nat) (a2 : Nat) (a3 : Nat) (x4 : Int32) (h : g_H) (H : Heap) (locs : List Loc) (cells slots : Nat) (ls : Array Slot), (k a0 a1 a2 a3 x4).1 h = some (r, h') → gI G h0 h H locs cells slots → lv_has ls 7 [(0, .ref a0), (1, .ref a1), (2, .ref a2), (3, .ref a3), (4, .int x4)] → W p l e room_1 s m args below meth c H locs cells slots (lw_Z below args s) (F0 m 1220 ls [])
abbrev w_L_law_1269 (G : gG) (l : Launch) (p : Program) (e : Env) (s : State) (m : MethodId) (args : Array Value) (below : List Frame) (meth : Method) (c : Code) (h0 : g_H) (r : Int32) (h' : g_H) (k : gM Int32) : Prop := ∀ (h : g_H) (H : Heap) (locs : List Loc) (cells slots : Nat) (ls : Array Slot), (k).1 h = some (r, h') → gI G h0 h H locs cells slots → lv_has ls 7 [] → W p l e room_1 s m args below meth c H locs cells slots (lw_Z below args s) (F0 m 1269 ls [])
abbrev w_L_law_1286 (G : gG) (l : Launch) (p : Program) (e : Env) (s : State) (m : MethodId) (args : Array Value) (below : List Frame) (meth : Method) (c : Code) (h0 : g_H) (r : Int32) (h' : g_H) (k : gM Int32) : Prop := ∀ (h : g_H) (H : Heap) (locs : List Loc) (cells slots : Nat) (ls : Array Slot), (k).1 h = some (r, h') → gI G h0 h H locs cells slots → lv_has ls 7 [] → W p l e room_1 s m args below meth c H locs cells slots (lw_Z below args s) (F0 m 1286 ls [])
abbrev w_L_law_1288 (G : gG) (l : Launch) (p : Program) (e : Env) (s : State) (m : MethodId) (args : Array Value) (below : List Frame) (meth : Method) (c : Code) (h0 : g_H) (r : Int32) (h' : g_H) (k : Nat → Nat → Nat → Nat → Int32 → gM Int32) : Prop := ∀ (a0 : Nat) (a1 : Nat) (a2 : Nat) (a3 : Nat) (x4 : Int32) (h : g_H) (H : Heap) (locs : List Loc) (cells slots : Nat) (ls : Array Slot), (k a0 a1 a2 a3 x4).1 h = some (r, h') → gI G h0 h H locs cells slots → lv_has ls 7 [(0, .ref a0), (1, .ref a1), (2, .ref a2), (3, .ref a3), (4, .int x4)] → W p l e room_1 s m args below meth c H locs cells slots (lw_Z below args s) (F0 m 1288 ls [])
abbrev w_L_law_1325 (G : gG) (l : Launch) (p : Program) (e : Env) (s : State) (m : MethodId) (args : Array Value) (below : List Frame) (meth : Method) (c : Code) (h0 : g_H) (r : Int32) (h' : g_H) (k : gM Int32) : Prop := ∀ (h : g_H) (H : Heap) (locs : List Loc) (cells slots : Nat) (ls : Array Slot), (k).1 h = some (r, h') → gI G h0 h H locs cells slots → lv_has ls 7 [] → W p l e room_1 s m args below meth c H locs cells slots (lw_Z below args s) (F0 m 1325 ls [])
abbrev w_L_law_1342 (G : gG) (l : Launch) (p : Program) (e : Env) (s : State) (m : MethodId) (args : Array Value) (below : List Frame) (meth : Method) (c : Code) (h0 : g_H) (r : Int32) (h' : g_H) (k : gM Int32) : Prop := ∀ (h : g_H) (H : Heap) (locs : List Loc) (cells slots : Nat) (ls : Array Slot), (k).1 h = some (r, h') → gI G h0 h H locs cells slots → lv_has ls 7 [] → W p l e room_1 s m args below meth c H locs cells slots (lw_Z below args s) (F0 m 1342 ls [])
abbrev w_L_law_1344 (G : gG) (l : Launch) (p : Program) (e : Env) (s : State) (m : MethodId) (args : Array Value) (below : List Frame) (meth : Method) (c : Code) (h0 : g_H) (r : Int32) (h' : g_H) (k : Nat → Nat → Nat → Nat → Int32 → gM Int32) : Prop := ∀ (a0 : Nat) (a1 : Nat) (a2 : Nat) (a3 : Nat) (x4 : Int32) (h : g_H) (H : Heap) (locs : List Loc) (cells slots : Nat) (ls : Array Slot), (k a0 a1 a2 a3 x4).1 h = some (r, h') → gI G h0 h H locs cells slots → lv_has ls 7 [(0, .ref a0), (1, .ref a1), (2, .ref a2), (3, .ref a3), (4, .int x4)] → W p l e room_1 s m args below meth c H locs cells slots (lw_Z below args s) (F0 m 1344 ls [])
abbrev w_L_law_1393 (G : gG) (l : Launch) (p : Program) (e : Env) (s : State) (m : MethodId) (args : Array Value) (below : List Frame) (meth : Method) (c : Code) (h0 : g_H) (r : Int32) (h' : g_H) (k : gM Int32) : Prop := ∀ (h : g_H) (H : Heap) (locs : List Loc) (cells slots : Nat) (ls : Array Slot), (k).1 h = some (r, h') → gI G h0 h H locs cells slots → lv_has ls 7 [] → W p l e room_1 s m args below meth c H locs cells slots (lw_Z below args s) (F0 m 1393 ls [])
abbrev w_L_law_1410 (G : gG) (l : Launch) (p : Program) (e : Env) (s : State) (m : MethodId) (args : Array Value) (below : List Frame) (meth : Method) (c : Code) (h0 : g_H) (r : Int32) (h' : g_H) (k : gM Int32) : Prop := ∀ (h : g_H) (H : Heap) (locs : List Loc) (cells slots : Nat) (ls : Array Slot), (k).1 h = some (r, h') → gI G h0 h H locs cells slots → lv_has ls 7 [] → W p l e room_1 s m args below meth c H locs cells slots (lw_Z below args s) (F0 m 1410 ls [])
abbrev w_L_law_1412 (G : gG) (l : Launch) (p : Program) (e : Env) (s : State) (m : MethodId) (args : Array Value) (below : List Frame) (meth : Method) (c : Code) (h0 : g_H) (r : Int32) (h' : g_H) (k : Nat → Nat → Nat → Nat → Int32 → gM Int32) : Prop := ∀ (a0 : Nat) (a1 : Nat) (a2 : Nat) (a3 : Nat) (x4 : Int32) (h : g_H) (H : Heap) (locs : List Loc) (cells slots : Nat) (ls : Array Slot), (k a0 a1 a2 a3 x4).1 h = some (r, h') → gI G h0 h H locs cells slots → lv_has ls 7 [(0, .ref a0), (1, .ref a1), (2, .ref a2), (3, .ref a3), (4, .int x4)] → W p l e room_1 s m args below meth c H locs cells slots (lw_Z below args s) (F0 m 1412 ls [])
abbrev w_L_law_1449 (G : gG) (l : Launch) (p : Program) (e : Env) (s : State) (m : MethodId) (args : Array Value) (below : List Frame) (meth : Method) (c : Code) (h0 : g_H) (r : Int32) (h' : g_H) (k : gM Int32) : Prop := ∀ (h : g_H) (H : Heap) (locs : List Loc) (cells slots : Nat) (ls : Array Slot), (k).1 h = some (r, h') → gI G h0 h H locs cells slots → lv_has ls 7 [] → W p l e room_1 s m args below meth c H locs cells slots (lw_Z below args s) (F0 m 1449 ls [])
abbrev w_L_law_1466 (G : gG) (l : Launch) (p : Program) (e : Env) (s : State) (m : MethodId) (args : Array Value) (below : List Frame) (meth : Method) (c : Code) (h0 : g_H) (r : Int32) (h' : g_H) (k : gM Int32) : Prop := ∀ (h : g_H) (H : Heap) (locs : List Loc) (cells slots : Nat) (ls : Array Slot), (k).1 h = some (r, h') → gI G h0 h H locs cells slots → lv_has ls 7 [] → W p l e room_1 s m args below meth c H locs cells slots (lw_Z below args s) (F0 m 1466 ls [])
abbrev w_L_law_1468 (G : gG) (l : Launch) (p : Program) (e : Env) (s : State) (m : MethodId) (args : Array Value) (below : List Frame) (meth : Method) (c : Code) (h0 : g_H) (r : Int32) (h' : g_H) (k : Nat → Nat → Nat → Nat → Int32 → gM Int32) : Prop := ∀ (a0 : Nat) (a1 : Nat) (a2 : Nat) (a3 : Nat) (x4 : Int32) (h : g_H) (H : Heap) (locs : List Loc) (cells slots : Nat) (ls : Array Slot), (k a0 a1 a2 a3 x4).1 h = some (r, h') → gI G h0 h H locs cells slots → lv_has ls 7 [(0, .ref a0), (1, .ref a1), (2, .ref a2), (3, .ref a3), (4, .int x4)] → W p l e room_1 s m args below meth c H locs cells slots (lw_Z below args s) (F0 m 1468 ls [])
abbrev w_L_law_1482 (G : gG) (l : Launch) (p : Program) (e : Env) (s : State) (m : MethodId) (args : Array Value) (below : List Frame) (meth : Method) (c : Code) (h0 : g_H) (r : Int32) (h' : g_H) (k : gM Int32) : Prop := ∀ (h : g_H) (H : Heap) (locs : List Loc) (cells slots : Nat) (ls : Array Slot), (k).1 h = some (r, h') → gI G h0 h H locs cells slots → lv_has ls 7 [] → W p l e room_1 s m args below meth c H locs cells slots (lw_Z below args s) (F0 m 1482 ls [])
abbrev w_L_law_1523 (G : gG) (l : Launch) (p : Program) (e : Env) (s : State) (m : MethodId) (args : Array Value) (below : List Frame) (meth : Method) (c : Code) (h0 : g_H) (r : Int32) (h' : g_H) (k : gM Int32) : Prop := ∀ (h : g_H) (H : Heap) (locs : List Loc) (cells slots : Nat) (ls : Array Slot), (k).1 h = some (r, h') → gI G h0 h H locs cells slots → lv_has ls 7 [] → W p l e room_1 s m args below meth c H locs cells slots (lw_Z below args s) (F0 m 1523 ls [])
abbrev w_L_law_1517 (G : gG) (l : Launch) (p : Program) (e : Env) (s : State) (m : MethodId) (args : Array Value) (below : List Frame) (meth : Method) (c : Code) (h0 : g_H) (r : Int32) (h' : g_H) (k : Nat → Nat → Nat → Nat → Int32 → Int32 → Nat → Int32 → gM Int32) : Prop := ∀ (a0 : Nat) (a1 : Nat) (a2 : Nat) (a3 : Nat) (x4 : Int32) (u0 : Int32) (b1 : Nat) (u2 : Int32) (h : g_H) (H : Heap) (locs : List Loc) (cells slots : Nat) (ls : Array Slot), (k a0 a1 a2 a3 x4 u0 b1 u2).1 h = some (r, h') → gI G h0 h H locs cells slots → lv_has ls 7 [(0, .ref a0), (1, .ref a1), (2, .ref a2), (3, .ref a3), (4, .int x4)] → W p l e room_1 s m args below meth c H locs cells slots (lw_Z below args s) (F0 m 1517 ls [.int u2, .ref b1, .int u0])
abbrev w_L_law_1499 (G : gG) (l : Launch) (p : Program) (e : Env) (s : State) (m : MethodId) (args : Array Value) (below : List Frame) (meth : Method) (c : Code) (h0 : g_H) (r : Int32) (h' : g_H) (k : Nat → Nat → Nat → Nat → Int32 → Nat → Int32 → gM Int32) : Prop := ∀ (a0 : Nat) (a1 : Nat) (a2 : Nat) (a3 : Nat) (x4 : Int32) (b0 : Nat) (u1 : Int32) (h : g_H) (H : Heap) (locs : List Loc) (cells slots : Nat) (ls : Array Slot), (k a0 a1 a2 a3 x4 b0 u1).1 h = some (r, h') → gI G h0 h H locs cells slots → lv_has ls 7 [(0, .ref a0), (1, .ref a1), (2, .ref a2), (3, .ref a3), (4, .int x4)] → W p l e room_1 s m args below meth c H locs cells slots (lw_Z below args s) (F0 m 1499 ls [.int u1, .ref b0])
abbrev w_L_law_1536 (G : gG) (l : Launch) (p : Program) (e : Env) (s : State) (m : MethodId) (args : Array Value) (below : List Frame) (meth : Method) (c : Code) (h0 : g_H) (r : Int32) (h' : g_H) (k : gM Int32) : Prop := ∀ (h : g_H) (H : Heap) (locs : List Loc) (cells slots : Nat) (ls : Array Slot), (k).1 h = some (r, h') → gI G h0 h H locs cells slots → lv_has ls 7 [] → W p l e room_1 s m args below meth c H locs cells slots (lw_Z below args s) (F0 m 1536 ls [])
abbrev w_L_law_1549 (G : gG) (l : Launch) (p : Program) (e : Env) (s : State) (m : MethodId) (args : Array Value) (below : List Frame) (meth : Method) (c : Code) (h0 : g_H) (r : Int32) (h' : g_H) (k : gM Int32) : Prop := ∀ (h : g_H) (H : Heap) (locs : List Loc) (cells slots : Nat) (ls : Array Slot), (k).1 h = some (r, h') → gI G h0 h H locs cells slots → lv_has ls 7 [] → W p l e room_1 s m args below meth c H locs cells slots (lw_Z below args s) (F0 m 1549 ls [])
abbrev w_L_law_1613 (G : gG) (l : Launch) (p : Program) (e : Env) (s : State) (m : MethodId) (args : Array Value) (below : List Frame) (meth : Method) (c : Code) (h0 : g_H) (r : Int32) (h' : g_H) (k : gM Int32) : Prop := ∀ (h : g_H) (H : Heap) (locs : List Loc) (cells slots : Nat) (ls : Array Slot), (k).1 h = some (r, h') → gI G h0 h H locs cells slots → lv_has ls 7 [] → W p l e room_1 s m args below meth c H locs cells slots (lw_Z below args s) (F0 m 1613 ls [])
abbrev w_L_law_1630 (G : gG) (l : Launch) (p : Program) (e : Env) (s : State) (m : MethodId) (args : Array Value) (below : List Frame) (meth : Method) (c : Code) (h0 : g_H) (r : Int32) (h' : g_H) (k : gM Int32) : Prop := ∀ (h : g_H) (H : Heap) (locs : List Loc) (cells slots : Nat) (ls : Array Slot), (k).1 h = some (r, h') → gI G h0 h H locs cells slots → lv_has ls 7 [] → W p l e room_1 s m args below meth c H locs cells slots (lw_Z below args s) (F0 m 1630 ls [])
abbrev w_L_law_1632 (G : gG) (l : Launch) (p : Program) (e : Env) (s : State) (m : MethodId) (args : Array Value) (below : List Frame) (meth : Method) (c : Code) (h0 : g_H) (r : Int32) (h' : g_H) (k : Nat → Nat → Nat → Nat → Int32 → gM Int32) : Prop := ∀ (a0 : Nat) (a1 : Nat) (a2 : Nat) (a3 : Nat) (x4 : Int32) (h : g_H) (H : Heap) (locs : List Loc) (cells slots : Nat) (ls : Array Slot), (k a0 a1 a2 a3 x4).1 h = some (r, h') → gI G h0 h H locs cells slots → lv_has ls 7 [(0, .ref a0), (1, .ref a1), (2, .ref a2), (3, .ref a3), (4, .int x4)] → W p l e room_1 s m args below meth c H locs cells slots (lw_Z below args s) (F0 m 1632 ls [])
abbrev w_L_law_1599 (G : gG) (l : Launch) (p : Program) (e : Env) (s : State) (m : MethodId) (args : Array Value) (below : List Frame) (meth : Method) (c : Code) (h0 : g_H) (r : Int32) (h' : g_H) (k : Nat → Nat → Nat → Nat → Int32 → Int32 → Nat → Int32 → Int32 → gM Int32) : Prop := ∀ (a0 : Nat) (a1 : Nat) (a2 : Nat) (a3 : Nat) (x4 : Int32) (x5 : Int32) (b0 : Nat) (u1 : Int32) (u2 : Int32) (h : g_H) (H : Heap) (locs : List Loc) (cells slots : Nat) (ls : Array Slot), (k a0 a1 a2 a3 x4 x5 b0 u1 u2).1 h = some (r, h') → gI G h0 h H locs cells slots → lv_has ls 7 [(0, .ref a0), (1, .ref a1), (2, .ref a2), (3, .ref a3), (4, .int x4), (5, .int x5)] → W p l e room_1 s m args below meth c H locs cells slots (lw_Z below args s) (F0 m 1599 ls [.int u2, .int u1, .ref b0])
abbrev w_L_law_1572 (G : gG) (l : Launch) (p : Program) (e : Env) (s : State) (m : MethodId) (args : Array Value) (below : List Frame) (meth : Method) (c : Code) (h0 : g_H) (r : Int32) (h' : g_H) (k : Nat → Nat → Nat → Nat → Int32 → Nat → Int32 → Int32 → gM Int32) : Prop := ∀ (a0 : Nat) (a1 : Nat) (a2 : Nat) (a3 : Nat) (x4 : Int32) (b0 : Nat) (u1 : Int32) (u2 : Int32) (h : g_H) (H : Heap) (locs : List Loc) (cells slots : Nat) (ls : Array Slot), (k a0 a1 a2 a3 x4 b0 u1 u2).1 h = some (r, h') → gI G h0 h H locs cells slots → lv_has ls 7 [(0, .ref a0), (1, .ref a1), (2, .ref a2), (3, .ref a3), (4, .int x4)] → W p l e room_1 s m args below meth c H locs cells slots (lw_Z below args s) (F0 m 1572 ls [.int u2, .int u1, .ref b0])
abbrev w_L_law_1669 (G : gG) (l : Launch) (p : Program) (e : Env) (s : State) (m : MethodId) (args : Array Value) (below : List Frame) (meth : Method) (c : Code) (h0 : g_H) (r : Int32) (h' : g_H) (k : gM Int32) : Prop := ∀ (h : g_H) (H : Heap) (locs : List Loc) (cells slots : Nat) (ls : Array Slot), (k).1 h = some (r, h') → gI G h0 h H locs cells slots → lv_has ls 7 [] → W p l e room_1 s m args below meth c H locs cells slots (lw_Z below args s) (F0 m 1669 ls [])
abbrev w_L_law_1686 (G : gG) (l : Launch) (p : Program) (e : Env) (s : State) (m : MethodId) (args : Array Value) (below : List Frame) (meth : Method) (c : Code) (h0 : g_H) (r : Int32) (h' : g_H) (k : gM Int32) : Prop := ∀ (h : g_H) (H : Heap) (locs : List Loc) (cells slots : Nat) (ls : Array Slot), (k).1 h = some (r, h') → gI G h0 h H locs cells slots → lv_has ls 7 [] → W p l e room_1 s m args below meth c H locs cells slots (lw_Z below args s) (F0 m 1686 ls [])
abbrev w_L_law_1688 (G : gG) (l : Launch) (p : Program) (e : Env) (s : State) (m : MethodId) (args : Array Value) (below : List Frame) (meth : Method) (c : Code) (h0 : g_H) (r : Int32) (h' : g_H) (k : Nat → Nat → Nat → Nat → Int32 → gM Int32) : Prop := ∀ (a0 : Nat) (a1 : Nat) (a2 : Nat) (a3 : Nat) (x4 : Int32) (h : g_H) (H : Heap) (locs : List Loc) (cells slots : Nat) (ls : Array Slot), (k a0 a1 a2 a3 x4).1 h = some (r, h') → gI G h0 h H locs cells slots → lv_has ls 7 [(0, .ref a0), (1, .ref a1), (2, .ref a2), (3, .ref a3), (4, .int x4)] → W p l e room_1 s m args below meth c H locs cells slots (lw_Z below args s) (F0 m 1688 ls [])
abbrev w_L_law_1737 (G : gG) (l : Launch) (p : Program) (e : Env) (s : State) (m : MethodId) (args : Array Value) (below : List Frame) (meth : Method) (c : Code) (h0 : g_H) (r : Int32) (h' : g_H) (k : gM Int32) : Prop := ∀ (h : g_H) (H : Heap) (locs : List Loc) (cells slots : Nat) (ls : Array Slot), (k).1 h = some (r, h') → gI G h0 h H locs cells slots → lv_has ls 7 [] → W p l e room_1 s m args below meth c H locs cells slots (lw_Z below args s) (F0 m 1737 ls [])
abbrev w_L_law_1754 (G : gG) (l : Launch) (p : Program) (e : Env) (s : State) (m : MethodId) (args : Array Value) (below : List Frame) (meth : Method) (c : Code) (h0 : g_H) (r : Int32) (h' : g_H) (k : gM Int32) : Prop := ∀ (h : g_H) (H : Heap) (locs : List Loc) (cells slots : Nat) (ls : Array Slot), (k).1 h = some (r, h') → gI G h0 h H locs cells slots → lv_has ls 7 [] → W p l e room_1 s m args below meth c H locs cells slots (lw_Z below args s) (F0 m 1754 ls [])
abbrev w_L_law_1756 (G : gG) (l : Launch) (p : Program) (e : Env) (s : State) (m : MethodId) (args : Array Value) (below : List Frame) (meth : Method) (c : Code) (h0 : g_H) (r : Int32) (h' : g_H) (k : Nat → Nat → Nat → Nat → Int32 → gM Int32) : Prop := ∀ (a0 : Nat) (a1 : Nat) (a2 : Nat) (a3 : Nat) (x4 : Int32) (h : g_H) (H : Heap) (locs : List Loc) (cells slots : Nat) (ls : Array Slot), (k a0 a1 a2 a3 x4).1 h = some (r, h') → gI G h0 h H locs cells slots → lv_has ls 7 [(0, .ref a0), (1, .ref a1), (2, .ref a2), (3, .ref a3), (4, .int x4)] → W p l e room_1 s m args below meth c H locs cells slots (lw_Z below args s) (F0 m 1756 ls [])
abbrev w_L_law_1793 (G : gG) (l : Launch) (p : Program) (e : Env) (s : State) (m : MethodId) (args : Array Value) (below : List Frame) (meth : Method) (c : Code) (h0 : g_H) (r : Int32) (h' : g_H) (k : gM Int32) : Prop := ∀ (h : g_H) (H : Heap) (locs : List Loc) (cells slots : Nat) (ls : Array Slot), (k).1 h = some (r, h') → gI G h0 h H locs cells slots → lv_has ls 7 [] → W p l e room_1 s m args below meth c H locs cells slots (lw_Z below args s) (F0 m 1793 ls [])
abbrev w_L_law_1810 (G : gG) (l : Launch) (p : Program) (e : Env) (s : State) (m : MethodId) (args : Array Value) (below : List Frame) (meth : Method) (c : Code) (h0 : g_H) (r : Int32) (h' : g_H) (k : gM Int32) : Prop := ∀ (h : g_H) (H : Heap) (locs : List Loc) (cells slots : Nat) (ls : Array Slot), (k).1 h = some (r, h') → gI G h0 h H locs cells slots → lv_has ls 7 [] → W p l e room_1 s m args below meth c H locs cells slots (lw_Z below args s) (F0 m 1810 ls [])
abbrev w_L_law_1812 (G : gG) (l : Launch) (p : Program) (e : Env) (s : State) (m : MethodId) (args : Array Value) (below : List Frame) (meth : Method) (c : Code) (h0 : g_H) (r : Int32) (h' : g_H) (k : Nat → Nat → Nat → Nat → Int32 → gM Int32) : Prop := ∀ (a0 : Nat) (a1 : Nat) (a2 : Nat) (a3 : Nat) (x4 : Int32) (h : g_H) (H : Heap) (locs : List Loc) (cells slots : Nat) (ls : Array Slot), (k a0 a1 a2 a3 x4).1 h = some (r, h') → gI G h0 h H locs cells slots → lv_has ls 7 [(0, .ref a0), (1, .ref a1), (2, .ref a2), (3, .ref a3), (4, .int x4)] → W p l e room_1 s m args below meth c H locs cells slots (lw_Z below args s) (F0 m 1812 ls [])
abbrev w_L_law_1826 (G : gG) (l : Launch) (p : Program) (e : Env) (s : State) (m : MethodId) (args : Array Value) (below : List Frame) (meth : Method) (c : Code) (h0 : g_H) (r : Int32) (h' : g_H) (k : gM Int32) : Prop := ∀ (h : g_H) (H : Heap) (locs : List Loc) (cells slots : Nat) (ls : Array Slot), (k).1 h = some (r, h') → gI G h0 h H locs cells slots → lv_has ls 7 [] → W p l e room_1 s m args below meth c H locs cells slots (lw_Z below args s) (F0 m 1826 ls [])
abbrev w_L_law_1839 (G : gG) (l : Launch) (p : Program) (e : Env) (s : State) (m : MethodId) (args : Array Value) (below : List Frame) (meth : Method) (c : Code) (h0 : g_H) (r : Int32) (h' : g_H) (k : gM Int32) : Prop := ∀ (h : g_H) (H : Heap) (locs : List Loc) (cells slots : Nat) (ls : Array Slot), (k).1 h = some (r, h') → gI G h0 h H locs cells slots → lv_has ls 7 [] → W p l e room_1 s m args below meth c H locs cells slots (lw_Z below args s) (F0 m 1839 ls [])
abbrev w_L_law_1852 (G : gG) (l : Launch) (p : Program) (e : Env) (s : State) (m : MethodId) (args : Array Value) (below : List Frame) (meth : Method) (c : Code) (h0 : g_H) (r : Int32) (h' : g_H) (k : gM Int32) : Prop := ∀ (h : g_H) (H : Heap) (locs : List Loc) (cells slots : Nat) (ls : Array Slot), (k).1 h = some (r, h') → gI G h0 h H locs cells slots → lv_has ls 7 [] → W p l e room_1 s m args below meth c H locs cells slots (lw_Z below args s) (F0 m 1852 ls [])
abbrev w_L_law_1865 (G : gG) (l : Launch) (p : Program) (e : Env) (s : State) (m : MethodId) (args : Array Value) (below : List Frame) (meth : Method) (c : Code) (h0 : g_H) (r : Int32) (h' : g_H) (k : gM Int32) : Prop := ∀ (h : g_H) (H : Heap) (locs : List Loc) (cells slots : Nat) (ls : Array Slot), (k).1 h = some (r, h') → gI G h0 h H locs cells slots → lv_has ls 7 [] → W p l e room_1 s m args below meth c H locs cells slots (lw_Z below args s) (F0 m 1865 ls [])
abbrev w_L_law_1901 (G : gG) (l : Launch) (p : Program) (e : Env) (s : State) (m : MethodId) (args : Array Value) (below : List Frame) (meth : Method) (c : Code) (h0 : g_H) (r : Int32) (h' : g_H) (k : gM Int32) : Prop := ∀ (h : g_H) (H : Heap) (locs : List Loc) (cells slots : Nat) (ls : Array Slot), (k).1 h = some (r, h') → gI G h0 h H locs cells slots → lv_has ls 7 [] → W p l e room_1 s m args below meth c H locs cells slots (lw_Z below args s) (F0 m 1901 ls [])
abbrev w_L_law_1918 (G : gG) (l : Launch) (p : Program) (e : Env) (s : State) (m : MethodId) (args : Array Value) (below : List Frame) (meth : Method) (c : Code) (h0 : g_H) (r : Int32) (h' : g_H) (k : gM Int32) : Prop := ∀ (h : g_H) (H : Heap) (locs : List Loc) (cells slots : Nat) (ls : Array Slot), (k).1 h = some (r, h') → gI G h0 h H locs cells slots → lv_has ls 7 [] → W p l e room_1 s m args below meth c H locs cells slots (lw_Z below args s) (F0 m 1918 ls [])
abbrev w_L_law_1920 (G : gG) (l : Launch) (p : Program) (e : Env) (s : State) (m : MethodId) (args : Array Value) (below : List Frame) (meth : Method) (c : Code) (h0 : g_H) (r : Int32) (h' : g_H) (k : Nat → Nat → Nat → Nat → Int32 → gM Int32) : Prop := ∀ (a0 : Nat) (a1 : Nat) (a2 : Nat) (a3 : Nat) (x4 : Int32) (h : g_H) (H : Heap) (locs : List Loc) (cells slots : Nat) (ls : Array Slot), (k a0 a1 a2 a3 x4).1 h = some (r, h') → gI G h0 h H locs cells slots → lv_has ls 7 [(0, .ref a0), (1, .ref a1), (2, .ref a2), (3, .ref a3), (4, .int x4)] → W p l e room_1 s m args below meth c H locs cells slots (lw_Z below args s) (F0 m 1920 ls [])
abbrev w_L_law_1969 (G : gG) (l : Launch) (p : Program) (e : Env) (s : State) (m : MethodId) (args : Array Value) (below : List Frame) (meth : Method) (c : Code) (h0 : g_H) (r : Int32) (h' : g_H) (k : gM Int32) : Prop := ∀ (h : g_H) (H : Heap) (locs : List Loc) (cells slots : Nat) (ls : Array Slot), (k).1 h = some (r, h') → gI G h0 h H locs cells slots → lv_has ls 7 [] → W p l e room_1 s m args below meth c H locs cells slots (lw_Z below args s) (F0 m 1969 ls [])
abbrev w_L_law_1986 (G : gG) (l : Launch) (p : Program) (e : Env) (s : State) (m : MethodId) (args : Array Value) (below : List Frame) (meth : Method) (c : Code) (h0 : g_H) (r : Int32) (h' : g_H) (k : gM Int32) : Prop := ∀ (h : g_H) (H : Heap) (locs : List Loc) (cells slots : Nat) (ls : Array Slot), (k).1 h = some (r, h') → gI G h0 h H locs cells slots → lv_has ls 7 [] → W p l e room_1 s m args below meth c H locs cells slots (lw_Z below args s) (F0 m 1986 ls [])
abbrev w_L_law_1988 (G : gG) (l : Launch) (p : Program) (e : Env) (s : State) (m : MethodId) (args : Array Value) (below : List Frame) (meth : Method) (c : Code) (h0 : g_H) (r : Int32) (h' : g_H) (k : Nat → Nat → Nat → Nat → Int32 → gM Int32) : Prop := ∀ (a0 : Nat) (a1 : Nat) (a2 : Nat) (a3 : Nat) (x4 : Int32) (h : g_H) (H : Heap) (locs : List Loc) (cells slots : Nat) (ls : Array Slot), (k a0 a1 a2 a3 x4).1 h = some (r, h') → gI G h0 h H locs cells slots → lv_has ls 7 [(0, .ref a0), (1, .ref a1), (2, .ref a2), (3, .ref a3), (4, .int x4)] → W p l e room_1 s m args below meth c H locs cells slots (lw_Z below args s) (F0 m 1988 ls [])
abbrev w_L_law_2030 (G : gG) (l : Launch) (p : Program) (e : Env) (s : State) (m : MethodId) (args : Array Value) (below : List Frame) (meth : Method) (c : Code) (h0 : g_H) (r : Int32) (h' : g_H) (k : gM Int32) : Prop := ∀ (h : g_H) (H : Heap) (locs : List Loc) (cells slots : Nat) (ls : Array Slot), (k).1 h = some (r, h') → gI G h0 h H locs cells slots → lv_has ls 7 [] → W p l e room_1 s m args below meth c H locs cells slots (lw_Z below args s) (F0 m 2030 ls [])
abbrev w_L_law_2024 (G : gG) (l : Launch) (p : Program) (e : Env) (s : State) (m : MethodId) (args : Array Value) (below : List Frame) (meth : Method) (c : Code) (h0 : g_H) (r : Int32) (h' : g_H) (k : Nat → Nat → Nat → Nat → Int32 → Int32 → Nat → Int32 → gM Int32) : Prop := ∀ (a0 : Nat) (a1 : Nat) (a2 : Nat) (a3 : Nat) (x4 : Int32) (u0 : Int32) (b1 : Nat) (u2 : Int32) (h : g_H) (H : Heap) (locs : List Loc) (cells slots : Nat) (ls : Array Slot), (k a0 a1 a2 a3 x4 u0 b1 u2).1 h = some (r, h') → gI G h0 h H locs cells slots → lv_has ls 7 [(0, .ref a0), (1, .ref a1), (2, .ref a2), (3, .ref a3), (4, .int x4)] → W p l e room_1 s m args below meth c H locs cells slots (lw_Z below args s) (F0 m 2024 ls [.int u2, .ref b1, .int u0])
abbrev w_L_law_2006 (G : gG) (l : Launch) (p : Program) (e : Env) (s : State) (m : MethodId) (args : Array Value) (below : List Frame) (meth : Method) (c : Code) (h0 : g_H) (r : Int32) (h' : g_H) (k : Nat → Nat → Nat → Nat → Int32 → Nat → Int32 → gM Int32) : Prop := ∀ (a0 : Nat) (a1 : Nat) (a2 : Nat) (a3 : Nat) (x4 : Int32) (b0 : Nat) (u1 : Int32) (h : g_H) (H : Heap) (locs : List Loc) (cells slots : Nat) (ls : Array Slot), (k a0 a1 a2 a3 x4 b0 u1).1 h = some (r, h') → gI G h0 h H locs cells slots → lv_has ls 7 [(0, .ref a0), (1, .ref a1), (2, .ref a2), (3, .ref a3), (4, .int x4)] → W p l e room_1 s m args below meth c H locs cells slots (lw_Z below args s) (F0 m 2006 ls [.int u1, .ref b0])
abbrev w_L_law_2078 (G : gG) (l : Launch) (p : Program) (e : Env) (s : State) (m : MethodId) (args : Array Value) (below : List Frame) (meth : Method) (c : Code) (h0 : g_H) (r : Int32) (h' : g_H) (k : gM Int32) : Prop := ∀ (h : g_H) (H : Heap) (locs : List Loc) (cells slots : Nat) (ls : Array Slot), (k).1 h = some (r, h') → gI G h0 h H locs cells slots → lv_has ls 7 [] → W p l e room_1 s m args below meth c H locs cells slots (lw_Z below args s) (F0 m 2078 ls [])
abbrev w_L_law_2095 (G : gG) (l : Launch) (p : Program) (e : Env) (s : State) (m : MethodId) (args : Array Value) (below : List Frame) (meth : Method) (c : Code) (h0 : g_H) (r : Int32) (h' : g_H) (k : gM Int32) : Prop := ∀ (h : g_H) (H : Heap) (locs : List Loc) (cells slots : Nat) (ls : Array Slot), (k).1 h = some (r, h') → gI G h0 h H locs cells slots → lv_has ls 7 [] → W p l e room_1 s m args below meth c H locs cells slots (lw_Z below args s) (F0 m 2095 ls [])
abbrev w_L_law_2097 (G : gG) (l : Launch) (p : Program) (e : Env) (s : State) (m : MethodId) (args : Array Value) (below : List Frame) (meth : Method) (c : Code) (h0 : g_H) (r : Int32) (h' : g_H) (k : Nat → Nat → Nat → Nat → Int32 → gM Int32) : Prop := ∀ (a0 : Nat) (a1 : Nat) (a2 : Nat) (a3 : Nat) (x4 : Int32) (h : g_H) (H : Heap) (locs : List Loc) (cells slots : Nat) (ls : Array Slot), (k a0 a1 a2 a3 x4).1 h = some (r, h') → gI G h0 h H locs cells slots → lv_has ls 7 [(0, .ref a0), (1, .ref a1), (2, .ref a2), (3, .ref a3), (4, .int x4)] → W p l e room_1 s m args below meth c H locs cells slots (lw_Z below args s) (F0 m 2097 ls [])
abbrev w_L_law_2111 (G : gG) (l : Launch) (p : Program) (e : Env) (s : State) (m : MethodId) (args : Array Value) (below : List Frame) (meth : Method) (c : Code) (h0 : g_H) (r : Int32) (h' : g_H) (k : gM Int32) : Prop := ∀ (h : g_H) (H : Heap) (locs : List Loc) (cells slots : Nat) (ls : Array Slot), (k).1 h = some (r, h') → gI G h0 h H locs cells slots → lv_has ls 7 [] → W p l e room_1 s m args below meth c H locs cells slots (lw_Z below args s) (F0 m 2111 ls [])
abbrev w_L_law_2147 (G : gG) (l : Launch) (p : Program) (e : Env) (s : State) (m : MethodId) (args : Array Value) (below : List Frame) (meth : Method) (c : Code) (h0 : g_H) (r : Int32) (h' : g_H) (k : gM Int32) : Prop := ∀ (h : g_H) (H : Heap) (locs : List Loc) (cells slots : Nat) (ls : Array Slot), (k).1 h = some (r, h') → gI G h0 h H locs cells slots → lv_has ls 7 [] → W p l e room_1 s m args below meth c H locs cells slots (lw_Z below args s) (F0 m 2147 ls [])
abbrev w_L_law_2164 (G : gG) (l : Launch) (p : Program) (e : Env) (s : State) (m : MethodId) (args : Array Value) (below : List Frame) (meth : Method) (c : Code) (h0 : g_H) (r : Int32) (h' : g_H) (k : gM Int32) : Prop := ∀ (h : g_H) (H : Heap) (locs : List Loc) (cells slots : Nat) (ls : Array Slot), (k).1 h = some (r, h') → gI G h0 h H locs cells slots → lv_has ls 7 [] → W p l e room_1 s m args below meth c H locs cells slots (lw_Z below args s) (F0 m 2164 ls [])
abbrev w_L_law_2166 (G : gG) (l : Launch) (p : Program) (e : Env) (s : State) (m : MethodId) (args : Array Value) (below : List Frame) (meth : Method) (c : Code) (h0 : g_H) (r : Int32) (h' : g_H) (k : Nat → Nat → Nat → Nat → Int32 → gM Int32) : Prop := ∀ (a0 : Nat) (a1 : Nat) (a2 : Nat) (a3 : Nat) (x4 : Int32) (h : g_H) (H : Heap) (locs : List Loc) (cells slots : Nat) (ls : Array Slot), (k a0 a1 a2 a3 x4).1 h = some (r, h') → gI G h0 h H locs cells slots → lv_has ls 7 [(0, .ref a0), (1, .ref a1), (2, .ref a2), (3, .ref a3), (4, .int x4)] → W p l e room_1 s m args below meth c H locs cells slots (lw_Z below args s) (F0 m 2166 ls [])
abbrev w_L_law_2231 (G : gG) (l : Launch) (p : Program) (e : Env) (s : State) (m : MethodId) (args : Array Value) (below : List Frame) (meth : Method) (c : Code) (h0 : g_H) (r : Int32) (h' : g_H) (k : gM Int32) : Prop := ∀ (h : g_H) (H : Heap) (locs : List Loc) (cells slots : Nat) (ls : Array Slot), (k).1 h = some (r, h') → gI G h0 h H locs cells slots → lv_has ls 7 [] → W p l e room_1 s m args below meth c H locs cells slots (lw_Z below args s) (F0 m 2231 ls [])
abbrev w_L_law_2248 (G : gG) (l : Launch) (p : Program) (e : Env) (s : State) (m : MethodId) (args : Array Value) (below : List Frame) (meth : Method) (c : Code) (h0 : g_H) (r : Int32) (h' : g_H) (k : gM Int32) : Prop := ∀ (h : g_H) (H : Heap) (locs : List Loc) (cells slots : Nat) (ls : Array Slot), (k).1 h = some (r, h') → gI G h0 h H locs cells slots → lv_has ls 7 [] → W p l e room_1 s m args below meth c H locs cells slots (lw_Z below args s) (F0 m 2248 ls [])
abbrev w_L_law_2250 (G : gG) (l : Launch) (p : Program) (e : Env) (s : State) (m : MethodId) (args : Array Value) (below : List Frame) (meth : Method) (c : Code) (h0 : g_H) (r : Int32) (h' : g_H) (k : Nat → Nat → Nat → Nat → Int32 → gM Int32) : Prop := ∀ (a0 : Nat) (a1 : Nat) (a2 : Nat) (a3 : Nat) (x4 : Int32) (h : g_H) (H : Heap) (locs : List Loc) (cells slots : Nat) (ls : Array Slot), (k a0 a1 a2 a3 x4).1 h = some (r, h') → gI G h0 h H locs cells slots → lv_has ls 7 [(0, .ref a0), (1, .ref a1), (2, .ref a2), (3, .ref a3), (4, .int x4)] → W p l e room_1 s m args below meth c H locs cells slots (lw_Z below args s) (F0 m 2250 ls [])
abbrev w_L_law_2217 (G : gG) (l : Launch) (p : Program) (e : Env) (s : State) (m : MethodId) (args : Array Value) (below : List Frame) (meth : Method) (c : Code) (h0 : g_H) (r : Int32) (h' : g_H) (k : Nat → Nat → Nat → Nat → Int32 → Int32 → Nat → Int32 → Int32 → gM Int32) : Prop := ∀ (a0 : Nat) (a1 : Nat) (a2 : Nat) (a3 : Nat) (x4 : Int32) (x5 : Int32) (b0 : Nat) (u1 : Int32) (u2 : Int32) (h : g_H) (H : Heap) (locs : List Loc) (cells slots : Nat) (ls : Array Slot), (k a0 a1 a2 a3 x4 x5 b0 u1 u2).1 h = some (r, h') → gI G h0 h H locs cells slots → lv_has ls 7 [(0, .ref a0), (1, .ref a1), (2, .ref a2), (3, .ref a3), (4, .int x4), (5, .int x5)] → W p l e room_1 s m args below meth c H locs cells slots (lw_Z below args s) (F0 m 2217 ls [.int u2, .int u1, .ref b0])
abbrev w_L_law_2190 (G : gG) (l : Launch) (p : Program) (e : Env) (s : State) (m : MethodId) (args : Array Value) (below : List Frame) (meth : Method) (c : Code) (h0 : g_H) (r : Int32) (h' : g_H) (k : Nat → Nat → Nat → Nat → Int32 → Nat → Int32 → Int32 → gM Int32) : Prop := ∀ (a0 : Nat) (a1 : Nat) (a2 : Nat) (a3 : Nat) (x4 : Int32) (b0 : Nat) (u1 : Int32) (u2 : Int32) (h : g_H) (H : Heap) (locs : List Loc) (cells slots : Nat) (ls : Array Slot), (k a0 a1 a2 a3 x4 b0 u1 u2).1 h = some (r, h') → gI G h0 h H locs cells slots → lv_has ls 7 [(0, .ref a0), (1, .ref a1), (2, .ref a2), (3, .ref a3), (4, .int x4)] → W p l e room_1 s m args below meth c H locs cells slots (lw_Z below args s) (F0 m 2190 ls [.int u2, .int u1, .ref b0])
abbrev w_L_law_2315 (G : gG) (l : Launch) (p : Program) (e : Env) (s : State) (m : MethodId) (args : Array Value) (below : List Frame) (meth : Method) (c : Code) (h0 : g_H) (r : Int32) (h' : g_H) (k : gM Int32) : Prop := ∀ (h : g_H) (H : Heap) (locs : List Loc) (cells slots : Nat) (ls : Array Slot), (k).1 h = some (r, h') → gI G h0 h H locs cells slots → lv_has ls 7 [] → W p l e room_1 s m args below meth c H locs cells slots (lw_Z below args s) (F0 m 2315 ls [])
abbrev w_L_law_2332 (G : gG) (l : Launch) (p : Program) (e : Env) (s : State) (m : MethodId) (args : Array Value) (below : List Frame) (meth : Method) (c : Code) (h0 : g_H) (r : Int32) (h' : g_H) (k : gM Int32) : Prop := ∀ (h : g_H) (H : Heap) (locs : List Loc) (cells slots : Nat) (ls : Array Slot), (k).1 h = some (r, h') → gI G h0 h H locs cells slots → lv_has ls 7 [] → W p l e room_1 s m args below meth c H locs cells slots (lw_Z below args s) (F0 m 2332 ls [])
abbrev w_L_law_2334 (G : gG) (l : Launch) (p : Program) (e : Env) (s : State) (m : MethodId) (args : Array Value) (below : List Frame) (meth : Method) (c : Code) (h0 : g_H) (r : Int32) (h' : g_H) (k : Nat → Nat → Nat → Nat → Int32 → gM Int32) : Prop := ∀ (a0 : Nat) (a1 : Nat) (a2 : Nat) (a3 : Nat) (x4 : Int32) (h : g_H) (H : Heap) (locs : List Loc) (cells slots : Nat) (ls : Array Slot), (k a0 a1 a2 a3 x4).1 h = some (r, h') → gI G h0 h H locs cells slots → lv_has ls 7 [(0, .ref a0), (1, .ref a1), (2, .ref a2), (3, .ref a3), (4, .int x4)] → W p l e room_1 s m args below meth c H locs cells slots (lw_Z below args s) (F0 m 2334 ls [])
abbrev w_L_law_2301 (G : gG) (l : Launch) (p : Program) (e : Env) (s : State) (m : MethodId) (args : Array Value) (below : List Frame) (meth : Method) (c : Code) (h0 : g_H) (r : Int32) (h' : g_H) (k : Nat → Nat → Nat → Nat → Int32 → Int32 → Nat → Int32 → Int32 → gM Int32) : Prop := ∀ (a0 : Nat) (a1 : Nat) (a2 : Nat) (a3 : Nat) (x4 : Int32) (x5 : Int32) (b0 : Nat) (u1 : Int32) (u2 : Int32) (h : g_H) (H : Heap) (locs : List Loc) (cells slots : Nat) (ls : Array Slot), (k a0 a1 a2 a3 x4 x5 b0 u1 u2).1 h = some (r, h') → gI G h0 h H locs cells slots → lv_has ls 7 [(0, .ref a0), (1, .ref a1), (2, .ref a2), (3, .ref a3), (4, .int x4), (5, .int x5)] → W p l e room_1 s m args below meth c H locs cells slots (lw_Z below args s) (F0 m 2301 ls [.int u2, .int u1, .ref b0])
abbrev w_L_law_2274 (G : gG) (l : Launch) (p : Program) (e : Env) (s : State) (m : MethodId) (args : Array Value) (below : List Frame) (meth : Method) (c : Code) (h0 : g_H) (r : Int32) (h' : g_H) (k : Nat → Nat → Nat → Nat → Int32 → Nat → Int32 → Int32 → gM Int32) : Prop := ∀ (a0 : Nat) (a1 : Nat) (a2 : Nat) (a3 : Nat) (x4 : Int32) (b0 : Nat) (u1 : Int32) (u2 : Int32) (h : g_H) (H : Heap) (locs : List Loc) (cells slots : Nat) (ls : Array Slot), (k a0 a1 a2 a3 x4 b0 u1 u2).1 h = some (r, h') → gI G h0 h H locs cells slots → lv_has ls 7 [(0, .ref a0), (1, .ref a1), (2, .ref a2), (3, .ref a3), (4, .int x4)] → W p l e room_1 s m args below meth c H locs cells slots (lw_Z below args s) (F0 m 2274 ls [.int u2, .int u1, .ref b0])
abbrev w_L_law_2383 (G : gG) (l : Launch) (p : Program) (e : Env) (s : State) (m : MethodId) (args : Array Value) (below : List Frame) (meth : Method) (c : Code) (h0 : g_H) (r : Int32) (h' : g_H) (k : gM Int32) : Prop := ∀ (h : g_H) (H : Heap) (locs : List Loc) (cells slots : Nat) (ls : Array Slot), (k).1 h = some (r, h') → gI G h0 h H locs cells slots → lv_has ls 7 [] → W p l e room_1 s m args below meth c H locs cells slots (lw_Z below args s) (F0 m 2383 ls [])
abbrev w_L_law_2400 (G : gG) (l : Launch) (p : Program) (e : Env) (s : State) (m : MethodId) (args : Array Value) (below : List Frame) (meth : Method) (c : Code) (h0 : g_H) (r : Int32) (h' : g_H) (k : gM Int32) : Prop := ∀ (h : g_H) (H : Heap) (locs : List Loc) (cells slots : Nat) (ls : Array Slot), (k).1 h = some (r, h') → gI G h0 h H locs cells slots → lv_has ls 7 [] → W p l e room_1 s m args below meth c H locs cells slots (lw_Z below args s) (F0 m 2400 ls [])
abbrev w_L_law_2402 (G : gG) (l : Launch) (p : Program) (e : Env) (s : State) (m : MethodId) (args : Array Value) (below : List Frame) (meth : Method) (c : Code) (h0 : g_H) (r : Int32) (h' : g_H) (k : Nat → Nat → Nat → Nat → Int32 → gM Int32) : Prop := ∀ (a0 : Nat) (a1 : Nat) (a2 : Nat) (a3 : Nat) (x4 : Int32) (h : g_H) (H : Heap) (locs : List Loc) (cells slots : Nat) (ls : Array Slot), (k a0 a1 a2 a3 x4).1 h = some (r, h') → gI G h0 h H locs cells slots → lv_has ls 7 [(0, .ref a0), (1, .ref a1), (2, .ref a2), (3, .ref a3), (4, .int x4)] → W p l e room_1 s m args below meth c H locs cells slots (lw_Z below args s) (F0 m 2402 ls [])
abbrev w_L_law_2428 (G : gG) (l : Launch) (p : Program) (e : Env) (s : State) (m : MethodId) (args : Array Value) (below : List Frame) (meth : Method) (c : Code) (h0 : g_H) (r : Int32) (h' : g_H) (k : gM Int32) : Prop := ∀ (h : g_H) (H : Heap) (locs : List Loc) (cells slots : Nat) (ls : Array Slot), (k).1 h = some (r, h') → gI G h0 h H locs cells slots → lv_has ls 7 [] → W p l e room_1 s m args below meth c H locs cells slots (lw_Z below args s) (F0 m 2428 ls [])
abbrev w_L_law_2441 (G : gG) (l : Launch) (p : Program) (e : Env) (s : State) (m : MethodId) (args : Array Value) (below : List Frame) (meth : Method) (c : Code) (h0 : g_H) (r : Int32) (h' : g_H) (k : gM Int32) : Prop := ∀ (h : g_H) (H : Heap) (locs : List Loc) (cells slots : Nat) (ls : Array Slot), (k).1 h = some (r, h') → gI G h0 h H locs cells slots → lv_has ls 7 [] → W p l e room_1 s m args below meth c H locs cells slots (lw_Z below args s) (F0 m 2441 ls [])
abbrev w_L_law_2465 (G : gG) (l : Launch) (p : Program) (e : Env) (s : State) (m : MethodId) (args : Array Value) (below : List Frame) (meth : Method) (c : Code) (h0 : g_H) (r : Int32) (h' : g_H) (k : gM Int32) : Prop := ∀ (h : g_H) (H : Heap) (locs : List Loc) (cells slots : Nat) (ls : Array Slot), (k).1 h = some (r, h') → gI G h0 h H locs cells slots → lv_has ls 7 [] → W p l e room_1 s m args below meth c H locs cells slots (lw_Z below args s) (F0 m 2465 ls [])
abbrev w_L_law_2490 (G : gG) (l : Launch) (p : Program) (e : Env) (s : State) (m : MethodId) (args : Array Value) (below : List Frame) (meth : Method) (c : Code) (h0 : g_H) (r : Int32) (h' : g_H) (k : gM Int32) : Prop := ∀ (h : g_H) (H : Heap) (locs : List Loc) (cells slots : Nat) (ls : Array Slot), (k).1 h = some (r, h') → gI G h0 h H locs cells slots → lv_has ls 7 [] → W p l e room_1 s m args below meth c H locs cells slots (lw_Z below args s) (F0 m 2490 ls [])
abbrev w_L_law_2498 (G : gG) (l : Launch) (p : Program) (e : Env) (s : State) (m : MethodId) (args : Array Value) (below : List Frame) (meth : Method) (c : Code) (h0 : g_H) (r : Int32) (h' : g_H) (k : gM Int32) : Prop := ∀ (h : g_H) (H : Heap) (locs : List Loc) (cells slots : Nat) (ls : Array Slot), (k).1 h = some (r, h') → gI G h0 h H locs cells slots → lv_has ls 7 [] → W p l e room_1 s m args below meth c H locs cells slots (lw_Z below args s) (F0 m 2498 ls [])
abbrev w_L_law_23 (G : gG) (l : Launch) (p : Program) (e : Env) (s : State) (m : MethodId) (args : Array Value) (below : List Frame) (meth : Method) (c : Code) (h0 : g_H) (r : Int32) (h' : g_H) (k : Nat → Nat → Nat → Nat → Int32 → gM Int32) : Prop := ∀ (a0 : Nat) (a1 : Nat) (a2 : Nat) (a3 : Nat) (x4 : Int32) (h : g_H) (H : Heap) (locs : List Loc) (cells slots : Nat) (ls : Array Slot), (k a0 a1 a2 a3 x4).1 h = some (r, h') → gI G h0 h H locs cells slots → lv_has ls 7 [(0, .ref a0), (1, .ref a1), (2, .ref a2), (3, .ref a3), (4, .int x4)] → W p l e room_1 s m args below meth c H locs cells slots (lw_Z below args s) (F0 m 23 ls [])
def f_L_law_319 : gM Int32 :=
    (gRet (0 : Int32))
set_option maxHeartbeats 4000000 in
set_option maxRecDepth 100000 in
theorem b_L_law_319 {G : gG} {l : Launch} {p : Program} {e : Env} {s : State} {m : MethodId} {args : Array Value} {below : List Frame} {meth : Method} {c : Code} {h0 : g_H} {r : Int32} {h' : g_H} (X : gX G l "GhostAssizeLaw" cL_law 7 (some .boolean) [] "law" p s m args meth c) (hRc : g_nx h' - g_nx h0 ≤ room_1.cells ∧ g_us h' - g_us h0 ≤ room_1.slots) (hq1 : r = 1) (hn9 : g_nx h' - g_nx h0 ≤ 603072 ∧ g_us h' - g_us h0 ≤ 7190634) (hbs : G.2.2.1.size = s.heap.size ∧ ∃ b9 : Nat, args = #[Value.ref b9]) : w_L_law_319 G l p e s m args below meth c h0 r h' (f_L_law_319) := by
  have hx := X.1
  have hb := X.2.1
  have hown := X.2.2.2.1
  have hts := X.2.2.2.2.1
  intro h H locs cells slots ls hf hI hl
  unfold f_L_law_319 at hf
  refine lv_iconst (v := (0 : Int32)) hx hb dL_law_319 (by decide) ?_
  cases gRet_e hf
  exact g_lawret X hRc hq1 hn9 hbs hI dL_law_320
def f_L_law_2492 (k23 : Nat → Nat → Nat → Nat → Int32 → gM Int32) (a0 : Nat) (a1 : Nat) (a2 : Nat) (a3 : Nat) (x4 : Int32) : gM Int32 :=
    k23 a0 a1 a2 a3 (x4 + (6 : Int32))
set_option maxHeartbeats 4000000 in
set_option maxRecDepth 100000 in
theorem b_L_law_2492 {G : gG} {l : Launch} {p : Program} {e : Env} {s : State} {m : MethodId} {args : Array Value} {below : List Frame} {meth : Method} {c : Code} {h0 : g_H} {r : Int32} {h' : g_H} (X : gX G l "GhostAssizeLaw" cL_law 7 (some .boolean) [] "law" p s m args meth c) (hRc : g_nx h' - g_nx h0 ≤ room_1.cells ∧ g_us h' - g_us h0 ≤ room_1.slots) (hq1 : r = 1) (hn9 : g_nx h' - g_nx h0 ≤ 603072 ∧ g_us h' - g_us h0 ≤ 7190634) (hbs : G.2.2.1.size = s.heap.size ∧ ∃ b9 : Nat, args = #[Value.ref b9]) {k23 : Nat → Nat → Nat → Nat → Int32 → gM Int32} (K23 : w_L_law_23 G l p e s m args below meth c h0 r h' k23) : w_L_law_2492 G l p e s m args below meth c h0 r h' (f_L_law_2492 k23) := by
  have hx := X.1
  have hb := X.2.1
  have hown := X.2.2.2.1
  have hts := X.2.2.2.2.1
  intro a0 a1 a2 a3 x4 h H locs cells slots ls hf hI hl
  unfold f_L_law_2492 at hf
  refine lv_iinc (v := (x4 + (6 : Int32))) (lv' := [(4, .int (x4 + (6 : Int32))), (0, .ref a0), (1, .ref a1), (2, .ref a2), (3, .ref a3)]) hx hb dL_law_2492 hl (k := 4) rfl rfl (by decide) rfl (fun ls hl => ?_)
  refine lv_goto (tgt := 23) hx hb dL_law_2495 (by decide) ?_
  exact K23 _ _ _ _ _ _ _ _ _ _ _ hf hI (lv_sub hl [1, 2, 3, 4, 0] rfl)
def f_L_law_344 : gM Int32 :=
    (gRet (0 : Int32))
set_option maxHeartbeats 4000000 in
set_option maxRecDepth 100000 in
theorem b_L_law_344 {G : gG} {l : Launch} {p : Program} {e : Env} {s : State} {m : MethodId} {args : Array Value} {below : List Frame} {meth : Method} {c : Code} {h0 : g_H} {r : Int32} {h' : g_H} (X : gX G l "GhostAssizeLaw" cL_law 7 (some .boolean) [] "law" p s m args meth c) (hRc : g_nx h' - g_nx h0 ≤ room_1.cells ∧ g_us h' - g_us h0 ≤ room_1.slots) (hq1 : r = 1) (hn9 : g_nx h' - g_nx h0 ≤ 603072 ∧ g_us h' - g_us h0 ≤ 7190634) (hbs : G.2.2.1.size = s.heap.size ∧ ∃ b9 : Nat, args = #[Value.ref b9]) : w_L_law_344 G l p e s m args below meth c h0 r h' (f_L_law_344) := by
  have hx := X.1
  have hb := X.2.1
  have hown := X.2.2.2.1
  have hts := X.2.2.2.2.1
  intro h H locs cells slots ls hf hI hl
  unfold f_L_law_344 at hf
  refine lv_iconst (v := (0 : Int32)) hx hb dL_law_344 (by decide) ?_
  cases gRet_e hf
  exact g_lawret X hRc hq1 hn9 hbs hI dL_law_345
def f_L_law_368 : gM Int32 :=
    (gRet (0 : Int32))
set_option maxHeartbeats 4000000 in
set_option maxRecDepth 100000 in
theorem b_L_law_368 {G : gG} {l : Launch} {p : Program} {e : Env} {s : State} {m : MethodId} {args : Array Value} {below : List Frame} {meth : Method} {c : Code} {h0 : g_H} {r : Int32} {h' : g_H} (X : gX G l "GhostAssizeLaw" cL_law 7 (some .boolean) [] "law" p s m args meth c) (hRc : g_nx h' - g_nx h0 ≤ room_1.cells ∧ g_us h' - g_us h0 ≤ room_1.slots) (hq1 : r = 1) (hn9 : g_nx h' - g_nx h0 ≤ 603072 ∧ g_us h' - g_us h0 ≤ 7190634) (hbs : G.2.2.1.size = s.heap.size ∧ ∃ b9 : Nat, args = #[Value.ref b9]) : w_L_law_368 G l p e s m args below meth c h0 r h' (f_L_law_368) := by
  have hx := X.1
  have hb := X.2.1
  have hown := X.2.2.2.1
  have hts := X.2.2.2.2.1
  intro h H locs cells slots ls hf hI hl
  unfold f_L_law_368 at hf
  refine lv_iconst (v := (0 : Int32)) hx hb dL_law_368 (by decide) ?_
  cases gRet_e hf
  exact g_lawret X hRc hq1 hn9 hbs hI dL_law_369
def f_L_law_385 : gM Int32 :=
    (gRet (0 : Int32))
set_option maxHeartbeats 4000000 in
set_option maxRecDepth 100000 in
theorem b_L_law_385 {G : gG} {l : Launch} {p : Program} {e : Env} {s : State} {m : MethodId} {args : Array Value} {below : List Frame} {meth : Method} {c : Code} {h0 : g_H} {r : Int32} {h' : g_H} (X : gX G l "GhostAssizeLaw" cL_law 7 (some .boolean) [] "law" p s m args meth c) (hRc : g_nx h' - g_nx h0 ≤ room_1.cells ∧ g_us h' - g_us h0 ≤ room_1.slots) (hq1 : r = 1) (hn9 : g_nx h' - g_nx h0 ≤ 603072 ∧ g_us h' - g_us h0 ≤ 7190634) (hbs : G.2.2.1.size = s.heap.size ∧ ∃ b9 : Nat, args = #[Value.ref b9]) : w_L_law_385 G l p e s m args below meth c h0 r h' (f_L_law_385) := by
  have hx := X.1
  have hb := X.2.1
  have hown := X.2.2.2.1
  have hts := X.2.2.2.2.1
  intro h H locs cells slots ls hf hI hl
  unfold f_L_law_385 at hf
  refine lv_iconst (v := (0 : Int32)) hx hb dL_law_385 (by decide) ?_
  cases gRet_e hf
  exact g_lawret X hRc hq1 hn9 hbs hI dL_law_386
def f_L_law_387 (k23 : Nat → Nat → Nat → Nat → Int32 → gM Int32) (a0 : Nat) (a1 : Nat) (a2 : Nat) (a3 : Nat) (x4 : Int32) : gM Int32 :=
    f_L_law_2492 k23 a0 a1 a2 a3 x4
set_option maxHeartbeats 4000000 in
set_option maxRecDepth 100000 in
theorem b_L_law_387 {G : gG} {l : Launch} {p : Program} {e : Env} {s : State} {m : MethodId} {args : Array Value} {below : List Frame} {meth : Method} {c : Code} {h0 : g_H} {r : Int32} {h' : g_H} (X : gX G l "GhostAssizeLaw" cL_law 7 (some .boolean) [] "law" p s m args meth c) (hRc : g_nx h' - g_nx h0 ≤ room_1.cells ∧ g_us h' - g_us h0 ≤ room_1.slots) (hq1 : r = 1) (hn9 : g_nx h' - g_nx h0 ≤ 603072 ∧ g_us h' - g_us h0 ≤ 7190634) (hbs : G.2.2.1.size = s.heap.size ∧ ∃ b9 : Nat, args = #[Value.ref b9]) {k23 : Nat → Nat → Nat → Nat → Int32 → gM Int32} (K23 : w_L_law_23 G l p e s m args below meth c h0 r h' k23) : w_L_law_387 G l p e s m args below meth c h0 r h' (f_L_law_387 k23) := by
  have hx := X.1
  have hb := X.2.1
  have hown := X.2.2.2.1
  have hts := X.2.2.2.2.1
  intro a0 a1 a2 a3 x4 h H locs cells slots ls hf hI hl
  unfold f_L_law_387 at hf
  refine lv_goto (tgt := 2492) hx hb dL_law_387 (by decide) ?_
  exact b_L_law_2492 X hRc hq1 hn9 hbs K23 _ _ _ _ _ _ _ _ _ _ _ hf hI (lv_sub hl [0, 1, 2, 3, 4] rfl)
def f_L_law_412 : gM Int32 :=
    (gRet (0 : Int32))
set_option maxHeartbeats 4000000 in
set_option maxRecDepth 100000 in
theorem b_L_law_412 {G : gG} {l : Launch} {p : Program} {e : Env} {s : State} {m : MethodId} {args : Array Value} {below : List Frame} {meth : Method} {c : Code} {h0 : g_H} {r : Int32} {h' : g_H} (X : gX G l "GhostAssizeLaw" cL_law 7 (some .boolean) [] "law" p s m args meth c) (hRc : g_nx h' - g_nx h0 ≤ room_1.cells ∧ g_us h' - g_us h0 ≤ room_1.slots) (hq1 : r = 1) (hn9 : g_nx h' - g_nx h0 ≤ 603072 ∧ g_us h' - g_us h0 ≤ 7190634) (hbs : G.2.2.1.size = s.heap.size ∧ ∃ b9 : Nat, args = #[Value.ref b9]) : w_L_law_412 G l p e s m args below meth c h0 r h' (f_L_law_412) := by
  have hx := X.1
  have hb := X.2.1
  have hown := X.2.2.2.1
  have hts := X.2.2.2.2.1
  intro h H locs cells slots ls hf hI hl
  unfold f_L_law_412 at hf
  refine lv_iconst (v := (0 : Int32)) hx hb dL_law_412 (by decide) ?_
  cases gRet_e hf
  exact g_lawret X hRc hq1 hn9 hbs hI dL_law_413
def f_L_law_429 : gM Int32 :=
    (gRet (0 : Int32))
set_option maxHeartbeats 4000000 in
set_option maxRecDepth 100000 in
theorem b_L_law_429 {G : gG} {l : Launch} {p : Program} {e : Env} {s : State} {m : MethodId} {args : Array Value} {below : List Frame} {meth : Method} {c : Code} {h0 : g_H} {r : Int32} {h' : g_H} (X : gX G l "GhostAssizeLaw" cL_law 7 (some .boolean) [] "law" p s m args meth c) (hRc : g_nx h' - g_nx h0 ≤ room_1.cells ∧ g_us h' - g_us h0 ≤ room_1.slots) (hq1 : r = 1) (hn9 : g_nx h' - g_nx h0 ≤ 603072 ∧ g_us h' - g_us h0 ≤ 7190634) (hbs : G.2.2.1.size = s.heap.size ∧ ∃ b9 : Nat, args = #[Value.ref b9]) : w_L_law_429 G l p e s m args below meth c h0 r h' (f_L_law_429) := by
  have hx := X.1
  have hb := X.2.1
  have hown := X.2.2.2.1
  have hts := X.2.2.2.2.1
  intro h H locs cells slots ls hf hI hl
  unfold f_L_law_429 at hf
  refine lv_iconst (v := (0 : Int32)) hx hb dL_law_429 (by decide) ?_
  cases gRet_e hf
  exact g_lawret X hRc hq1 hn9 hbs hI dL_law_430
def f_L_law_431 (k23 : Nat → Nat → Nat → Nat → Int32 → gM Int32) (a0 : Nat) (a1 : Nat) (a2 : Nat) (a3 : Nat) (x4 : Int32) : gM Int32 :=
    f_L_law_2492 k23 a0 a1 a2 a3 x4
set_option maxHeartbeats 4000000 in
set_option maxRecDepth 100000 in
theorem b_L_law_431 {G : gG} {l : Launch} {p : Program} {e : Env} {s : State} {m : MethodId} {args : Array Value} {below : List Frame} {meth : Method} {c : Code} {h0 : g_H} {r : Int32} {h' : g_H} (X : gX G l "GhostAssizeLaw" cL_law 7 (some .boolean) [] "law" p s m args meth c) (hRc : g_nx h' - g_nx h0 ≤ room_1.cells ∧ g_us h' - g_us h0 ≤ room_1.slots) (hq1 : r = 1) (hn9 : g_nx h' - g_nx h0 ≤ 603072 ∧ g_us h' - g_us h0 ≤ 7190634) (hbs : G.2.2.1.size = s.heap.size ∧ ∃ b9 : Nat, args = #[Value.ref b9]) {k23 : Nat → Nat → Nat → Nat → Int32 → gM Int32} (K23 : w_L_law_23 G l p e s m args below meth c h0 r h' k23) : w_L_law_431 G l p e s m args below meth c h0 r h' (f_L_law_431 k23) := by
  have hx := X.1
  have hb := X.2.1
  have hown := X.2.2.2.1
  have hts := X.2.2.2.2.1
  intro a0 a1 a2 a3 x4 h H locs cells slots ls hf hI hl
  unfold f_L_law_431 at hf
  refine lv_goto (tgt := 2492) hx hb dL_law_431 (by decide) ?_
  exact b_L_law_2492 X hRc hq1 hn9 hbs K23 _ _ _ _ _ _ _ _ _ _ _ hf hI (lv_sub hl [0, 1, 2, 3, 4] rfl)
def f_L_law_445 : gM Int32 :=
    (gRet (0 : Int32))
set_option maxHeartbeats 4000000 in
set_option maxRecDepth 100000 in
theorem b_L_law_445 {G : gG} {l : Launch} {p : Program} {e : Env} {s : State} {m : MethodId} {args : Array Value} {below : List Frame} {meth : Method} {c : Code} {h0 : g_H} {r : Int32} {h' : g_H} (X : gX G l "GhostAssizeLaw" cL_law 7 (some .boolean) [] "law" p s m args meth c) (hRc : g_nx h' - g_nx h0 ≤ room_1.cells ∧ g_us h' - g_us h0 ≤ room_1.slots) (hq1 : r = 1) (hn9 : g_nx h' - g_nx h0 ≤ 603072 ∧ g_us h' - g_us h0 ≤ 7190634) (hbs : G.2.2.1.size = s.heap.size ∧ ∃ b9 : Nat, args = #[Value.ref b9]) : w_L_law_445 G l p e s m args below meth c h0 r h' (f_L_law_445) := by
  have hx := X.1
  have hb := X.2.1
  have hown := X.2.2.2.1
  have hts := X.2.2.2.2.1
  intro h H locs cells slots ls hf hI hl
  unfold f_L_law_445 at hf
  refine lv_iconst (v := (0 : Int32)) hx hb dL_law_445 (by decide) ?_
  cases gRet_e hf
  exact g_lawret X hRc hq1 hn9 hbs hI dL_law_446
def f_L_law_493 : gM Int32 :=
    (gRet (0 : Int32))
set_option maxHeartbeats 4000000 in
set_option maxRecDepth 100000 in
theorem b_L_law_493 {G : gG} {l : Launch} {p : Program} {e : Env} {s : State} {m : MethodId} {args : Array Value} {below : List Frame} {meth : Method} {c : Code} {h0 : g_H} {r : Int32} {h' : g_H} (X : gX G l "GhostAssizeLaw" cL_law 7 (some .boolean) [] "law" p s m args meth c) (hRc : g_nx h' - g_nx h0 ≤ room_1.cells ∧ g_us h' - g_us h0 ≤ room_1.slots) (hq1 : r = 1) (hn9 : g_nx h' - g_nx h0 ≤ 603072 ∧ g_us h' - g_us h0 ≤ 7190634) (hbs : G.2.2.1.size = s.heap.size ∧ ∃ b9 : Nat, args = #[Value.ref b9]) : w_L_law_493 G l p e s m args below meth c h0 r h' (f_L_law_493) := by
  have hx := X.1
  have hb := X.2.1
  have hown := X.2.2.2.1
  have hts := X.2.2.2.2.1
  intro h H locs cells slots ls hf hI hl
  unfold f_L_law_493 at hf
  refine lv_iconst (v := (0 : Int32)) hx hb dL_law_493 (by decide) ?_
  cases gRet_e hf
  exact g_lawret X hRc hq1 hn9 hbs hI dL_law_494
def f_L_law_510 : gM Int32 :=
    (gRet (0 : Int32))
set_option maxHeartbeats 4000000 in
set_option maxRecDepth 100000 in
theorem b_L_law_510 {G : gG} {l : Launch} {p : Program} {e : Env} {s : State} {m : MethodId} {args : Array Value} {below : List Frame} {meth : Method} {c : Code} {h0 : g_H} {r : Int32} {h' : g_H} (X : gX G l "GhostAssizeLaw" cL_law 7 (some .boolean) [] "law" p s m args meth c) (hRc : g_nx h' - g_nx h0 ≤ room_1.cells ∧ g_us h' - g_us h0 ≤ room_1.slots) (hq1 : r = 1) (hn9 : g_nx h' - g_nx h0 ≤ 603072 ∧ g_us h' - g_us h0 ≤ 7190634) (hbs : G.2.2.1.size = s.heap.size ∧ ∃ b9 : Nat, args = #[Value.ref b9]) : w_L_law_510 G l p e s m args below meth c h0 r h' (f_L_law_510) := by
  have hx := X.1
  have hb := X.2.1
  have hown := X.2.2.2.1
  have hts := X.2.2.2.2.1
  intro h H locs cells slots ls hf hI hl
  unfold f_L_law_510 at hf
  refine lv_iconst (v := (0 : Int32)) hx hb dL_law_510 (by decide) ?_
  cases gRet_e hf
  exact g_lawret X hRc hq1 hn9 hbs hI dL_law_511
def f_L_law_512 (k23 : Nat → Nat → Nat → Nat → Int32 → gM Int32) (a0 : Nat) (a1 : Nat) (a2 : Nat) (a3 : Nat) (x4 : Int32) : gM Int32 :=
    f_L_law_2492 k23 a0 a1 a2 a3 x4
set_option maxHeartbeats 4000000 in
set_option maxRecDepth 100000 in
theorem b_L_law_512 {G : gG} {l : Launch} {p : Program} {e : Env} {s : State} {m : MethodId} {args : Array Value} {below : List Frame} {meth : Method} {c : Code} {h0 : g_H} {r : Int32} {h' : g_H} (X : gX G l "GhostAssizeLaw" cL_law 7 (some .boolean) [] "law" p s m args meth c) (hRc : g_nx h' - g_nx h0 ≤ room_1.cells ∧ g_us h' - g_us h0 ≤ room_1.slots) (hq1 : r = 1) (hn9 : g_nx h' - g_nx h0 ≤ 603072 ∧ g_us h' - g_us h0 ≤ 7190634) (hbs : G.2.2.1.size = s.heap.size ∧ ∃ b9 : Nat, args = #[Value.ref b9]) {k23 : Nat → Nat → Nat → Nat → Int32 → gM Int32} (K23 : w_L_law_23 G l p e s m args below meth c h0 r h' k23) : w_L_law_512 G l p e s m args below meth c h0 r h' (f_L_law_512 k23) := by
  have hx := X.1
  have hb := X.2.1
  have hown := X.2.2.2.1
  have hts := X.2.2.2.2.1
  intro a0 a1 a2 a3 x4 h H locs cells slots ls hf hI hl
  unfold f_L_law_512 at hf
  refine lv_goto (tgt := 2492) hx hb dL_law_512 (by decide) ?_
  exact b_L_law_2492 X hRc hq1 hn9 hbs K23 _ _ _ _ _ _ _ _ _ _ _ hf hI (lv_sub hl [0, 1, 2, 3, 4] rfl)
def f_L_law_549 : gM Int32 :=
    (gRet (0 : Int32))
set_option maxHeartbeats 4000000 in
set_option maxRecDepth 100000 in
theorem b_L_law_549 {G : gG} {l : Launch} {p : Program} {e : Env} {s : State} {m : MethodId} {args : Array Value} {below : List Frame} {meth : Method} {c : Code} {h0 : g_H} {r : Int32} {h' : g_H} (X : gX G l "GhostAssizeLaw" cL_law 7 (some .boolean) [] "law" p s m args meth c) (hRc : g_nx h' - g_nx h0 ≤ room_1.cells ∧ g_us h' - g_us h0 ≤ room_1.slots) (hq1 : r = 1) (hn9 : g_nx h' - g_nx h0 ≤ 603072 ∧ g_us h' - g_us h0 ≤ 7190634) (hbs : G.2.2.1.size = s.heap.size ∧ ∃ b9 : Nat, args = #[Value.ref b9]) : w_L_law_549 G l p e s m args below meth c h0 r h' (f_L_law_549) := by
  have hx := X.1
  have hb := X.2.1
  have hown := X.2.2.2.1
  have hts := X.2.2.2.2.1
  intro h H locs cells slots ls hf hI hl
  unfold f_L_law_549 at hf
  refine lv_iconst (v := (0 : Int32)) hx hb dL_law_549 (by decide) ?_
  cases gRet_e hf
  exact g_lawret X hRc hq1 hn9 hbs hI dL_law_550
def f_L_law_566 : gM Int32 :=
    (gRet (0 : Int32))
set_option maxHeartbeats 4000000 in
set_option maxRecDepth 100000 in
theorem b_L_law_566 {G : gG} {l : Launch} {p : Program} {e : Env} {s : State} {m : MethodId} {args : Array Value} {below : List Frame} {meth : Method} {c : Code} {h0 : g_H} {r : Int32} {h' : g_H} (X : gX G l "GhostAssizeLaw" cL_law 7 (some .boolean) [] "law" p s m args meth c) (hRc : g_nx h' - g_nx h0 ≤ room_1.cells ∧ g_us h' - g_us h0 ≤ room_1.slots) (hq1 : r = 1) (hn9 : g_nx h' - g_nx h0 ≤ 603072 ∧ g_us h' - g_us h0 ≤ 7190634) (hbs : G.2.2.1.size = s.heap.size ∧ ∃ b9 : Nat, args = #[Value.ref b9]) : w_L_law_566 G l p e s m args below meth c h0 r h' (f_L_law_566) := by
  have hx := X.1
  have hb := X.2.1
  have hown := X.2.2.2.1
  have hts := X.2.2.2.2.1
  intro h H locs cells slots ls hf hI hl
  unfold f_L_law_566 at hf
  refine lv_iconst (v := (0 : Int32)) hx hb dL_law_566 (by decide) ?_
  cases gRet_e hf
  exact g_lawret X hRc hq1 hn9 hbs hI dL_law_567
def f_L_law_568 (k23 : Nat → Nat → Nat → Nat → Int32 → gM Int32) (a0 : Nat) (a1 : Nat) (a2 : Nat) (a3 : Nat) (x4 : Int32) : gM Int32 :=
    f_L_law_2492 k23 a0 a1 a2 a3 x4
set_option maxHeartbeats 4000000 in
set_option maxRecDepth 100000 in
theorem b_L_law_568 {G : gG} {l : Launch} {p : Program} {e : Env} {s : State} {m : MethodId} {args : Array Value} {below : List Frame} {meth : Method} {c : Code} {h0 : g_H} {r : Int32} {h' : g_H} (X : gX G l "GhostAssizeLaw" cL_law 7 (some .boolean) [] "law" p s m args meth c) (hRc : g_nx h' - g_nx h0 ≤ room_1.cells ∧ g_us h' - g_us h0 ≤ room_1.slots) (hq1 : r = 1) (hn9 : g_nx h' - g_nx h0 ≤ 603072 ∧ g_us h' - g_us h0 ≤ 7190634) (hbs : G.2.2.1.size = s.heap.size ∧ ∃ b9 : Nat, args = #[Value.ref b9]) {k23 : Nat → Nat → Nat → Nat → Int32 → gM Int32} (K23 : w_L_law_23 G l p e s m args below meth c h0 r h' k23) : w_L_law_568 G l p e s m args below meth c h0 r h' (f_L_law_568 k23) := by
  have hx := X.1
  have hb := X.2.1
  have hown := X.2.2.2.1
  have hts := X.2.2.2.2.1
  intro a0 a1 a2 a3 x4 h H locs cells slots ls hf hI hl
  unfold f_L_law_568 at hf
  refine lv_goto (tgt := 2492) hx hb dL_law_568 (by decide) ?_
  exact b_L_law_2492 X hRc hq1 hn9 hbs K23 _ _ _ _ _ _ _ _ _ _ _ hf hI (lv_sub hl [0, 1, 2, 3, 4] rfl)
def f_L_law_617 : gM Int32 :=
    (gRet (0 : Int32))
set_option maxHeartbeats 4000000 in
set_option maxRecDepth 100000 in
theorem b_L_law_617 {G : gG} {l : Launch} {p : Program} {e : Env} {s : State} {m : MethodId} {args : Array Value} {below : List Frame} {meth : Method} {c : Code} {h0 : g_H} {r : Int32} {h' : g_H} (X : gX G l "GhostAssizeLaw" cL_law 7 (some .boolean) [] "law" p s m args meth c) (hRc : g_nx h' - g_nx h0 ≤ room_1.cells ∧ g_us h' - g_us h0 ≤ room_1.slots) (hq1 : r = 1) (hn9 : g_nx h' - g_nx h0 ≤ 603072 ∧ g_us h' - g_us h0 ≤ 7190634) (hbs : G.2.2.1.size = s.heap.size ∧ ∃ b9 : Nat, args = #[Value.ref b9]) : w_L_law_617 G l p e s m args below meth c h0 r h' (f_L_law_617) := by
  have hx := X.1
  have hb := X.2.1
  have hown := X.2.2.2.1
  have hts := X.2.2.2.2.1
  intro h H locs cells slots ls hf hI hl
  unfold f_L_law_617 at hf
  refine lv_iconst (v := (0 : Int32)) hx hb dL_law_617 (by decide) ?_
  cases gRet_e hf
  exact g_lawret X hRc hq1 hn9 hbs hI dL_law_618
def f_L_law_634 : gM Int32 :=
    (gRet (0 : Int32))
set_option maxHeartbeats 4000000 in
set_option maxRecDepth 100000 in
theorem b_L_law_634 {G : gG} {l : Launch} {p : Program} {e : Env} {s : State} {m : MethodId} {args : Array Value} {below : List Frame} {meth : Method} {c : Code} {h0 : g_H} {r : Int32} {h' : g_H} (X : gX G l "GhostAssizeLaw" cL_law 7 (some .boolean) [] "law" p s m args meth c) (hRc : g_nx h' - g_nx h0 ≤ room_1.cells ∧ g_us h' - g_us h0 ≤ room_1.slots) (hq1 : r = 1) (hn9 : g_nx h' - g_nx h0 ≤ 603072 ∧ g_us h' - g_us h0 ≤ 7190634) (hbs : G.2.2.1.size = s.heap.size ∧ ∃ b9 : Nat, args = #[Value.ref b9]) : w_L_law_634 G l p e s m args below meth c h0 r h' (f_L_law_634) := by
  have hx := X.1
  have hb := X.2.1
  have hown := X.2.2.2.1
  have hts := X.2.2.2.2.1
  intro h H locs cells slots ls hf hI hl
  unfold f_L_law_634 at hf
  refine lv_iconst (v := (0 : Int32)) hx hb dL_law_634 (by decide) ?_
  cases gRet_e hf
  exact g_lawret X hRc hq1 hn9 hbs hI dL_law_635
def f_L_law_636 (k23 : Nat → Nat → Nat → Nat → Int32 → gM Int32) (a0 : Nat) (a1 : Nat) (a2 : Nat) (a3 : Nat) (x4 : Int32) : gM Int32 :=
    f_L_law_2492 k23 a0 a1 a2 a3 x4
set_option maxHeartbeats 4000000 in
set_option maxRecDepth 100000 in
theorem b_L_law_636 {G : gG} {l : Launch} {p : Program} {e : Env} {s : State} {m : MethodId} {args : Array Value} {below : List Frame} {meth : Method} {c : Code} {h0 : g_H} {r : Int32} {h' : g_H} (X : gX G l "GhostAssizeLaw" cL_law 7 (some .boolean) [] "law" p s m args meth c) (hRc : g_nx h' - g_nx h0 ≤ room_1.cells ∧ g_us h' - g_us h0 ≤ room_1.slots) (hq1 : r = 1) (hn9 : g_nx h' - g_nx h0 ≤ 603072 ∧ g_us h' - g_us h0 ≤ 7190634) (hbs : G.2.2.1.size = s.heap.size ∧ ∃ b9 : Nat, args = #[Value.ref b9]) {k23 : Nat → Nat → Nat → Nat → Int32 → gM Int32} (K23 : w_L_law_23 G l p e s m args below meth c h0 r h' k23) : w_L_law_636 G l p e s m args below meth c h0 r h' (f_L_law_636 k23) := by
  have hx := X.1
  have hb := X.2.1
  have hown := X.2.2.2.1
  have hts := X.2.2.2.2.1
  intro a0 a1 a2 a3 x4 h H locs cells slots ls hf hI hl
  unfold f_L_law_636 at hf
  refine lv_goto (tgt := 2492) hx hb dL_law_636 (by decide) ?_
  exact b_L_law_2492 X hRc hq1 hn9 hbs K23 _ _ _ _ _ _ _ _ _ _ _ hf hI (lv_sub hl [0, 1, 2, 3, 4] rfl)
def f_L_law_725 : gM Int32 :=
    (gRet (0 : Int32))
set_option maxHeartbeats 4000000 in
set_option maxRecDepth 100000 in
theorem b_L_law_725 {G : gG} {l : Launch} {p : Program} {e : Env} {s : State} {m : MethodId} {args : Array Value} {below : List Frame} {meth : Method} {c : Code} {h0 : g_H} {r : Int32} {h' : g_H} (X : gX G l "GhostAssizeLaw" cL_law 7 (some .boolean) [] "law" p s m args meth c) (hRc : g_nx h' - g_nx h0 ≤ room_1.cells ∧ g_us h' - g_us h0 ≤ room_1.slots) (hq1 : r = 1) (hn9 : g_nx h' - g_nx h0 ≤ 603072 ∧ g_us h' - g_us h0 ≤ 7190634) (hbs : G.2.2.1.size = s.heap.size ∧ ∃ b9 : Nat, args = #[Value.ref b9]) : w_L_law_725 G l p e s m args below meth c h0 r h' (f_L_law_725) := by
  have hx := X.1
  have hb := X.2.1
  have hown := X.2.2.2.1
  have hts := X.2.2.2.2.1
  intro h H locs cells slots ls hf hI hl
  unfold f_L_law_725 at hf
  refine lv_iconst (v := (0 : Int32)) hx hb dL_law_725 (by decide) ?_
  cases gRet_e hf
  exact g_lawret X hRc hq1 hn9 hbs hI dL_law_726
def f_L_law_742 : gM Int32 :=
    (gRet (0 : Int32))
set_option maxHeartbeats 4000000 in
set_option maxRecDepth 100000 in
theorem b_L_law_742 {G : gG} {l : Launch} {p : Program} {e : Env} {s : State} {m : MethodId} {args : Array Value} {below : List Frame} {meth : Method} {c : Code} {h0 : g_H} {r : Int32} {h' : g_H} (X : gX G l "GhostAssizeLaw" cL_law 7 (some .boolean) [] "law" p s m args meth c) (hRc : g_nx h' - g_nx h0 ≤ room_1.cells ∧ g_us h' - g_us h0 ≤ room_1.slots) (hq1 : r = 1) (hn9 : g_nx h' - g_nx h0 ≤ 603072 ∧ g_us h' - g_us h0 ≤ 7190634) (hbs : G.2.2.1.size = s.heap.size ∧ ∃ b9 : Nat, args = #[Value.ref b9]) : w_L_law_742 G l p e s m args below meth c h0 r h' (f_L_law_742) := by
  have hx := X.1
  have hb := X.2.1
  have hown := X.2.2.2.1
  have hts := X.2.2.2.2.1
  intro h H locs cells slots ls hf hI hl
  unfold f_L_law_742 at hf
  refine lv_iconst (v := (0 : Int32)) hx hb dL_law_742 (by decide) ?_
  cases gRet_e hf
  exact g_lawret X hRc hq1 hn9 hbs hI dL_law_743
def f_L_law_744 (k23 : Nat → Nat → Nat → Nat → Int32 → gM Int32) (a0 : Nat) (a1 : Nat) (a2 : Nat) (a3 : Nat) (x4 : Int32) : gM Int32 :=
    f_L_law_2492 k23 a0 a1 a2 a3 x4
set_option maxHeartbeats 4000000 in
set_option maxRecDepth 100000 in
theorem b_L_law_744 {G : gG} {l : Launch} {p : Program} {e : Env} {s : State} {m : MethodId} {args : Array Value} {below : List Frame} {meth : Method} {c : Code} {h0 : g_H} {r : Int32} {h' : g_H} (X : gX G l "GhostAssizeLaw" cL_law 7 (some .boolean) [] "law" p s m args meth c) (hRc : g_nx h' - g_nx h0 ≤ room_1.cells ∧ g_us h' - g_us h0 ≤ room_1.slots) (hq1 : r = 1) (hn9 : g_nx h' - g_nx h0 ≤ 603072 ∧ g_us h' - g_us h0 ≤ 7190634) (hbs : G.2.2.1.size = s.heap.size ∧ ∃ b9 : Nat, args = #[Value.ref b9]) {k23 : Nat → Nat → Nat → Nat → Int32 → gM Int32} (K23 : w_L_law_23 G l p e s m args below meth c h0 r h' k23) : w_L_law_744 G l p e s m args below meth c h0 r h' (f_L_law_744 k23) := by
  have hx := X.1
  have hb := X.2.1
  have hown := X.2.2.2.1
  have hts := X.2.2.2.2.1
  intro a0 a1 a2 a3 x4 h H locs cells slots ls hf hI hl
  unfold f_L_law_744 at hf
  refine lv_goto (tgt := 2492) hx hb dL_law_744 (by decide) ?_
  exact b_L_law_2492 X hRc hq1 hn9 hbs K23 _ _ _ _ _ _ _ _ _ _ _ hf hI (lv_sub hl [0, 1, 2, 3, 4] rfl)
def f_L_law_711 (k23 : Nat → Nat → Nat → Nat → Int32 → gM Int32) (a0 : Nat) (a1 : Nat) (a2 : Nat) (a3 : Nat) (x4 : Int32) (x5 : Int32) (b0 : Nat) (u1 : Int32) (u2 : Int32) (u3 : Int32) (u4 : Int32) : gM Int32 :=
    gB (gCk b0 7) fun _ =>
    gB (f_X8_fright b0 u1 u2 u3 u4) fun r101 =>
    gB (gCk a2 7) fun _ =>
    gB (f_X8_thrown a2) fun r102 =>
    gIf (r102 = x5)
    (gIf (x5 = 0)
    (gB (gAI a3 2 (0 : Int32)) fun v103 =>
    gIf ((lg_cmp v103.toInt64 (r101).toInt64) = 0)
    (f_L_law_744 k23 a0 a1 a2 a3 x4)
    (f_L_law_742))
    (f_L_law_744 k23 a0 a1 a2 a3 x4))
    (f_L_law_725)
set_option maxHeartbeats 4000000 in
set_option maxRecDepth 100000 in
theorem b_L_law_711 {G : gG} {l : Launch} {p : Program} {e : Env} {s : State} {m : MethodId} {args : Array Value} {below : List Frame} {meth : Method} {c : Code} {h0 : g_H} {r : Int32} {h' : g_H} (X : gX G l "GhostAssizeLaw" cL_law 7 (some .boolean) [] "law" p s m args meth c) (hRc : g_nx h' - g_nx h0 ≤ room_1.cells ∧ g_us h' - g_us h0 ≤ room_1.slots) (hq1 : r = 1) (hn9 : g_nx h' - g_nx h0 ≤ 603072 ∧ g_us h' - g_us h0 ≤ 7190634) (hbs : G.2.2.1.size = s.heap.size ∧ ∃ b9 : Nat, args = #[Value.ref b9]) {k23 : Nat → Nat → Nat → Nat → Int32 → gM Int32} (K23 : w_L_law_23 G l p e s m args below meth c h0 r h' k23) : w_L_law_711 G l p e s m args below meth c h0 r h' (f_L_law_711 k23) := by
  have hx := X.1
  have hb := X.2.1
  have hown := X.2.2.2.1
  have hts := X.2.2.2.2.1
  intro a0 a1 a2 a3 x4 x5 b0 u1 u2 u3 u4 h H locs cells slots ls hf hI hl
  unfold f_L_law_711 at hf
  obtain ⟨hs, hf⟩ := gCk_b hf
  refine g_cBI hI hf (fun v9 h9 e9 l9 l9' => g_rV X hI l9 l9' hRc (As := [.int u1, .int u2, .int u3, .int u4]) (m_X8_fright X.2.2.2.2.2.2.2.2.2.2.1 e9) ydX8_fright hs rfl rfl q1771 q1772 q1773 q131 q1774 rfl (Nat.le_of_ble_eq_true rfl) (Nat.le_of_ble_eq_true rfl) hl.1 rfl (Nat.le_of_ble_eq_true rfl) dL_law_711) (fun r101 h H locs cells slots hf hI => ?_)
  refine lv_istore (lv' := [(6, .int r101), (0, .ref a0), (1, .ref a1), (2, .ref a2), (3, .ref a3), (4, .int x4), (5, .int x5)]) hx hb dL_law_714 hl (by decide) rfl (fun ls hl => ?_)
  refine lv_aload_n hx hb dL_law_716 rfl (lv_at hl 3 rfl) ?_
  obtain ⟨hs, hf⟩ := gCk_b hf
  refine g_cBI hI hf (fun v9 h9 e9 l9 l9' => g_rV X hI l9 l9' hRc (As := []) (m_X8_thrown X.2.2.2.2.2.2.2.2.2.2.1 e9) ydX8_thrown hs rfl rfl q1434 q1435 q1436 q131 q1437 rfl (Nat.le_of_ble_eq_true rfl) (Nat.le_of_ble_eq_true rfl) hl.1 rfl (Nat.le_of_ble_eq_true rfl) dL_law_717) (fun r102 h H locs cells slots hf hI => ?_)
  refine lv_iload hx hb dL_law_720 (lv_at hl 6 rfl) ?_
  refine lv_icmp_eq (tgt := 727) hx hb dL_law_722 (by decide) (fun c722 => ?_) (fun c722 => ?_)
  · have hf := g_t c722 hf
    refine lv_iload hx hb dL_law_727 (lv_at hl 6 rfl) ?_
    refine lv_if_ne (tgt := 744) hx hb dL_law_729 (by decide) (fun c729 => ?_) (fun c729 => ?_)
    · have hf := g_f c729 hf
      exact b_L_law_744 X hRc hq1 hn9 hbs K23 _ _ _ _ _ _ _ _ _ _ _ hf hI (lv_sub hl [1, 2, 3, 4, 5] rfl)
    · have hf := g_t c729 hf
      refine lv_aload_n hx hb dL_law_732 rfl (lv_at hl 4 rfl) ?_
      refine lv_iconst (v := (0 : Int32)) hx hb dL_law_733 (by decide) ?_
      refine g_ai2 X hI hf dL_law_734 (fun v103 hf => ?_)
      refine lv_iload hx hb dL_law_735 (lv_at hl 0 rfl) ?_
      refine lv_i2l hx hb dL_law_737 rfl ?_
      refine W.lcmp hx hb dL_law_738 ?_
      refine lv_if_eq (tgt := 744) hx hb dL_law_739 (by decide) (fun c739 => ?_) (fun c739 => ?_)
      · have hf := g_t c739 hf
        exact b_L_law_744 X hRc hq1 hn9 hbs K23 _ _ _ _ _ _ _ _ _ _ _ hf hI (lv_sub hl [1, 2, 3, 4, 5] rfl)
      · have hf := g_f c739 hf
        exact b_L_law_742 X hRc hq1 hn9 hbs _ _ _ _ _ _ hf hI (lv_sub hl [] rfl)
  · have hf := g_f c722 hf
    exact b_L_law_725 X hRc hq1 hn9 hbs _ _ _ _ _ _ hf hI (lv_sub hl [] rfl)
def f_L_law_672 (k23 : Nat → Nat → Nat → Nat → Int32 → gM Int32) (a0 : Nat) (a1 : Nat) (a2 : Nat) (a3 : Nat) (x4 : Int32) (b0 : Nat) (u1 : Int32) (u2 : Int32) (u3 : Int32) (u4 : Int32) : gM Int32 :=
    gB (f_X0_fright b0 u1 u2 u3 u4 a3) fun r101 =>
    gB (gAI a0 9 (x4 + (1 : Int32))) fun v102 =>
    gB (gAI a0 9 (x4 + (2 : Int32))) fun v103 =>
    gB (gAI a0 9 (x4 + (3 : Int32))) fun v104 =>
    gB (gAI a0 9 (x4 + (4 : Int32))) fun v105 =>
    gIf (v105 = 0)
    (f_L_law_711 k23 a0 a1 a2 a3 x4 r101 a2 v102 v103 v104 (0 : Int32))
    (f_L_law_711 k23 a0 a1 a2 a3 x4 r101 a2 v102 v103 v104 (1 : Int32))
set_option maxHeartbeats 4000000 in
set_option maxRecDepth 100000 in
theorem b_L_law_672 {G : gG} {l : Launch} {p : Program} {e : Env} {s : State} {m : MethodId} {args : Array Value} {below : List Frame} {meth : Method} {c : Code} {h0 : g_H} {r : Int32} {h' : g_H} (X : gX G l "GhostAssizeLaw" cL_law 7 (some .boolean) [] "law" p s m args meth c) (hRc : g_nx h' - g_nx h0 ≤ room_1.cells ∧ g_us h' - g_us h0 ≤ room_1.slots) (hq1 : r = 1) (hn9 : g_nx h' - g_nx h0 ≤ 603072 ∧ g_us h' - g_us h0 ≤ 7190634) (hbs : G.2.2.1.size = s.heap.size ∧ ∃ b9 : Nat, args = #[Value.ref b9]) {k23 : Nat → Nat → Nat → Nat → Int32 → gM Int32} (K23 : w_L_law_23 G l p e s m args below meth c h0 r h' k23) : w_L_law_672 G l p e s m args below meth c h0 r h' (f_L_law_672 k23) := by
  have hx := X.1
  have hb := X.2.1
  have hown := X.2.2.2.1
  have hts := X.2.2.2.2.1
  intro a0 a1 a2 a3 x4 b0 u1 u2 u3 u4 h H locs cells slots ls hf hI hl
  unfold f_L_law_672 at hf
  refine lv_aload_n hx hb dL_law_672 rfl (lv_at hl 3 rfl) ?_
  refine g_cBI hI hf (fun v9 h9 e9 l9 l9' => g_rSX (b := 0) X hI l9 l9' hRc (As := [.ref b0, .int u1, .int u2, .int u3, .int u4, .ref a3]) (m_X0_fright X.2.2.2.2.2.2.2.2.2.2.1 e9) ydX0_fright q1193 q1194 q120 q1195 rfl (Nat.le_of_ble_eq_true rfl) (Nat.le_of_ble_eq_true rfl) hl.1 rfl (Nat.le_of_ble_eq_true rfl) dL_law_673) (fun r101 h H locs cells slots hf hI => ?_)
  refine lv_istore (lv' := [(5, .int r101), (0, .ref a0), (1, .ref a1), (2, .ref a2), (3, .ref a3), (4, .int x4)]) hx hb dL_law_676 hl (by decide) rfl (fun ls hl => ?_)
  refine lv_aload_n hx hb dL_law_678 rfl (lv_at hl 3 rfl) ?_
  refine lv_aload_n hx hb dL_law_679 rfl (lv_at hl 1 rfl) ?_
  refine lv_iload hx hb dL_law_680 (lv_at hl 5 rfl) ?_
  refine lv_iconst (v := (1 : Int32)) hx hb dL_law_682 (by decide) ?_
  refine lv_iadd hx hb dL_law_683 ?_
  refine g_aiO9 X hI hf dL_law_684 (fun v102 hf => ?_)
  refine lv_aload_n hx hb dL_law_685 rfl (lv_at hl 1 rfl) ?_
  refine lv_iload hx hb dL_law_686 (lv_at hl 5 rfl) ?_
  refine lv_iconst (v := (2 : Int32)) hx hb dL_law_688 (by decide) ?_
  refine lv_iadd hx hb dL_law_689 ?_
  refine g_aiO9 X hI hf dL_law_690 (fun v103 hf => ?_)
  refine lv_aload_n hx hb dL_law_691 rfl (lv_at hl 1 rfl) ?_
  refine lv_iload hx hb dL_law_692 (lv_at hl 5 rfl) ?_
  refine lv_iconst (v := (3 : Int32)) hx hb dL_law_694 (by decide) ?_
  refine lv_iadd hx hb dL_law_695 ?_
  refine g_aiO9 X hI hf dL_law_696 (fun v104 hf => ?_)
  refine lv_aload_n hx hb dL_law_697 rfl (lv_at hl 1 rfl) ?_
  refine lv_iload hx hb dL_law_698 (lv_at hl 5 rfl) ?_
  refine lv_iconst (v := (4 : Int32)) hx hb dL_law_700 (by decide) ?_
  refine lv_iadd hx hb dL_law_701 ?_
  refine g_aiO9 X hI hf dL_law_702 (fun v105 hf => ?_)
  refine lv_if_eq (tgt := 710) hx hb dL_law_703 (by decide) (fun c703 => ?_) (fun c703 => ?_)
  · have hf := g_t c703 hf
    refine lv_iconst (v := (0 : Int32)) hx hb dL_law_710 (by decide) ?_
    exact b_L_law_711 X hRc hq1 hn9 hbs K23 _ _ _ _ _ _ _ _ _ _ _ _ _ _ _ _ _ hf hI (lv_sub hl [1, 2, 3, 4, 5, 0] rfl)
  · have hf := g_f c703 hf
    refine lv_iconst (v := (1 : Int32)) hx hb dL_law_706 (by decide) ?_
    refine lv_goto (tgt := 711) hx hb dL_law_707 (by decide) ?_
    exact b_L_law_711 X hRc hq1 hn9 hbs K23 _ _ _ _ _ _ _ _ _ _ _ _ _ _ _ _ _ hf hI (lv_sub hl [1, 2, 3, 4, 5, 0] rfl)
def f_L_law_781 : gM Int32 :=
    (gRet (0 : Int32))
set_option maxHeartbeats 4000000 in
set_option maxRecDepth 100000 in
theorem b_L_law_781 {G : gG} {l : Launch} {p : Program} {e : Env} {s : State} {m : MethodId} {args : Array Value} {below : List Frame} {meth : Method} {c : Code} {h0 : g_H} {r : Int32} {h' : g_H} (X : gX G l "GhostAssizeLaw" cL_law 7 (some .boolean) [] "law" p s m args meth c) (hRc : g_nx h' - g_nx h0 ≤ room_1.cells ∧ g_us h' - g_us h0 ≤ room_1.slots) (hq1 : r = 1) (hn9 : g_nx h' - g_nx h0 ≤ 603072 ∧ g_us h' - g_us h0 ≤ 7190634) (hbs : G.2.2.1.size = s.heap.size ∧ ∃ b9 : Nat, args = #[Value.ref b9]) : w_L_law_781 G l p e s m args below meth c h0 r h' (f_L_law_781) := by
  have hx := X.1
  have hb := X.2.1
  have hown := X.2.2.2.1
  have hts := X.2.2.2.2.1
  intro h H locs cells slots ls hf hI hl
  unfold f_L_law_781 at hf
  refine lv_iconst (v := (0 : Int32)) hx hb dL_law_781 (by decide) ?_
  cases gRet_e hf
  exact g_lawret X hRc hq1 hn9 hbs hI dL_law_782
def f_L_law_798 : gM Int32 :=
    (gRet (0 : Int32))
set_option maxHeartbeats 4000000 in
set_option maxRecDepth 100000 in
theorem b_L_law_798 {G : gG} {l : Launch} {p : Program} {e : Env} {s : State} {m : MethodId} {args : Array Value} {below : List Frame} {meth : Method} {c : Code} {h0 : g_H} {r : Int32} {h' : g_H} (X : gX G l "GhostAssizeLaw" cL_law 7 (some .boolean) [] "law" p s m args meth c) (hRc : g_nx h' - g_nx h0 ≤ room_1.cells ∧ g_us h' - g_us h0 ≤ room_1.slots) (hq1 : r = 1) (hn9 : g_nx h' - g_nx h0 ≤ 603072 ∧ g_us h' - g_us h0 ≤ 7190634) (hbs : G.2.2.1.size = s.heap.size ∧ ∃ b9 : Nat, args = #[Value.ref b9]) : w_L_law_798 G l p e s m args below meth c h0 r h' (f_L_law_798) := by
  have hx := X.1
  have hb := X.2.1
  have hown := X.2.2.2.1
  have hts := X.2.2.2.2.1
  intro h H locs cells slots ls hf hI hl
  unfold f_L_law_798 at hf
  refine lv_iconst (v := (0 : Int32)) hx hb dL_law_798 (by decide) ?_
  cases gRet_e hf
  exact g_lawret X hRc hq1 hn9 hbs hI dL_law_799
def f_L_law_800 (k23 : Nat → Nat → Nat → Nat → Int32 → gM Int32) (a0 : Nat) (a1 : Nat) (a2 : Nat) (a3 : Nat) (x4 : Int32) : gM Int32 :=
    f_L_law_2492 k23 a0 a1 a2 a3 x4
set_option maxHeartbeats 4000000 in
set_option maxRecDepth 100000 in
theorem b_L_law_800 {G : gG} {l : Launch} {p : Program} {e : Env} {s : State} {m : MethodId} {args : Array Value} {below : List Frame} {meth : Method} {c : Code} {h0 : g_H} {r : Int32} {h' : g_H} (X : gX G l "GhostAssizeLaw" cL_law 7 (some .boolean) [] "law" p s m args meth c) (hRc : g_nx h' - g_nx h0 ≤ room_1.cells ∧ g_us h' - g_us h0 ≤ room_1.slots) (hq1 : r = 1) (hn9 : g_nx h' - g_nx h0 ≤ 603072 ∧ g_us h' - g_us h0 ≤ 7190634) (hbs : G.2.2.1.size = s.heap.size ∧ ∃ b9 : Nat, args = #[Value.ref b9]) {k23 : Nat → Nat → Nat → Nat → Int32 → gM Int32} (K23 : w_L_law_23 G l p e s m args below meth c h0 r h' k23) : w_L_law_800 G l p e s m args below meth c h0 r h' (f_L_law_800 k23) := by
  have hx := X.1
  have hb := X.2.1
  have hown := X.2.2.2.1
  have hts := X.2.2.2.2.1
  intro a0 a1 a2 a3 x4 h H locs cells slots ls hf hI hl
  unfold f_L_law_800 at hf
  refine lv_goto (tgt := 2492) hx hb dL_law_800 (by decide) ?_
  exact b_L_law_2492 X hRc hq1 hn9 hbs K23 _ _ _ _ _ _ _ _ _ _ _ hf hI (lv_sub hl [0, 1, 2, 3, 4] rfl)
def f_L_law_846 : gM Int32 :=
    (gRet (0 : Int32))
set_option maxHeartbeats 4000000 in
set_option maxRecDepth 100000 in
theorem b_L_law_846 {G : gG} {l : Launch} {p : Program} {e : Env} {s : State} {m : MethodId} {args : Array Value} {below : List Frame} {meth : Method} {c : Code} {h0 : g_H} {r : Int32} {h' : g_H} (X : gX G l "GhostAssizeLaw" cL_law 7 (some .boolean) [] "law" p s m args meth c) (hRc : g_nx h' - g_nx h0 ≤ room_1.cells ∧ g_us h' - g_us h0 ≤ room_1.slots) (hq1 : r = 1) (hn9 : g_nx h' - g_nx h0 ≤ 603072 ∧ g_us h' - g_us h0 ≤ 7190634) (hbs : G.2.2.1.size = s.heap.size ∧ ∃ b9 : Nat, args = #[Value.ref b9]) : w_L_law_846 G l p e s m args below meth c h0 r h' (f_L_law_846) := by
  have hx := X.1
  have hb := X.2.1
  have hown := X.2.2.2.1
  have hts := X.2.2.2.2.1
  intro h H locs cells slots ls hf hI hl
  unfold f_L_law_846 at hf
  refine lv_iconst (v := (0 : Int32)) hx hb dL_law_846 (by decide) ?_
  cases gRet_e hf
  exact g_lawret X hRc hq1 hn9 hbs hI dL_law_847
def f_L_law_885 : gM Int32 :=
    (gRet (0 : Int32))
set_option maxHeartbeats 4000000 in
set_option maxRecDepth 100000 in
theorem b_L_law_885 {G : gG} {l : Launch} {p : Program} {e : Env} {s : State} {m : MethodId} {args : Array Value} {below : List Frame} {meth : Method} {c : Code} {h0 : g_H} {r : Int32} {h' : g_H} (X : gX G l "GhostAssizeLaw" cL_law 7 (some .boolean) [] "law" p s m args meth c) (hRc : g_nx h' - g_nx h0 ≤ room_1.cells ∧ g_us h' - g_us h0 ≤ room_1.slots) (hq1 : r = 1) (hn9 : g_nx h' - g_nx h0 ≤ 603072 ∧ g_us h' - g_us h0 ≤ 7190634) (hbs : G.2.2.1.size = s.heap.size ∧ ∃ b9 : Nat, args = #[Value.ref b9]) : w_L_law_885 G l p e s m args below meth c h0 r h' (f_L_law_885) := by
  have hx := X.1
  have hb := X.2.1
  have hown := X.2.2.2.1
  have hts := X.2.2.2.2.1
  intro h H locs cells slots ls hf hI hl
  unfold f_L_law_885 at hf
  refine lv_iconst (v := (0 : Int32)) hx hb dL_law_885 (by decide) ?_
  cases gRet_e hf
  exact g_lawret X hRc hq1 hn9 hbs hI dL_law_886
def f_L_law_902 : gM Int32 :=
    (gRet (0 : Int32))
set_option maxHeartbeats 4000000 in
set_option maxRecDepth 100000 in
theorem b_L_law_902 {G : gG} {l : Launch} {p : Program} {e : Env} {s : State} {m : MethodId} {args : Array Value} {below : List Frame} {meth : Method} {c : Code} {h0 : g_H} {r : Int32} {h' : g_H} (X : gX G l "GhostAssizeLaw" cL_law 7 (some .boolean) [] "law" p s m args meth c) (hRc : g_nx h' - g_nx h0 ≤ room_1.cells ∧ g_us h' - g_us h0 ≤ room_1.slots) (hq1 : r = 1) (hn9 : g_nx h' - g_nx h0 ≤ 603072 ∧ g_us h' - g_us h0 ≤ 7190634) (hbs : G.2.2.1.size = s.heap.size ∧ ∃ b9 : Nat, args = #[Value.ref b9]) : w_L_law_902 G l p e s m args below meth c h0 r h' (f_L_law_902) := by
  have hx := X.1
  have hb := X.2.1
  have hown := X.2.2.2.1
  have hts := X.2.2.2.2.1
  intro h H locs cells slots ls hf hI hl
  unfold f_L_law_902 at hf
  refine lv_iconst (v := (0 : Int32)) hx hb dL_law_902 (by decide) ?_
  cases gRet_e hf
  exact g_lawret X hRc hq1 hn9 hbs hI dL_law_903
def f_L_law_904 (k23 : Nat → Nat → Nat → Nat → Int32 → gM Int32) (a0 : Nat) (a1 : Nat) (a2 : Nat) (a3 : Nat) (x4 : Int32) : gM Int32 :=
    f_L_law_2492 k23 a0 a1 a2 a3 x4
set_option maxHeartbeats 4000000 in
set_option maxRecDepth 100000 in
theorem b_L_law_904 {G : gG} {l : Launch} {p : Program} {e : Env} {s : State} {m : MethodId} {args : Array Value} {below : List Frame} {meth : Method} {c : Code} {h0 : g_H} {r : Int32} {h' : g_H} (X : gX G l "GhostAssizeLaw" cL_law 7 (some .boolean) [] "law" p s m args meth c) (hRc : g_nx h' - g_nx h0 ≤ room_1.cells ∧ g_us h' - g_us h0 ≤ room_1.slots) (hq1 : r = 1) (hn9 : g_nx h' - g_nx h0 ≤ 603072 ∧ g_us h' - g_us h0 ≤ 7190634) (hbs : G.2.2.1.size = s.heap.size ∧ ∃ b9 : Nat, args = #[Value.ref b9]) {k23 : Nat → Nat → Nat → Nat → Int32 → gM Int32} (K23 : w_L_law_23 G l p e s m args below meth c h0 r h' k23) : w_L_law_904 G l p e s m args below meth c h0 r h' (f_L_law_904 k23) := by
  have hx := X.1
  have hb := X.2.1
  have hown := X.2.2.2.1
  have hts := X.2.2.2.2.1
  intro a0 a1 a2 a3 x4 h H locs cells slots ls hf hI hl
  unfold f_L_law_904 at hf
  refine lv_goto (tgt := 2492) hx hb dL_law_904 (by decide) ?_
  exact b_L_law_2492 X hRc hq1 hn9 hbs K23 _ _ _ _ _ _ _ _ _ _ _ hf hI (lv_sub hl [0, 1, 2, 3, 4] rfl)
def f_L_law_941 : gM Int32 :=
    (gRet (0 : Int32))
set_option maxHeartbeats 4000000 in
set_option maxRecDepth 100000 in
theorem b_L_law_941 {G : gG} {l : Launch} {p : Program} {e : Env} {s : State} {m : MethodId} {args : Array Value} {below : List Frame} {meth : Method} {c : Code} {h0 : g_H} {r : Int32} {h' : g_H} (X : gX G l "GhostAssizeLaw" cL_law 7 (some .boolean) [] "law" p s m args meth c) (hRc : g_nx h' - g_nx h0 ≤ room_1.cells ∧ g_us h' - g_us h0 ≤ room_1.slots) (hq1 : r = 1) (hn9 : g_nx h' - g_nx h0 ≤ 603072 ∧ g_us h' - g_us h0 ≤ 7190634) (hbs : G.2.2.1.size = s.heap.size ∧ ∃ b9 : Nat, args = #[Value.ref b9]) : w_L_law_941 G l p e s m args below meth c h0 r h' (f_L_law_941) := by
  have hx := X.1
  have hb := X.2.1
  have hown := X.2.2.2.1
  have hts := X.2.2.2.2.1
  intro h H locs cells slots ls hf hI hl
  unfold f_L_law_941 at hf
  refine lv_iconst (v := (0 : Int32)) hx hb dL_law_941 (by decide) ?_
  cases gRet_e hf
  exact g_lawret X hRc hq1 hn9 hbs hI dL_law_942
def f_L_law_958 : gM Int32 :=
    (gRet (0 : Int32))
set_option maxHeartbeats 4000000 in
set_option maxRecDepth 100000 in
theorem b_L_law_958 {G : gG} {l : Launch} {p : Program} {e : Env} {s : State} {m : MethodId} {args : Array Value} {below : List Frame} {meth : Method} {c : Code} {h0 : g_H} {r : Int32} {h' : g_H} (X : gX G l "GhostAssizeLaw" cL_law 7 (some .boolean) [] "law" p s m args meth c) (hRc : g_nx h' - g_nx h0 ≤ room_1.cells ∧ g_us h' - g_us h0 ≤ room_1.slots) (hq1 : r = 1) (hn9 : g_nx h' - g_nx h0 ≤ 603072 ∧ g_us h' - g_us h0 ≤ 7190634) (hbs : G.2.2.1.size = s.heap.size ∧ ∃ b9 : Nat, args = #[Value.ref b9]) : w_L_law_958 G l p e s m args below meth c h0 r h' (f_L_law_958) := by
  have hx := X.1
  have hb := X.2.1
  have hown := X.2.2.2.1
  have hts := X.2.2.2.2.1
  intro h H locs cells slots ls hf hI hl
  unfold f_L_law_958 at hf
  refine lv_iconst (v := (0 : Int32)) hx hb dL_law_958 (by decide) ?_
  cases gRet_e hf
  exact g_lawret X hRc hq1 hn9 hbs hI dL_law_959
def f_L_law_960 (k23 : Nat → Nat → Nat → Nat → Int32 → gM Int32) (a0 : Nat) (a1 : Nat) (a2 : Nat) (a3 : Nat) (x4 : Int32) : gM Int32 :=
    f_L_law_2492 k23 a0 a1 a2 a3 x4
set_option maxHeartbeats 4000000 in
set_option maxRecDepth 100000 in
theorem b_L_law_960 {G : gG} {l : Launch} {p : Program} {e : Env} {s : State} {m : MethodId} {args : Array Value} {below : List Frame} {meth : Method} {c : Code} {h0 : g_H} {r : Int32} {h' : g_H} (X : gX G l "GhostAssizeLaw" cL_law 7 (some .boolean) [] "law" p s m args meth c) (hRc : g_nx h' - g_nx h0 ≤ room_1.cells ∧ g_us h' - g_us h0 ≤ room_1.slots) (hq1 : r = 1) (hn9 : g_nx h' - g_nx h0 ≤ 603072 ∧ g_us h' - g_us h0 ≤ 7190634) (hbs : G.2.2.1.size = s.heap.size ∧ ∃ b9 : Nat, args = #[Value.ref b9]) {k23 : Nat → Nat → Nat → Nat → Int32 → gM Int32} (K23 : w_L_law_23 G l p e s m args below meth c h0 r h' k23) : w_L_law_960 G l p e s m args below meth c h0 r h' (f_L_law_960 k23) := by
  have hx := X.1
  have hb := X.2.1
  have hown := X.2.2.2.1
  have hts := X.2.2.2.2.1
  intro a0 a1 a2 a3 x4 h H locs cells slots ls hf hI hl
  unfold f_L_law_960 at hf
  refine lv_goto (tgt := 2492) hx hb dL_law_960 (by decide) ?_
  exact b_L_law_2492 X hRc hq1 hn9 hbs K23 _ _ _ _ _ _ _ _ _ _ _ hf hI (lv_sub hl [0, 1, 2, 3, 4] rfl)
def f_L_law_994 : gM Int32 :=
    (gRet (0 : Int32))
set_option maxHeartbeats 4000000 in
set_option maxRecDepth 100000 in
theorem b_L_law_994 {G : gG} {l : Launch} {p : Program} {e : Env} {s : State} {m : MethodId} {args : Array Value} {below : List Frame} {meth : Method} {c : Code} {h0 : g_H} {r : Int32} {h' : g_H} (X : gX G l "GhostAssizeLaw" cL_law 7 (some .boolean) [] "law" p s m args meth c) (hRc : g_nx h' - g_nx h0 ≤ room_1.cells ∧ g_us h' - g_us h0 ≤ room_1.slots) (hq1 : r = 1) (hn9 : g_nx h' - g_nx h0 ≤ 603072 ∧ g_us h' - g_us h0 ≤ 7190634) (hbs : G.2.2.1.size = s.heap.size ∧ ∃ b9 : Nat, args = #[Value.ref b9]) : w_L_law_994 G l p e s m args below meth c h0 r h' (f_L_law_994) := by
  have hx := X.1
  have hb := X.2.1
  have hown := X.2.2.2.1
  have hts := X.2.2.2.2.1
  intro h H locs cells slots ls hf hI hl
  unfold f_L_law_994 at hf
  refine lv_iconst (v := (0 : Int32)) hx hb dL_law_994 (by decide) ?_
  cases gRet_e hf
  exact g_lawret X hRc hq1 hn9 hbs hI dL_law_995
def f_L_law_1033 : gM Int32 :=
    (gRet (0 : Int32))
set_option maxHeartbeats 4000000 in
set_option maxRecDepth 100000 in
theorem b_L_law_1033 {G : gG} {l : Launch} {p : Program} {e : Env} {s : State} {m : MethodId} {args : Array Value} {below : List Frame} {meth : Method} {c : Code} {h0 : g_H} {r : Int32} {h' : g_H} (X : gX G l "GhostAssizeLaw" cL_law 7 (some .boolean) [] "law" p s m args meth c) (hRc : g_nx h' - g_nx h0 ≤ room_1.cells ∧ g_us h' - g_us h0 ≤ room_1.slots) (hq1 : r = 1) (hn9 : g_nx h' - g_nx h0 ≤ 603072 ∧ g_us h' - g_us h0 ≤ 7190634) (hbs : G.2.2.1.size = s.heap.size ∧ ∃ b9 : Nat, args = #[Value.ref b9]) : w_L_law_1033 G l p e s m args below meth c h0 r h' (f_L_law_1033) := by
  have hx := X.1
  have hb := X.2.1
  have hown := X.2.2.2.1
  have hts := X.2.2.2.2.1
  intro h H locs cells slots ls hf hI hl
  unfold f_L_law_1033 at hf
  refine lv_iconst (v := (0 : Int32)) hx hb dL_law_1033 (by decide) ?_
  cases gRet_e hf
  exact g_lawret X hRc hq1 hn9 hbs hI dL_law_1034
def f_L_law_1050 : gM Int32 :=
    (gRet (0 : Int32))
set_option maxHeartbeats 4000000 in
set_option maxRecDepth 100000 in
theorem b_L_law_1050 {G : gG} {l : Launch} {p : Program} {e : Env} {s : State} {m : MethodId} {args : Array Value} {below : List Frame} {meth : Method} {c : Code} {h0 : g_H} {r : Int32} {h' : g_H} (X : gX G l "GhostAssizeLaw" cL_law 7 (some .boolean) [] "law" p s m args meth c) (hRc : g_nx h' - g_nx h0 ≤ room_1.cells ∧ g_us h' - g_us h0 ≤ room_1.slots) (hq1 : r = 1) (hn9 : g_nx h' - g_nx h0 ≤ 603072 ∧ g_us h' - g_us h0 ≤ 7190634) (hbs : G.2.2.1.size = s.heap.size ∧ ∃ b9 : Nat, args = #[Value.ref b9]) : w_L_law_1050 G l p e s m args below meth c h0 r h' (f_L_law_1050) := by
  have hx := X.1
  have hb := X.2.1
  have hown := X.2.2.2.1
  have hts := X.2.2.2.2.1
  intro h H locs cells slots ls hf hI hl
  unfold f_L_law_1050 at hf
  refine lv_iconst (v := (0 : Int32)) hx hb dL_law_1050 (by decide) ?_
  cases gRet_e hf
  exact g_lawret X hRc hq1 hn9 hbs hI dL_law_1051
def f_L_law_1052 (k23 : Nat → Nat → Nat → Nat → Int32 → gM Int32) (a0 : Nat) (a1 : Nat) (a2 : Nat) (a3 : Nat) (x4 : Int32) : gM Int32 :=
    f_L_law_2492 k23 a0 a1 a2 a3 x4
set_option maxHeartbeats 4000000 in
set_option maxRecDepth 100000 in
theorem b_L_law_1052 {G : gG} {l : Launch} {p : Program} {e : Env} {s : State} {m : MethodId} {args : Array Value} {below : List Frame} {meth : Method} {c : Code} {h0 : g_H} {r : Int32} {h' : g_H} (X : gX G l "GhostAssizeLaw" cL_law 7 (some .boolean) [] "law" p s m args meth c) (hRc : g_nx h' - g_nx h0 ≤ room_1.cells ∧ g_us h' - g_us h0 ≤ room_1.slots) (hq1 : r = 1) (hn9 : g_nx h' - g_nx h0 ≤ 603072 ∧ g_us h' - g_us h0 ≤ 7190634) (hbs : G.2.2.1.size = s.heap.size ∧ ∃ b9 : Nat, args = #[Value.ref b9]) {k23 : Nat → Nat → Nat → Nat → Int32 → gM Int32} (K23 : w_L_law_23 G l p e s m args below meth c h0 r h' k23) : w_L_law_1052 G l p e s m args below meth c h0 r h' (f_L_law_1052 k23) := by
  have hx := X.1
  have hb := X.2.1
  have hown := X.2.2.2.1
  have hts := X.2.2.2.2.1
  intro a0 a1 a2 a3 x4 h H locs cells slots ls hf hI hl
  unfold f_L_law_1052 at hf
  refine lv_goto (tgt := 2492) hx hb dL_law_1052 (by decide) ?_
  exact b_L_law_2492 X hRc hq1 hn9 hbs K23 _ _ _ _ _ _ _ _ _ _ _ hf hI (lv_sub hl [0, 1, 2, 3, 4] rfl)
def f_L_law_1089 : gM Int32 :=
    (gRet (0 : Int32))
set_option maxHeartbeats 4000000 in
set_option maxRecDepth 100000 in
theorem b_L_law_1089 {G : gG} {l : Launch} {p : Program} {e : Env} {s : State} {m : MethodId} {args : Array Value} {below : List Frame} {meth : Method} {c : Code} {h0 : g_H} {r : Int32} {h' : g_H} (X : gX G l "GhostAssizeLaw" cL_law 7 (some .boolean) [] "law" p s m args meth c) (hRc : g_nx h' - g_nx h0 ≤ room_1.cells ∧ g_us h' - g_us h0 ≤ room_1.slots) (hq1 : r = 1) (hn9 : g_nx h' - g_nx h0 ≤ 603072 ∧ g_us h' - g_us h0 ≤ 7190634) (hbs : G.2.2.1.size = s.heap.size ∧ ∃ b9 : Nat, args = #[Value.ref b9]) : w_L_law_1089 G l p e s m args below meth c h0 r h' (f_L_law_1089) := by
  have hx := X.1
  have hb := X.2.1
  have hown := X.2.2.2.1
  have hts := X.2.2.2.2.1
  intro h H locs cells slots ls hf hI hl
  unfold f_L_law_1089 at hf
  refine lv_iconst (v := (0 : Int32)) hx hb dL_law_1089 (by decide) ?_
  cases gRet_e hf
  exact g_lawret X hRc hq1 hn9 hbs hI dL_law_1090
def f_L_law_1106 : gM Int32 :=
    (gRet (0 : Int32))
set_option maxHeartbeats 4000000 in
set_option maxRecDepth 100000 in
theorem b_L_law_1106 {G : gG} {l : Launch} {p : Program} {e : Env} {s : State} {m : MethodId} {args : Array Value} {below : List Frame} {meth : Method} {c : Code} {h0 : g_H} {r : Int32} {h' : g_H} (X : gX G l "GhostAssizeLaw" cL_law 7 (some .boolean) [] "law" p s m args meth c) (hRc : g_nx h' - g_nx h0 ≤ room_1.cells ∧ g_us h' - g_us h0 ≤ room_1.slots) (hq1 : r = 1) (hn9 : g_nx h' - g_nx h0 ≤ 603072 ∧ g_us h' - g_us h0 ≤ 7190634) (hbs : G.2.2.1.size = s.heap.size ∧ ∃ b9 : Nat, args = #[Value.ref b9]) : w_L_law_1106 G l p e s m args below meth c h0 r h' (f_L_law_1106) := by
  have hx := X.1
  have hb := X.2.1
  have hown := X.2.2.2.1
  have hts := X.2.2.2.2.1
  intro h H locs cells slots ls hf hI hl
  unfold f_L_law_1106 at hf
  refine lv_iconst (v := (0 : Int32)) hx hb dL_law_1106 (by decide) ?_
  cases gRet_e hf
  exact g_lawret X hRc hq1 hn9 hbs hI dL_law_1107
def f_L_law_1108 (k23 : Nat → Nat → Nat → Nat → Int32 → gM Int32) (a0 : Nat) (a1 : Nat) (a2 : Nat) (a3 : Nat) (x4 : Int32) : gM Int32 :=
    f_L_law_2492 k23 a0 a1 a2 a3 x4
set_option maxHeartbeats 4000000 in
set_option maxRecDepth 100000 in
theorem b_L_law_1108 {G : gG} {l : Launch} {p : Program} {e : Env} {s : State} {m : MethodId} {args : Array Value} {below : List Frame} {meth : Method} {c : Code} {h0 : g_H} {r : Int32} {h' : g_H} (X : gX G l "GhostAssizeLaw" cL_law 7 (some .boolean) [] "law" p s m args meth c) (hRc : g_nx h' - g_nx h0 ≤ room_1.cells ∧ g_us h' - g_us h0 ≤ room_1.slots) (hq1 : r = 1) (hn9 : g_nx h' - g_nx h0 ≤ 603072 ∧ g_us h' - g_us h0 ≤ 7190634) (hbs : G.2.2.1.size = s.heap.size ∧ ∃ b9 : Nat, args = #[Value.ref b9]) {k23 : Nat → Nat → Nat → Nat → Int32 → gM Int32} (K23 : w_L_law_23 G l p e s m args below meth c h0 r h' k23) : w_L_law_1108 G l p e s m args below meth c h0 r h' (f_L_law_1108 k23) := by
  have hx := X.1
  have hb := X.2.1
  have hown := X.2.2.2.1
  have hts := X.2.2.2.2.1
  intro a0 a1 a2 a3 x4 h H locs cells slots ls hf hI hl
  unfold f_L_law_1108 at hf
  refine lv_goto (tgt := 2492) hx hb dL_law_1108 (by decide) ?_
  exact b_L_law_2492 X hRc hq1 hn9 hbs K23 _ _ _ _ _ _ _ _ _ _ _ hf hI (lv_sub hl [0, 1, 2, 3, 4] rfl)
def f_L_law_1145 : gM Int32 :=
    (gRet (0 : Int32))
set_option maxHeartbeats 4000000 in
set_option maxRecDepth 100000 in
theorem b_L_law_1145 {G : gG} {l : Launch} {p : Program} {e : Env} {s : State} {m : MethodId} {args : Array Value} {below : List Frame} {meth : Method} {c : Code} {h0 : g_H} {r : Int32} {h' : g_H} (X : gX G l "GhostAssizeLaw" cL_law 7 (some .boolean) [] "law" p s m args meth c) (hRc : g_nx h' - g_nx h0 ≤ room_1.cells ∧ g_us h' - g_us h0 ≤ room_1.slots) (hq1 : r = 1) (hn9 : g_nx h' - g_nx h0 ≤ 603072 ∧ g_us h' - g_us h0 ≤ 7190634) (hbs : G.2.2.1.size = s.heap.size ∧ ∃ b9 : Nat, args = #[Value.ref b9]) : w_L_law_1145 G l p e s m args below meth c h0 r h' (f_L_law_1145) := by
  have hx := X.1
  have hb := X.2.1
  have hown := X.2.2.2.1
  have hts := X.2.2.2.2.1
  intro h H locs cells slots ls hf hI hl
  unfold f_L_law_1145 at hf
  refine lv_iconst (v := (0 : Int32)) hx hb dL_law_1145 (by decide) ?_
  cases gRet_e hf
  exact g_lawret X hRc hq1 hn9 hbs hI dL_law_1146
def f_L_law_1162 : gM Int32 :=
    (gRet (0 : Int32))
set_option maxHeartbeats 4000000 in
set_option maxRecDepth 100000 in
theorem b_L_law_1162 {G : gG} {l : Launch} {p : Program} {e : Env} {s : State} {m : MethodId} {args : Array Value} {below : List Frame} {meth : Method} {c : Code} {h0 : g_H} {r : Int32} {h' : g_H} (X : gX G l "GhostAssizeLaw" cL_law 7 (some .boolean) [] "law" p s m args meth c) (hRc : g_nx h' - g_nx h0 ≤ room_1.cells ∧ g_us h' - g_us h0 ≤ room_1.slots) (hq1 : r = 1) (hn9 : g_nx h' - g_nx h0 ≤ 603072 ∧ g_us h' - g_us h0 ≤ 7190634) (hbs : G.2.2.1.size = s.heap.size ∧ ∃ b9 : Nat, args = #[Value.ref b9]) : w_L_law_1162 G l p e s m args below meth c h0 r h' (f_L_law_1162) := by
  have hx := X.1
  have hb := X.2.1
  have hown := X.2.2.2.1
  have hts := X.2.2.2.2.1
  intro h H locs cells slots ls hf hI hl
  unfold f_L_law_1162 at hf
  refine lv_iconst (v := (0 : Int32)) hx hb dL_law_1162 (by decide) ?_
  cases gRet_e hf
  exact g_lawret X hRc hq1 hn9 hbs hI dL_law_1163
def f_L_law_1164 (k23 : Nat → Nat → Nat → Nat → Int32 → gM Int32) (a0 : Nat) (a1 : Nat) (a2 : Nat) (a3 : Nat) (x4 : Int32) : gM Int32 :=
    f_L_law_2492 k23 a0 a1 a2 a3 x4
set_option maxHeartbeats 4000000 in
set_option maxRecDepth 100000 in
theorem b_L_law_1164 {G : gG} {l : Launch} {p : Program} {e : Env} {s : State} {m : MethodId} {args : Array Value} {below : List Frame} {meth : Method} {c : Code} {h0 : g_H} {r : Int32} {h' : g_H} (X : gX G l "GhostAssizeLaw" cL_law 7 (some .boolean) [] "law" p s m args meth c) (hRc : g_nx h' - g_nx h0 ≤ room_1.cells ∧ g_us h' - g_us h0 ≤ room_1.slots) (hq1 : r = 1) (hn9 : g_nx h' - g_nx h0 ≤ 603072 ∧ g_us h' - g_us h0 ≤ 7190634) (hbs : G.2.2.1.size = s.heap.size ∧ ∃ b9 : Nat, args = #[Value.ref b9]) {k23 : Nat → Nat → Nat → Nat → Int32 → gM Int32} (K23 : w_L_law_23 G l p e s m args below meth c h0 r h' k23) : w_L_law_1164 G l p e s m args below meth c h0 r h' (f_L_law_1164 k23) := by
  have hx := X.1
  have hb := X.2.1
  have hown := X.2.2.2.1
  have hts := X.2.2.2.2.1
  intro a0 a1 a2 a3 x4 h H locs cells slots ls hf hI hl
  unfold f_L_law_1164 at hf
  refine lv_goto (tgt := 2492) hx hb dL_law_1164 (by decide) ?_
  exact b_L_law_2492 X hRc hq1 hn9 hbs K23 _ _ _ _ _ _ _ _ _ _ _ hf hI (lv_sub hl [0, 1, 2, 3, 4] rfl)
def f_L_law_1201 : gM Int32 :=
    (gRet (0 : Int32))
set_option maxHeartbeats 4000000 in
set_option maxRecDepth 100000 in
theorem b_L_law_1201 {G : gG} {l : Launch} {p : Program} {e : Env} {s : State} {m : MethodId} {args : Array Value} {below : List Frame} {meth : Method} {c : Code} {h0 : g_H} {r : Int32} {h' : g_H} (X : gX G l "GhostAssizeLaw" cL_law 7 (some .boolean) [] "law" p s m args meth c) (hRc : g_nx h' - g_nx h0 ≤ room_1.cells ∧ g_us h' - g_us h0 ≤ room_1.slots) (hq1 : r = 1) (hn9 : g_nx h' - g_nx h0 ≤ 603072 ∧ g_us h' - g_us h0 ≤ 7190634) (hbs : G.2.2.1.size = s.heap.size ∧ ∃ b9 : Nat, args = #[Value.ref b9]) : w_L_law_1201 G l p e s m args below meth c h0 r h' (f_L_law_1201) := by
  have hx := X.1
  have hb := X.2.1
  have hown := X.2.2.2.1
  have hts := X.2.2.2.2.1
  intro h H locs cells slots ls hf hI hl
  unfold f_L_law_1201 at hf
  refine lv_iconst (v := (0 : Int32)) hx hb dL_law_1201 (by decide) ?_
  cases gRet_e hf
  exact g_lawret X hRc hq1 hn9 hbs hI dL_law_1202
def f_L_law_1218 : gM Int32 :=
    (gRet (0 : Int32))
set_option maxHeartbeats 4000000 in
set_option maxRecDepth 100000 in
theorem b_L_law_1218 {G : gG} {l : Launch} {p : Program} {e : Env} {s : State} {m : MethodId} {args : Array Value} {below : List Frame} {meth : Method} {c : Code} {h0 : g_H} {r : Int32} {h' : g_H} (X : gX G l "GhostAssizeLaw" cL_law 7 (some .boolean) [] "law" p s m args meth c) (hRc : g_nx h' - g_nx h0 ≤ room_1.cells ∧ g_us h' - g_us h0 ≤ room_1.slots) (hq1 : r = 1) (hn9 : g_nx h' - g_nx h0 ≤ 603072 ∧ g_us h' - g_us h0 ≤ 7190634) (hbs : G.2.2.1.size = s.heap.size ∧ ∃ b9 : Nat, args = #[Value.ref b9]) : w_L_law_1218 G l p e s m args below meth c h0 r h' (f_L_law_1218) := by
  have hx := X.1
  have hb := X.2.1
  have hown := X.2.2.2.1
  have hts := X.2.2.2.2.1
  intro h H locs cells slots ls hf hI hl
  unfold f_L_law_1218 at hf
  refine lv_iconst (v := (0 : Int32)) hx hb dL_law_1218 (by decide) ?_
  cases gRet_e hf
  exact g_lawret X hRc hq1 hn9 hbs hI dL_law_1219
def f_L_law_1220 (k23 : Nat → Nat → Nat → Nat → Int32 → gM Int32) (a0 : Nat) (a1 : Nat) (a2 : Nat) (a3 : Nat) (x4 : Int32) : gM Int32 :=
    f_L_law_2492 k23 a0 a1 a2 a3 x4
set_option maxHeartbeats 4000000 in
set_option maxRecDepth 100000 in
theorem b_L_law_1220 {G : gG} {l : Launch} {p : Program} {e : Env} {s : State} {m : MethodId} {args : Array Value} {below : List Frame} {meth : Method} {c : Code} {h0 : g_H} {r : Int32} {h' : g_H} (X : gX G l "GhostAssizeLaw" cL_law 7 (some .boolean) [] "law" p s m args meth c) (hRc : g_nx h' - g_nx h0 ≤ room_1.cells ∧ g_us h' - g_us h0 ≤ room_1.slots) (hq1 : r = 1) (hn9 : g_nx h' - g_nx h0 ≤ 603072 ∧ g_us h' - g_us h0 ≤ 7190634) (hbs : G.2.2.1.size = s.heap.size ∧ ∃ b9 : Nat, args = #[Value.ref b9]) {k23 : Nat → Nat → Nat → Nat → Int32 → gM Int32} (K23 : w_L_law_23 G l p e s m args below meth c h0 r h' k23) : w_L_law_1220 G l p e s m args below meth c h0 r h' (f_L_law_1220 k23) := by
  have hx := X.1
  have hb := X.2.1
  have hown := X.2.2.2.1
  have hts := X.2.2.2.2.1
  intro a0 a1 a2 a3 x4 h H locs cells slots ls hf hI hl
  unfold f_L_law_1220 at hf
  refine lv_goto (tgt := 2492) hx hb dL_law_1220 (by decide) ?_
  exact b_L_law_2492 X hRc hq1 hn9 hbs K23 _ _ _ _ _ _ _ _ _ _ _ hf hI (lv_sub hl [0, 1, 2, 3, 4] rfl)
def f_L_law_1269 : gM Int32 :=
    (gRet (0 : Int32))
set_option maxHeartbeats 4000000 in
set_option maxRecDepth 100000 in
theorem b_L_law_1269 {G : gG} {l : Launch} {p : Program} {e : Env} {s : State} {m : MethodId} {args : Array Value} {below : List Frame} {meth : Method} {c : Code} {h0 : g_H} {r : Int32} {h' : g_H} (X : gX G l "GhostAssizeLaw" cL_law 7 (some .boolean) [] "law" p s m args meth c) (hRc : g_nx h' - g_nx h0 ≤ room_1.cells ∧ g_us h' - g_us h0 ≤ room_1.slots) (hq1 : r = 1) (hn9 : g_nx h' - g_nx h0 ≤ 603072 ∧ g_us h' - g_us h0 ≤ 7190634) (hbs : G.2.2.1.size = s.heap.size ∧ ∃ b9 : Nat, args = #[Value.ref b9]) : w_L_law_1269 G l p e s m args below meth c h0 r h' (f_L_law_1269) := by
  have hx := X.1
  have hb := X.2.1
  have hown := X.2.2.2.1
  have hts := X.2.2.2.2.1
  intro h H locs cells slots ls hf hI hl
  unfold f_L_law_1269 at hf
  refine lv_iconst (v := (0 : Int32)) hx hb dL_law_1269 (by decide) ?_
  cases gRet_e hf
  exact g_lawret X hRc hq1 hn9 hbs hI dL_law_1270
def f_L_law_1286 : gM Int32 :=
    (gRet (0 : Int32))
set_option maxHeartbeats 4000000 in
set_option maxRecDepth 100000 in
theorem b_L_law_1286 {G : gG} {l : Launch} {p : Program} {e : Env} {s : State} {m : MethodId} {args : Array Value} {below : List Frame} {meth : Method} {c : Code} {h0 : g_H} {r : Int32} {h' : g_H} (X : gX G l "GhostAssizeLaw" cL_law 7 (some .boolean) [] "law" p s m args meth c) (hRc : g_nx h' - g_nx h0 ≤ room_1.cells ∧ g_us h' - g_us h0 ≤ room_1.slots) (hq1 : r = 1) (hn9 : g_nx h' - g_nx h0 ≤ 603072 ∧ g_us h' - g_us h0 ≤ 7190634) (hbs : G.2.2.1.size = s.heap.size ∧ ∃ b9 : Nat, args = #[Value.ref b9]) : w_L_law_1286 G l p e s m args below meth c h0 r h' (f_L_law_1286) := by
  have hx := X.1
  have hb := X.2.1
  have hown := X.2.2.2.1
  have hts := X.2.2.2.2.1
  intro h H locs cells slots ls hf hI hl
  unfold f_L_law_1286 at hf
  refine lv_iconst (v := (0 : Int32)) hx hb dL_law_1286 (by decide) ?_
  cases gRet_e hf
  exact g_lawret X hRc hq1 hn9 hbs hI dL_law_1287
def f_L_law_1288 (k23 : Nat → Nat → Nat → Nat → Int32 → gM Int32) (a0 : Nat) (a1 : Nat) (a2 : Nat) (a3 : Nat) (x4 : Int32) : gM Int32 :=
    f_L_law_2492 k23 a0 a1 a2 a3 x4
set_option maxHeartbeats 4000000 in
set_option maxRecDepth 100000 in
theorem b_L_law_1288 {G : gG} {l : Launch} {p : Program} {e : Env} {s : State} {m : MethodId} {args : Array Value} {below : List Frame} {meth : Method} {c : Code} {h0 : g_H} {r : Int32} {h' : g_H} (X : gX G l "GhostAssizeLaw" cL_law 7 (some .boolean) [] "law" p s m args meth c) (hRc : g_nx h' - g_nx h0 ≤ room_1.cells ∧ g_us h' - g_us h0 ≤ room_1.slots) (hq1 : r = 1) (hn9 : g_nx h' - g_nx h0 ≤ 603072 ∧ g_us h' - g_us h0 ≤ 7190634) (hbs : G.2.2.1.size = s.heap.size ∧ ∃ b9 : Nat, args = #[Value.ref b9]) {k23 : Nat → Nat → Nat → Nat → Int32 → gM Int32} (K23 : w_L_law_23 G l p e s m args below meth c h0 r h' k23) : w_L_law_1288 G l p e s m args below meth c h0 r h' (f_L_law_1288 k23) := by
  have hx := X.1
  have hb := X.2.1
  have hown := X.2.2.2.1
  have hts := X.2.2.2.2.1
  intro a0 a1 a2 a3 x4 h H locs cells slots ls hf hI hl
  unfold f_L_law_1288 at hf
  refine lv_goto (tgt := 2492) hx hb dL_law_1288 (by decide) ?_
  exact b_L_law_2492 X hRc hq1 hn9 hbs K23 _ _ _ _ _ _ _ _ _ _ _ hf hI (lv_sub hl [0, 1, 2, 3, 4] rfl)
def f_L_law_1325 : gM Int32 :=
    (gRet (0 : Int32))
set_option maxHeartbeats 4000000 in
set_option maxRecDepth 100000 in
theorem b_L_law_1325 {G : gG} {l : Launch} {p : Program} {e : Env} {s : State} {m : MethodId} {args : Array Value} {below : List Frame} {meth : Method} {c : Code} {h0 : g_H} {r : Int32} {h' : g_H} (X : gX G l "GhostAssizeLaw" cL_law 7 (some .boolean) [] "law" p s m args meth c) (hRc : g_nx h' - g_nx h0 ≤ room_1.cells ∧ g_us h' - g_us h0 ≤ room_1.slots) (hq1 : r = 1) (hn9 : g_nx h' - g_nx h0 ≤ 603072 ∧ g_us h' - g_us h0 ≤ 7190634) (hbs : G.2.2.1.size = s.heap.size ∧ ∃ b9 : Nat, args = #[Value.ref b9]) : w_L_law_1325 G l p e s m args below meth c h0 r h' (f_L_law_1325) := by
  have hx := X.1
  have hb := X.2.1
  have hown := X.2.2.2.1
  have hts := X.2.2.2.2.1
  intro h H locs cells slots ls hf hI hl
  unfold f_L_law_1325 at hf
  refine lv_iconst (v := (0 : Int32)) hx hb dL_law_1325 (by decide) ?_
  cases gRet_e hf
  exact g_lawret X hRc hq1 hn9 hbs hI dL_law_1326
def f_L_law_1342 : gM Int32 :=
    (gRet (0 : Int32))
set_option maxHeartbeats 4000000 in
set_option maxRecDepth 100000 in
theorem b_L_law_1342 {G : gG} {l : Launch} {p : Program} {e : Env} {s : State} {m : MethodId} {args : Array Value} {below : List Frame} {meth : Method} {c : Code} {h0 : g_H} {r : Int32} {h' : g_H} (X : gX G l "GhostAssizeLaw" cL_law 7 (some .boolean) [] "law" p s m args meth c) (hRc : g_nx h' - g_nx h0 ≤ room_1.cells ∧ g_us h' - g_us h0 ≤ room_1.slots) (hq1 : r = 1) (hn9 : g_nx h' - g_nx h0 ≤ 603072 ∧ g_us h' - g_us h0 ≤ 7190634) (hbs : G.2.2.1.size = s.heap.size ∧ ∃ b9 : Nat, args = #[Value.ref b9]) : w_L_law_1342 G l p e s m args below meth c h0 r h' (f_L_law_1342) := by
  have hx := X.1
  have hb := X.2.1
  have hown := X.2.2.2.1
  have hts := X.2.2.2.2.1
  intro h H locs cells slots ls hf hI hl
  unfold f_L_law_1342 at hf
  refine lv_iconst (v := (0 : Int32)) hx hb dL_law_1342 (by decide) ?_
  cases gRet_e hf
  exact g_lawret X hRc hq1 hn9 hbs hI dL_law_1343
def f_L_law_1344 (k23 : Nat → Nat → Nat → Nat → Int32 → gM Int32) (a0 : Nat) (a1 : Nat) (a2 : Nat) (a3 : Nat) (x4 : Int32) : gM Int32 :=
    f_L_law_2492 k23 a0 a1 a2 a3 x4
set_option maxHeartbeats 4000000 in
set_option maxRecDepth 100000 in
theorem b_L_law_1344 {G : gG} {l : Launch} {p : Program} {e : Env} {s : State} {m : MethodId} {args : Array Value} {below : List Frame} {meth : Method} {c : Code} {h0 : g_H} {r : Int32} {h' : g_H} (X : gX G l "GhostAssizeLaw" cL_law 7 (some .boolean) [] "law" p s m args meth c) (hRc : g_nx h' - g_nx h0 ≤ room_1.cells ∧ g_us h' - g_us h0 ≤ room_1.slots) (hq1 : r = 1) (hn9 : g_nx h' - g_nx h0 ≤ 603072 ∧ g_us h' - g_us h0 ≤ 7190634) (hbs : G.2.2.1.size = s.heap.size ∧ ∃ b9 : Nat, args = #[Value.ref b9]) {k23 : Nat → Nat → Nat → Nat → Int32 → gM Int32} (K23 : w_L_law_23 G l p e s m args below meth c h0 r h' k23) : w_L_law_1344 G l p e s m args below meth c h0 r h' (f_L_law_1344 k23) := by
  have hx := X.1
  have hb := X.2.1
  have hown := X.2.2.2.1
  have hts := X.2.2.2.2.1
  intro a0 a1 a2 a3 x4 h H locs cells slots ls hf hI hl
  unfold f_L_law_1344 at hf
  refine lv_goto (tgt := 2492) hx hb dL_law_1344 (by decide) ?_
  exact b_L_law_2492 X hRc hq1 hn9 hbs K23 _ _ _ _ _ _ _ _ _ _ _ hf hI (lv_sub hl [0, 1, 2, 3, 4] rfl)
def f_L_law_1393 : gM Int32 :=
    (gRet (0 : Int32))
set_option maxHeartbeats 4000000 in
set_option maxRecDepth 100000 in
theorem b_L_law_1393 {G : gG} {l : Launch} {p : Program} {e : Env} {s : State} {m : MethodId} {args : Array Value} {below : List Frame} {meth : Method} {c : Code} {h0 : g_H} {r : Int32} {h' : g_H} (X : gX G l "GhostAssizeLaw" cL_law 7 (some .boolean) [] "law" p s m args meth c) (hRc : g_nx h' - g_nx h0 ≤ room_1.cells ∧ g_us h' - g_us h0 ≤ room_1.slots) (hq1 : r = 1) (hn9 : g_nx h' - g_nx h0 ≤ 603072 ∧ g_us h' - g_us h0 ≤ 7190634) (hbs : G.2.2.1.size = s.heap.size ∧ ∃ b9 : Nat, args = #[Value.ref b9]) : w_L_law_1393 G l p e s m args below meth c h0 r h' (f_L_law_1393) := by
  have hx := X.1
  have hb := X.2.1
  have hown := X.2.2.2.1
  have hts := X.2.2.2.2.1
  intro h H locs cells slots ls hf hI hl
  unfold f_L_law_1393 at hf
  refine lv_iconst (v := (0 : Int32)) hx hb dL_law_1393 (by decide) ?_
  cases gRet_e hf
  exact g_lawret X hRc hq1 hn9 hbs hI dL_law_1394
def f_L_law_1410 : gM Int32 :=
    (gRet (0 : Int32))
set_option maxHeartbeats 4000000 in
set_option maxRecDepth 100000 in
theorem b_L_law_1410 {G : gG} {l : Launch} {p : Program} {e : Env} {s : State} {m : MethodId} {args : Array Value} {below : List Frame} {meth : Method} {c : Code} {h0 : g_H} {r : Int32} {h' : g_H} (X : gX G l "GhostAssizeLaw" cL_law 7 (some .boolean) [] "law" p s m args meth c) (hRc : g_nx h' - g_nx h0 ≤ room_1.cells ∧ g_us h' - g_us h0 ≤ room_1.slots) (hq1 : r = 1) (hn9 : g_nx h' - g_nx h0 ≤ 603072 ∧ g_us h' - g_us h0 ≤ 7190634) (hbs : G.2.2.1.size = s.heap.size ∧ ∃ b9 : Nat, args = #[Value.ref b9]) : w_L_law_1410 G l p e s m args below meth c h0 r h' (f_L_law_1410) := by
  have hx := X.1
  have hb := X.2.1
  have hown := X.2.2.2.1
  have hts := X.2.2.2.2.1
  intro h H locs cells slots ls hf hI hl
  unfold f_L_law_1410 at hf
  refine lv_iconst (v := (0 : Int32)) hx hb dL_law_1410 (by decide) ?_
  cases gRet_e hf
  exact g_lawret X hRc hq1 hn9 hbs hI dL_law_1411
def f_L_law_1412 (k23 : Nat → Nat → Nat → Nat → Int32 → gM Int32) (a0 : Nat) (a1 : Nat) (a2 : Nat) (a3 : Nat) (x4 : Int32) : gM Int32 :=
    f_L_law_2492 k23 a0 a1 a2 a3 x4
set_option maxHeartbeats 4000000 in
set_option maxRecDepth 100000 in
theorem b_L_law_1412 {G : gG} {l : Launch} {p : Program} {e : Env} {s : State} {m : MethodId} {args : Array Value} {below : List Frame} {meth : Method} {c : Code} {h0 : g_H} {r : Int32} {h' : g_H} (X : gX G l "GhostAssizeLaw" cL_law 7 (some .boolean) [] "law" p s m args meth c) (hRc : g_nx h' - g_nx h0 ≤ room_1.cells ∧ g_us h' - g_us h0 ≤ room_1.slots) (hq1 : r = 1) (hn9 : g_nx h' - g_nx h0 ≤ 603072 ∧ g_us h' - g_us h0 ≤ 7190634) (hbs : G.2.2.1.size = s.heap.size ∧ ∃ b9 : Nat, args = #[Value.ref b9]) {k23 : Nat → Nat → Nat → Nat → Int32 → gM Int32} (K23 : w_L_law_23 G l p e s m args below meth c h0 r h' k23) : w_L_law_1412 G l p e s m args below meth c h0 r h' (f_L_law_1412 k23) := by
  have hx := X.1
  have hb := X.2.1
  have hown := X.2.2.2.1
  have hts := X.2.2.2.2.1
  intro a0 a1 a2 a3 x4 h H locs cells slots ls hf hI hl
  unfold f_L_law_1412 at hf
  refine lv_goto (tgt := 2492) hx hb dL_law_1412 (by decide) ?_
  exact b_L_law_2492 X hRc hq1 hn9 hbs K23 _ _ _ _ _ _ _ _ _ _ _ hf hI (lv_sub hl [0, 1, 2, 3, 4] rfl)
def f_L_law_1449 : gM Int32 :=
    (gRet (0 : Int32))
set_option maxHeartbeats 4000000 in
set_option maxRecDepth 100000 in
theorem b_L_law_1449 {G : gG} {l : Launch} {p : Program} {e : Env} {s : State} {m : MethodId} {args : Array Value} {below : List Frame} {meth : Method} {c : Code} {h0 : g_H} {r : Int32} {h' : g_H} (X : gX G l "GhostAssizeLaw" cL_law 7 (some .boolean) [] "law" p s m args meth c) (hRc : g_nx h' - g_nx h0 ≤ room_1.cells ∧ g_us h' - g_us h0 ≤ room_1.slots) (hq1 : r = 1) (hn9 : g_nx h' - g_nx h0 ≤ 603072 ∧ g_us h' - g_us h0 ≤ 7190634) (hbs : G.2.2.1.size = s.heap.size ∧ ∃ b9 : Nat, args = #[Value.ref b9]) : w_L_law_1449 G l p e s m args below meth c h0 r h' (f_L_law_1449) := by
  have hx := X.1
  have hb := X.2.1
  have hown := X.2.2.2.1
  have hts := X.2.2.2.2.1
  intro h H locs cells slots ls hf hI hl
  unfold f_L_law_1449 at hf
  refine lv_iconst (v := (0 : Int32)) hx hb dL_law_1449 (by decide) ?_
  cases gRet_e hf
  exact g_lawret X hRc hq1 hn9 hbs hI dL_law_1450
def f_L_law_1466 : gM Int32 :=
    (gRet (0 : Int32))
set_option maxHeartbeats 4000000 in
set_option maxRecDepth 100000 in
theorem b_L_law_1466 {G : gG} {l : Launch} {p : Program} {e : Env} {s : State} {m : MethodId} {args : Array Value} {below : List Frame} {meth : Method} {c : Code} {h0 : g_H} {r : Int32} {h' : g_H} (X : gX G l "GhostAssizeLaw" cL_law 7 (some .boolean) [] "law" p s m args meth c) (hRc : g_nx h' - g_nx h0 ≤ room_1.cells ∧ g_us h' - g_us h0 ≤ room_1.slots) (hq1 : r = 1) (hn9 : g_nx h' - g_nx h0 ≤ 603072 ∧ g_us h' - g_us h0 ≤ 7190634) (hbs : G.2.2.1.size = s.heap.size ∧ ∃ b9 : Nat, args = #[Value.ref b9]) : w_L_law_1466 G l p e s m args below meth c h0 r h' (f_L_law_1466) := by
  have hx := X.1
  have hb := X.2.1
  have hown := X.2.2.2.1
  have hts := X.2.2.2.2.1
  intro h H locs cells slots ls hf hI hl
  unfold f_L_law_1466 at hf
  refine lv_iconst (v := (0 : Int32)) hx hb dL_law_1466 (by decide) ?_
  cases gRet_e hf
  exact g_lawret X hRc hq1 hn9 hbs hI dL_law_1467
def f_L_law_1468 (k23 : Nat → Nat → Nat → Nat → Int32 → gM Int32) (a0 : Nat) (a1 : Nat) (a2 : Nat) (a3 : Nat) (x4 : Int32) : gM Int32 :=
    f_L_law_2492 k23 a0 a1 a2 a3 x4
set_option maxHeartbeats 4000000 in
set_option maxRecDepth 100000 in
theorem b_L_law_1468 {G : gG} {l : Launch} {p : Program} {e : Env} {s : State} {m : MethodId} {args : Array Value} {below : List Frame} {meth : Method} {c : Code} {h0 : g_H} {r : Int32} {h' : g_H} (X : gX G l "GhostAssizeLaw" cL_law 7 (some .boolean) [] "law" p s m args meth c) (hRc : g_nx h' - g_nx h0 ≤ room_1.cells ∧ g_us h' - g_us h0 ≤ room_1.slots) (hq1 : r = 1) (hn9 : g_nx h' - g_nx h0 ≤ 603072 ∧ g_us h' - g_us h0 ≤ 7190634) (hbs : G.2.2.1.size = s.heap.size ∧ ∃ b9 : Nat, args = #[Value.ref b9]) {k23 : Nat → Nat → Nat → Nat → Int32 → gM Int32} (K23 : w_L_law_23 G l p e s m args below meth c h0 r h' k23) : w_L_law_1468 G l p e s m args below meth c h0 r h' (f_L_law_1468 k23) := by
  have hx := X.1
  have hb := X.2.1
  have hown := X.2.2.2.1
  have hts := X.2.2.2.2.1
  intro a0 a1 a2 a3 x4 h H locs cells slots ls hf hI hl
  unfold f_L_law_1468 at hf
  refine lv_goto (tgt := 2492) hx hb dL_law_1468 (by decide) ?_
  exact b_L_law_2492 X hRc hq1 hn9 hbs K23 _ _ _ _ _ _ _ _ _ _ _ hf hI (lv_sub hl [0, 1, 2, 3, 4] rfl)
def f_L_law_1482 : gM Int32 :=
    (gRet (0 : Int32))
set_option maxHeartbeats 4000000 in
set_option maxRecDepth 100000 in
theorem b_L_law_1482 {G : gG} {l : Launch} {p : Program} {e : Env} {s : State} {m : MethodId} {args : Array Value} {below : List Frame} {meth : Method} {c : Code} {h0 : g_H} {r : Int32} {h' : g_H} (X : gX G l "GhostAssizeLaw" cL_law 7 (some .boolean) [] "law" p s m args meth c) (hRc : g_nx h' - g_nx h0 ≤ room_1.cells ∧ g_us h' - g_us h0 ≤ room_1.slots) (hq1 : r = 1) (hn9 : g_nx h' - g_nx h0 ≤ 603072 ∧ g_us h' - g_us h0 ≤ 7190634) (hbs : G.2.2.1.size = s.heap.size ∧ ∃ b9 : Nat, args = #[Value.ref b9]) : w_L_law_1482 G l p e s m args below meth c h0 r h' (f_L_law_1482) := by
  have hx := X.1
  have hb := X.2.1
  have hown := X.2.2.2.1
  have hts := X.2.2.2.2.1
  intro h H locs cells slots ls hf hI hl
  unfold f_L_law_1482 at hf
  refine lv_iconst (v := (0 : Int32)) hx hb dL_law_1482 (by decide) ?_
  cases gRet_e hf
  exact g_lawret X hRc hq1 hn9 hbs hI dL_law_1483
def f_L_law_1523 : gM Int32 :=
    (gRet (0 : Int32))
set_option maxHeartbeats 4000000 in
set_option maxRecDepth 100000 in
theorem b_L_law_1523 {G : gG} {l : Launch} {p : Program} {e : Env} {s : State} {m : MethodId} {args : Array Value} {below : List Frame} {meth : Method} {c : Code} {h0 : g_H} {r : Int32} {h' : g_H} (X : gX G l "GhostAssizeLaw" cL_law 7 (some .boolean) [] "law" p s m args meth c) (hRc : g_nx h' - g_nx h0 ≤ room_1.cells ∧ g_us h' - g_us h0 ≤ room_1.slots) (hq1 : r = 1) (hn9 : g_nx h' - g_nx h0 ≤ 603072 ∧ g_us h' - g_us h0 ≤ 7190634) (hbs : G.2.2.1.size = s.heap.size ∧ ∃ b9 : Nat, args = #[Value.ref b9]) : w_L_law_1523 G l p e s m args below meth c h0 r h' (f_L_law_1523) := by
  have hx := X.1
  have hb := X.2.1
  have hown := X.2.2.2.1
  have hts := X.2.2.2.2.1
  intro h H locs cells slots ls hf hI hl
  unfold f_L_law_1523 at hf
  refine lv_iconst (v := (0 : Int32)) hx hb dL_law_1523 (by decide) ?_
  cases gRet_e hf
  exact g_lawret X hRc hq1 hn9 hbs hI dL_law_1524
def f_L_law_1517 (k23 : Nat → Nat → Nat → Nat → Int32 → gM Int32) (a0 : Nat) (a1 : Nat) (a2 : Nat) (a3 : Nat) (x4 : Int32) (u0 : Int32) (b1 : Nat) (u2 : Int32) : gM Int32 :=
    gB (gCk b1 7) fun _ =>
    gB (f_X8_errors b1 u2) fun r101 =>
    gIf (u0 = r101)
    (f_L_law_2492 k23 a0 a1 a2 a3 x4)
    (f_L_law_1523)
set_option maxHeartbeats 4000000 in
set_option maxRecDepth 100000 in
theorem b_L_law_1517 {G : gG} {l : Launch} {p : Program} {e : Env} {s : State} {m : MethodId} {args : Array Value} {below : List Frame} {meth : Method} {c : Code} {h0 : g_H} {r : Int32} {h' : g_H} (X : gX G l "GhostAssizeLaw" cL_law 7 (some .boolean) [] "law" p s m args meth c) (hRc : g_nx h' - g_nx h0 ≤ room_1.cells ∧ g_us h' - g_us h0 ≤ room_1.slots) (hq1 : r = 1) (hn9 : g_nx h' - g_nx h0 ≤ 603072 ∧ g_us h' - g_us h0 ≤ 7190634) (hbs : G.2.2.1.size = s.heap.size ∧ ∃ b9 : Nat, args = #[Value.ref b9]) {k23 : Nat → Nat → Nat → Nat → Int32 → gM Int32} (K23 : w_L_law_23 G l p e s m args below meth c h0 r h' k23) : w_L_law_1517 G l p e s m args below meth c h0 r h' (f_L_law_1517 k23) := by
  have hx := X.1
  have hb := X.2.1
  have hown := X.2.2.2.1
  have hts := X.2.2.2.2.1
  intro a0 a1 a2 a3 x4 u0 b1 u2 h H locs cells slots ls hf hI hl
  unfold f_L_law_1517 at hf
  obtain ⟨hs, hf⟩ := gCk_b hf
  refine g_cBI hI hf (fun v9 h9 e9 l9 l9' => g_rV X hI l9 l9' hRc (As := [.int u2]) (m_X8_errors X.2.2.2.2.2.2.2.2.2.2.1 e9) ydX8_errors hs rfl rfl q1975 q1976 q1977 q131 q1978 rfl (Nat.le_of_ble_eq_true rfl) (Nat.le_of_ble_eq_true rfl) hl.1 rfl (Nat.le_of_ble_eq_true rfl) dL_law_1517) (fun r101 h H locs cells slots hf hI => ?_)
  refine lv_icmp_eq (tgt := 2492) hx hb dL_law_1520 (by decide) (fun c1520 => ?_) (fun c1520 => ?_)
  · have hf := g_t c1520 hf
    exact b_L_law_2492 X hRc hq1 hn9 hbs K23 _ _ _ _ _ _ _ _ _ _ _ hf hI (lv_sub hl [0, 1, 2, 3, 4] rfl)
  · have hf := g_f c1520 hf
    exact b_L_law_1523 X hRc hq1 hn9 hbs _ _ _ _ _ _ hf hI (lv_sub hl [] rfl)
def f_L_law_1499 (k23 : Nat → Nat → Nat → Nat → Int32 → gM Int32) (a0 : Nat) (a1 : Nat) (a2 : Nat) (a3 : Nat) (x4 : Int32) (b0 : Nat) (u1 : Int32) : gM Int32 :=
    gB (gCk b0 0) fun _ =>
    gB (f_X1_errors b0 u1) fun r101 =>
    gB (gAI a0 9 (x4 + (1 : Int32))) fun v102 =>
    gIf (v102 = 0)
    (f_L_law_1517 k23 a0 a1 a2 a3 x4 r101 a2 (0 : Int32))
    (f_L_law_1517 k23 a0 a1 a2 a3 x4 r101 a2 (1 : Int32))
set_option maxHeartbeats 4000000 in
set_option maxRecDepth 100000 in
theorem b_L_law_1499 {G : gG} {l : Launch} {p : Program} {e : Env} {s : State} {m : MethodId} {args : Array Value} {below : List Frame} {meth : Method} {c : Code} {h0 : g_H} {r : Int32} {h' : g_H} (X : gX G l "GhostAssizeLaw" cL_law 7 (some .boolean) [] "law" p s m args meth c) (hRc : g_nx h' - g_nx h0 ≤ room_1.cells ∧ g_us h' - g_us h0 ≤ room_1.slots) (hq1 : r = 1) (hn9 : g_nx h' - g_nx h0 ≤ 603072 ∧ g_us h' - g_us h0 ≤ 7190634) (hbs : G.2.2.1.size = s.heap.size ∧ ∃ b9 : Nat, args = #[Value.ref b9]) {k23 : Nat → Nat → Nat → Nat → Int32 → gM Int32} (K23 : w_L_law_23 G l p e s m args below meth c h0 r h' k23) : w_L_law_1499 G l p e s m args below meth c h0 r h' (f_L_law_1499 k23) := by
  have hx := X.1
  have hb := X.2.1
  have hown := X.2.2.2.1
  have hts := X.2.2.2.2.1
  intro a0 a1 a2 a3 x4 b0 u1 h H locs cells slots ls hf hI hl
  unfold f_L_law_1499 at hf
  obtain ⟨hs, hf⟩ := gCk_b hf
  refine g_cBI hI hf (fun v9 h9 e9 l9 l9' => g_rV X hI l9 l9' hRc (As := [.int u1]) (m_X1_errors X.2.2.2.2.2.2.2.2.2.2.1 e9) ydX1_errors hs rfl rfl q632 q633 q634 q121 q635 rfl (Nat.le_of_ble_eq_true rfl) (Nat.le_of_ble_eq_true rfl) hl.1 rfl (Nat.le_of_ble_eq_true rfl) dL_law_1499) (fun r101 h H locs cells slots hf hI => ?_)
  refine lv_aload_n hx hb dL_law_1502 rfl (lv_at hl 2 rfl) ?_
  refine lv_aload_n hx hb dL_law_1503 rfl (lv_at hl 0 rfl) ?_
  refine lv_iload hx hb dL_law_1504 (lv_at hl 4 rfl) ?_
  refine lv_iconst (v := (1 : Int32)) hx hb dL_law_1506 (by decide) ?_
  refine lv_iadd hx hb dL_law_1507 ?_
  refine g_aiO9 X hI hf dL_law_1508 (fun v102 hf => ?_)
  refine lv_if_eq (tgt := 1516) hx hb dL_law_1509 (by decide) (fun c1509 => ?_) (fun c1509 => ?_)
  · have hf := g_t c1509 hf
    refine lv_iconst (v := (0 : Int32)) hx hb dL_law_1516 (by decide) ?_
    exact b_L_law_1517 X hRc hq1 hn9 hbs K23 _ _ _ _ _ _ _ _ _ _ _ _ _ _ hf hI (lv_sub hl [0, 1, 2, 3, 4] rfl)
  · have hf := g_f c1509 hf
    refine lv_iconst (v := (1 : Int32)) hx hb dL_law_1512 (by decide) ?_
    refine lv_goto (tgt := 1517) hx hb dL_law_1513 (by decide) ?_
    exact b_L_law_1517 X hRc hq1 hn9 hbs K23 _ _ _ _ _ _ _ _ _ _ _ _ _ _ hf hI (lv_sub hl [0, 1, 2, 3, 4] rfl)
def f_L_law_1536 : gM Int32 :=
    (gRet (0 : Int32))
set_option maxHeartbeats 4000000 in
set_option maxRecDepth 100000 in
theorem b_L_law_1536 {G : gG} {l : Launch} {p : Program} {e : Env} {s : State} {m : MethodId} {args : Array Value} {below : List Frame} {meth : Method} {c : Code} {h0 : g_H} {r : Int32} {h' : g_H} (X : gX G l "GhostAssizeLaw" cL_law 7 (some .boolean) [] "law" p s m args meth c) (hRc : g_nx h' - g_nx h0 ≤ room_1.cells ∧ g_us h' - g_us h0 ≤ room_1.slots) (hq1 : r = 1) (hn9 : g_nx h' - g_nx h0 ≤ 603072 ∧ g_us h' - g_us h0 ≤ 7190634) (hbs : G.2.2.1.size = s.heap.size ∧ ∃ b9 : Nat, args = #[Value.ref b9]) : w_L_law_1536 G l p e s m args below meth c h0 r h' (f_L_law_1536) := by
  have hx := X.1
  have hb := X.2.1
  have hown := X.2.2.2.1
  have hts := X.2.2.2.2.1
  intro h H locs cells slots ls hf hI hl
  unfold f_L_law_1536 at hf
  refine lv_iconst (v := (0 : Int32)) hx hb dL_law_1536 (by decide) ?_
  cases gRet_e hf
  exact g_lawret X hRc hq1 hn9 hbs hI dL_law_1537
def f_L_law_1549 : gM Int32 :=
    (gRet (0 : Int32))
set_option maxHeartbeats 4000000 in
set_option maxRecDepth 100000 in
theorem b_L_law_1549 {G : gG} {l : Launch} {p : Program} {e : Env} {s : State} {m : MethodId} {args : Array Value} {below : List Frame} {meth : Method} {c : Code} {h0 : g_H} {r : Int32} {h' : g_H} (X : gX G l "GhostAssizeLaw" cL_law 7 (some .boolean) [] "law" p s m args meth c) (hRc : g_nx h' - g_nx h0 ≤ room_1.cells ∧ g_us h' - g_us h0 ≤ room_1.slots) (hq1 : r = 1) (hn9 : g_nx h' - g_nx h0 ≤ 603072 ∧ g_us h' - g_us h0 ≤ 7190634) (hbs : G.2.2.1.size = s.heap.size ∧ ∃ b9 : Nat, args = #[Value.ref b9]) : w_L_law_1549 G l p e s m args below meth c h0 r h' (f_L_law_1549) := by
  have hx := X.1
  have hb := X.2.1
  have hown := X.2.2.2.1
  have hts := X.2.2.2.2.1
  intro h H locs cells slots ls hf hI hl
  unfold f_L_law_1549 at hf
  refine lv_iconst (v := (0 : Int32)) hx hb dL_law_1549 (by decide) ?_
  cases gRet_e hf
  exact g_lawret X hRc hq1 hn9 hbs hI dL_law_1550
def f_L_law_1613 : gM Int32 :=
    (gRet (0 : Int32))
set_option maxHeartbeats 4000000 in
set_option maxRecDepth 100000 in
theorem b_L_law_1613 {G : gG} {l : Launch} {p : Program} {e : Env} {s : State} {m : MethodId} {args : Array Value} {below : List Frame} {meth : Method} {c : Code} {h0 : g_H} {r : Int32} {h' : g_H} (X : gX G l "GhostAssizeLaw" cL_law 7 (some .boolean) [] "law" p s m args meth c) (hRc : g_nx h' - g_nx h0 ≤ room_1.cells ∧ g_us h' - g_us h0 ≤ room_1.slots) (hq1 : r = 1) (hn9 : g_nx h' - g_nx h0 ≤ 603072 ∧ g_us h' - g_us h0 ≤ 7190634) (hbs : G.2.2.1.size = s.heap.size ∧ ∃ b9 : Nat, args = #[Value.ref b9]) : w_L_law_1613 G l p e s m args below meth c h0 r h' (f_L_law_1613) := by
  have hx := X.1
  have hb := X.2.1
  have hown := X.2.2.2.1
  have hts := X.2.2.2.2.1
  intro h H locs cells slots ls hf hI hl
  unfold f_L_law_1613 at hf
  refine lv_iconst (v := (0 : Int32)) hx hb dL_law_1613 (by decide) ?_
  cases gRet_e hf
  exact g_lawret X hRc hq1 hn9 hbs hI dL_law_1614
def f_L_law_1630 : gM Int32 :=
    (gRet (0 : Int32))
set_option maxHeartbeats 4000000 in
set_option maxRecDepth 100000 in
theorem b_L_law_1630 {G : gG} {l : Launch} {p : Program} {e : Env} {s : State} {m : MethodId} {args : Array Value} {below : List Frame} {meth : Method} {c : Code} {h0 : g_H} {r : Int32} {h' : g_H} (X : gX G l "GhostAssizeLaw" cL_law 7 (some .boolean) [] "law" p s m args meth c) (hRc : g_nx h' - g_nx h0 ≤ room_1.cells ∧ g_us h' - g_us h0 ≤ room_1.slots) (hq1 : r = 1) (hn9 : g_nx h' - g_nx h0 ≤ 603072 ∧ g_us h' - g_us h0 ≤ 7190634) (hbs : G.2.2.1.size = s.heap.size ∧ ∃ b9 : Nat, args = #[Value.ref b9]) : w_L_law_1630 G l p e s m args below meth c h0 r h' (f_L_law_1630) := by
  have hx := X.1
  have hb := X.2.1
  have hown := X.2.2.2.1
  have hts := X.2.2.2.2.1
  intro h H locs cells slots ls hf hI hl
  unfold f_L_law_1630 at hf
  refine lv_iconst (v := (0 : Int32)) hx hb dL_law_1630 (by decide) ?_
  cases gRet_e hf
  exact g_lawret X hRc hq1 hn9 hbs hI dL_law_1631
def f_L_law_1632 (k23 : Nat → Nat → Nat → Nat → Int32 → gM Int32) (a0 : Nat) (a1 : Nat) (a2 : Nat) (a3 : Nat) (x4 : Int32) : gM Int32 :=
    f_L_law_2492 k23 a0 a1 a2 a3 x4
set_option maxHeartbeats 4000000 in
set_option maxRecDepth 100000 in
theorem b_L_law_1632 {G : gG} {l : Launch} {p : Program} {e : Env} {s : State} {m : MethodId} {args : Array Value} {below : List Frame} {meth : Method} {c : Code} {h0 : g_H} {r : Int32} {h' : g_H} (X : gX G l "GhostAssizeLaw" cL_law 7 (some .boolean) [] "law" p s m args meth c) (hRc : g_nx h' - g_nx h0 ≤ room_1.cells ∧ g_us h' - g_us h0 ≤ room_1.slots) (hq1 : r = 1) (hn9 : g_nx h' - g_nx h0 ≤ 603072 ∧ g_us h' - g_us h0 ≤ 7190634) (hbs : G.2.2.1.size = s.heap.size ∧ ∃ b9 : Nat, args = #[Value.ref b9]) {k23 : Nat → Nat → Nat → Nat → Int32 → gM Int32} (K23 : w_L_law_23 G l p e s m args below meth c h0 r h' k23) : w_L_law_1632 G l p e s m args below meth c h0 r h' (f_L_law_1632 k23) := by
  have hx := X.1
  have hb := X.2.1
  have hown := X.2.2.2.1
  have hts := X.2.2.2.2.1
  intro a0 a1 a2 a3 x4 h H locs cells slots ls hf hI hl
  unfold f_L_law_1632 at hf
  refine lv_goto (tgt := 2492) hx hb dL_law_1632 (by decide) ?_
  exact b_L_law_2492 X hRc hq1 hn9 hbs K23 _ _ _ _ _ _ _ _ _ _ _ hf hI (lv_sub hl [0, 1, 2, 3, 4] rfl)
def f_L_law_1599 (k23 : Nat → Nat → Nat → Nat → Int32 → gM Int32) (a0 : Nat) (a1 : Nat) (a2 : Nat) (a3 : Nat) (x4 : Int32) (x5 : Int32) (b0 : Nat) (u1 : Int32) (u2 : Int32) : gM Int32 :=
    gB (gCk b0 7) fun _ =>
    gB (f_X8_found b0 u1 u2) fun r101 =>
    gB (gCk a2 7) fun _ =>
    gB (f_X8_thrown a2) fun r102 =>
    gIf (r102 = x5)
    (gIf (x5 = 0)
    (gB (gAI a3 2 (0 : Int32)) fun v103 =>
    gIf ((lg_cmp v103.toInt64 (r101).toInt64) = 0)
    (f_L_law_1632 k23 a0 a1 a2 a3 x4)
    (f_L_law_1630))
    (f_L_law_1632 k23 a0 a1 a2 a3 x4))
    (f_L_law_1613)
set_option maxHeartbeats 4000000 in
set_option maxRecDepth 100000 in
theorem b_L_law_1599 {G : gG} {l : Launch} {p : Program} {e : Env} {s : State} {m : MethodId} {args : Array Value} {below : List Frame} {meth : Method} {c : Code} {h0 : g_H} {r : Int32} {h' : g_H} (X : gX G l "GhostAssizeLaw" cL_law 7 (some .boolean) [] "law" p s m args meth c) (hRc : g_nx h' - g_nx h0 ≤ room_1.cells ∧ g_us h' - g_us h0 ≤ room_1.slots) (hq1 : r = 1) (hn9 : g_nx h' - g_nx h0 ≤ 603072 ∧ g_us h' - g_us h0 ≤ 7190634) (hbs : G.2.2.1.size = s.heap.size ∧ ∃ b9 : Nat, args = #[Value.ref b9]) {k23 : Nat → Nat → Nat → Nat → Int32 → gM Int32} (K23 : w_L_law_23 G l p e s m args below meth c h0 r h' k23) : w_L_law_1599 G l p e s m args below meth c h0 r h' (f_L_law_1599 k23) := by
  have hx := X.1
  have hb := X.2.1
  have hown := X.2.2.2.1
  have hts := X.2.2.2.2.1
  intro a0 a1 a2 a3 x4 x5 b0 u1 u2 h H locs cells slots ls hf hI hl
  unfold f_L_law_1599 at hf
  obtain ⟨hs, hf⟩ := gCk_b hf
  refine g_cBI hI hf (fun v9 h9 e9 l9 l9' => g_rV X hI l9 l9' hRc (As := [.int u1, .int u2]) (m_X8_found X.2.2.2.2.2.2.2.2.2.2.1 e9) ydX8_found hs rfl rfl q2041 q2042 q2043 q131 q2044 rfl (Nat.le_of_ble_eq_true rfl) (Nat.le_of_ble_eq_true rfl) hl.1 rfl (Nat.le_of_ble_eq_true rfl) dL_law_1599) (fun r101 h H locs cells slots hf hI => ?_)
  refine lv_istore (lv' := [(6, .int r101), (0, .ref a0), (1, .ref a1), (2, .ref a2), (3, .ref a3), (4, .int x4), (5, .int x5)]) hx hb dL_law_1602 hl (by decide) rfl (fun ls hl => ?_)
  refine lv_aload_n hx hb dL_law_1604 rfl (lv_at hl 3 rfl) ?_
  obtain ⟨hs, hf⟩ := gCk_b hf
  refine g_cBI hI hf (fun v9 h9 e9 l9 l9' => g_rV X hI l9 l9' hRc (As := []) (m_X8_thrown X.2.2.2.2.2.2.2.2.2.2.1 e9) ydX8_thrown hs rfl rfl q1434 q1435 q1436 q131 q1437 rfl (Nat.le_of_ble_eq_true rfl) (Nat.le_of_ble_eq_true rfl) hl.1 rfl (Nat.le_of_ble_eq_true rfl) dL_law_1605) (fun r102 h H locs cells slots hf hI => ?_)
  refine lv_iload hx hb dL_law_1608 (lv_at hl 6 rfl) ?_
  refine lv_icmp_eq (tgt := 1615) hx hb dL_law_1610 (by decide) (fun c1610 => ?_) (fun c1610 => ?_)
  · have hf := g_t c1610 hf
    refine lv_iload hx hb dL_law_1615 (lv_at hl 6 rfl) ?_
    refine lv_if_ne (tgt := 1632) hx hb dL_law_1617 (by decide) (fun c1617 => ?_) (fun c1617 => ?_)
    · have hf := g_f c1617 hf
      exact b_L_law_1632 X hRc hq1 hn9 hbs K23 _ _ _ _ _ _ _ _ _ _ _ hf hI (lv_sub hl [1, 2, 3, 4, 5] rfl)
    · have hf := g_t c1617 hf
      refine lv_aload_n hx hb dL_law_1620 rfl (lv_at hl 4 rfl) ?_
      refine lv_iconst (v := (0 : Int32)) hx hb dL_law_1621 (by decide) ?_
      refine g_ai2 X hI hf dL_law_1622 (fun v103 hf => ?_)
      refine lv_iload hx hb dL_law_1623 (lv_at hl 0 rfl) ?_
      refine lv_i2l hx hb dL_law_1625 rfl ?_
      refine W.lcmp hx hb dL_law_1626 ?_
      refine lv_if_eq (tgt := 1632) hx hb dL_law_1627 (by decide) (fun c1627 => ?_) (fun c1627 => ?_)
      · have hf := g_t c1627 hf
        exact b_L_law_1632 X hRc hq1 hn9 hbs K23 _ _ _ _ _ _ _ _ _ _ _ hf hI (lv_sub hl [1, 2, 3, 4, 5] rfl)
      · have hf := g_f c1627 hf
        exact b_L_law_1630 X hRc hq1 hn9 hbs _ _ _ _ _ _ hf hI (lv_sub hl [] rfl)
  · have hf := g_f c1610 hf
    exact b_L_law_1613 X hRc hq1 hn9 hbs _ _ _ _ _ _ hf hI (lv_sub hl [] rfl)
def f_L_law_1572 (k23 : Nat → Nat → Nat → Nat → Int32 → gM Int32) (a0 : Nat) (a1 : Nat) (a2 : Nat) (a3 : Nat) (x4 : Int32) (b0 : Nat) (u1 : Int32) (u2 : Int32) : gM Int32 :=
    gB (f_X0_found b0 u1 u2 a3) fun r101 =>
    gB (gAI a0 9 (x4 + (1 : Int32))) fun v102 =>
    gB (gAI a0 9 (x4 + (2 : Int32))) fun v103 =>
    gIf (v103 = 0)
    (f_L_law_1599 k23 a0 a1 a2 a3 x4 r101 a2 v102 (0 : Int32))
    (f_L_law_1599 k23 a0 a1 a2 a3 x4 r101 a2 v102 (1 : Int32))
set_option maxHeartbeats 4000000 in
set_option maxRecDepth 100000 in
theorem b_L_law_1572 {G : gG} {l : Launch} {p : Program} {e : Env} {s : State} {m : MethodId} {args : Array Value} {below : List Frame} {meth : Method} {c : Code} {h0 : g_H} {r : Int32} {h' : g_H} (X : gX G l "GhostAssizeLaw" cL_law 7 (some .boolean) [] "law" p s m args meth c) (hRc : g_nx h' - g_nx h0 ≤ room_1.cells ∧ g_us h' - g_us h0 ≤ room_1.slots) (hq1 : r = 1) (hn9 : g_nx h' - g_nx h0 ≤ 603072 ∧ g_us h' - g_us h0 ≤ 7190634) (hbs : G.2.2.1.size = s.heap.size ∧ ∃ b9 : Nat, args = #[Value.ref b9]) {k23 : Nat → Nat → Nat → Nat → Int32 → gM Int32} (K23 : w_L_law_23 G l p e s m args below meth c h0 r h' k23) : w_L_law_1572 G l p e s m args below meth c h0 r h' (f_L_law_1572 k23) := by
  have hx := X.1
  have hb := X.2.1
  have hown := X.2.2.2.1
  have hts := X.2.2.2.2.1
  intro a0 a1 a2 a3 x4 b0 u1 u2 h H locs cells slots ls hf hI hl
  unfold f_L_law_1572 at hf
  refine lv_aload_n hx hb dL_law_1572 rfl (lv_at hl 3 rfl) ?_
  refine g_cBI hI hf (fun v9 h9 e9 l9 l9' => g_rSX (b := 0) X hI l9 l9' hRc (As := [.ref b0, .int u1, .int u2, .ref a3]) (m_X0_found X.2.2.2.2.2.2.2.2.2.2.1 e9) ydX0_found q1324 q1325 q120 q1326 rfl (Nat.le_of_ble_eq_true rfl) (Nat.le_of_ble_eq_true rfl) hl.1 rfl (Nat.le_of_ble_eq_true rfl) dL_law_1573) (fun r101 h H locs cells slots hf hI => ?_)
  refine lv_istore (lv' := [(5, .int r101), (0, .ref a0), (1, .ref a1), (2, .ref a2), (3, .ref a3), (4, .int x4)]) hx hb dL_law_1576 hl (by decide) rfl (fun ls hl => ?_)
  refine lv_aload_n hx hb dL_law_1578 rfl (lv_at hl 3 rfl) ?_
  refine lv_aload_n hx hb dL_law_1579 rfl (lv_at hl 1 rfl) ?_
  refine lv_iload hx hb dL_law_1580 (lv_at hl 5 rfl) ?_
  refine lv_iconst (v := (1 : Int32)) hx hb dL_law_1582 (by decide) ?_
  refine lv_iadd hx hb dL_law_1583 ?_
  refine g_aiO9 X hI hf dL_law_1584 (fun v102 hf => ?_)
  refine lv_aload_n hx hb dL_law_1585 rfl (lv_at hl 1 rfl) ?_
  refine lv_iload hx hb dL_law_1586 (lv_at hl 5 rfl) ?_
  refine lv_iconst (v := (2 : Int32)) hx hb dL_law_1588 (by decide) ?_
  refine lv_iadd hx hb dL_law_1589 ?_
  refine g_aiO9 X hI hf dL_law_1590 (fun v103 hf => ?_)
  refine lv_if_eq (tgt := 1598) hx hb dL_law_1591 (by decide) (fun c1591 => ?_) (fun c1591 => ?_)
  · have hf := g_t c1591 hf
    refine lv_iconst (v := (0 : Int32)) hx hb dL_law_1598 (by decide) ?_
    exact b_L_law_1599 X hRc hq1 hn9 hbs K23 _ _ _ _ _ _ _ _ _ _ _ _ _ _ _ hf hI (lv_sub hl [1, 2, 3, 4, 5, 0] rfl)
  · have hf := g_f c1591 hf
    refine lv_iconst (v := (1 : Int32)) hx hb dL_law_1594 (by decide) ?_
    refine lv_goto (tgt := 1599) hx hb dL_law_1595 (by decide) ?_
    exact b_L_law_1599 X hRc hq1 hn9 hbs K23 _ _ _ _ _ _ _ _ _ _ _ _ _ _ _ hf hI (lv_sub hl [1, 2, 3, 4, 5, 0] rfl)
def f_L_law_1669 : gM Int32 :=
    (gRet (0 : Int32))
set_option maxHeartbeats 4000000 in
set_option maxRecDepth 100000 in
theorem b_L_law_1669 {G : gG} {l : Launch} {p : Program} {e : Env} {s : State} {m : MethodId} {args : Array Value} {below : List Frame} {meth : Method} {c : Code} {h0 : g_H} {r : Int32} {h' : g_H} (X : gX G l "GhostAssizeLaw" cL_law 7 (some .boolean) [] "law" p s m args meth c) (hRc : g_nx h' - g_nx h0 ≤ room_1.cells ∧ g_us h' - g_us h0 ≤ room_1.slots) (hq1 : r = 1) (hn9 : g_nx h' - g_nx h0 ≤ 603072 ∧ g_us h' - g_us h0 ≤ 7190634) (hbs : G.2.2.1.size = s.heap.size ∧ ∃ b9 : Nat, args = #[Value.ref b9]) : w_L_law_1669 G l p e s m args below meth c h0 r h' (f_L_law_1669) := by
  have hx := X.1
  have hb := X.2.1
  have hown := X.2.2.2.1
  have hts := X.2.2.2.2.1
  intro h H locs cells slots ls hf hI hl
  unfold f_L_law_1669 at hf
  refine lv_iconst (v := (0 : Int32)) hx hb dL_law_1669 (by decide) ?_
  cases gRet_e hf
  exact g_lawret X hRc hq1 hn9 hbs hI dL_law_1670
def f_L_law_1686 : gM Int32 :=
    (gRet (0 : Int32))
set_option maxHeartbeats 4000000 in
set_option maxRecDepth 100000 in
theorem b_L_law_1686 {G : gG} {l : Launch} {p : Program} {e : Env} {s : State} {m : MethodId} {args : Array Value} {below : List Frame} {meth : Method} {c : Code} {h0 : g_H} {r : Int32} {h' : g_H} (X : gX G l "GhostAssizeLaw" cL_law 7 (some .boolean) [] "law" p s m args meth c) (hRc : g_nx h' - g_nx h0 ≤ room_1.cells ∧ g_us h' - g_us h0 ≤ room_1.slots) (hq1 : r = 1) (hn9 : g_nx h' - g_nx h0 ≤ 603072 ∧ g_us h' - g_us h0 ≤ 7190634) (hbs : G.2.2.1.size = s.heap.size ∧ ∃ b9 : Nat, args = #[Value.ref b9]) : w_L_law_1686 G l p e s m args below meth c h0 r h' (f_L_law_1686) := by
  have hx := X.1
  have hb := X.2.1
  have hown := X.2.2.2.1
  have hts := X.2.2.2.2.1
  intro h H locs cells slots ls hf hI hl
  unfold f_L_law_1686 at hf
  refine lv_iconst (v := (0 : Int32)) hx hb dL_law_1686 (by decide) ?_
  cases gRet_e hf
  exact g_lawret X hRc hq1 hn9 hbs hI dL_law_1687
def f_L_law_1688 (k23 : Nat → Nat → Nat → Nat → Int32 → gM Int32) (a0 : Nat) (a1 : Nat) (a2 : Nat) (a3 : Nat) (x4 : Int32) : gM Int32 :=
    f_L_law_2492 k23 a0 a1 a2 a3 x4
set_option maxHeartbeats 4000000 in
set_option maxRecDepth 100000 in
theorem b_L_law_1688 {G : gG} {l : Launch} {p : Program} {e : Env} {s : State} {m : MethodId} {args : Array Value} {below : List Frame} {meth : Method} {c : Code} {h0 : g_H} {r : Int32} {h' : g_H} (X : gX G l "GhostAssizeLaw" cL_law 7 (some .boolean) [] "law" p s m args meth c) (hRc : g_nx h' - g_nx h0 ≤ room_1.cells ∧ g_us h' - g_us h0 ≤ room_1.slots) (hq1 : r = 1) (hn9 : g_nx h' - g_nx h0 ≤ 603072 ∧ g_us h' - g_us h0 ≤ 7190634) (hbs : G.2.2.1.size = s.heap.size ∧ ∃ b9 : Nat, args = #[Value.ref b9]) {k23 : Nat → Nat → Nat → Nat → Int32 → gM Int32} (K23 : w_L_law_23 G l p e s m args below meth c h0 r h' k23) : w_L_law_1688 G l p e s m args below meth c h0 r h' (f_L_law_1688 k23) := by
  have hx := X.1
  have hb := X.2.1
  have hown := X.2.2.2.1
  have hts := X.2.2.2.2.1
  intro a0 a1 a2 a3 x4 h H locs cells slots ls hf hI hl
  unfold f_L_law_1688 at hf
  refine lv_goto (tgt := 2492) hx hb dL_law_1688 (by decide) ?_
  exact b_L_law_2492 X hRc hq1 hn9 hbs K23 _ _ _ _ _ _ _ _ _ _ _ hf hI (lv_sub hl [0, 1, 2, 3, 4] rfl)
def f_L_law_1737 : gM Int32 :=
    (gRet (0 : Int32))
set_option maxHeartbeats 4000000 in
set_option maxRecDepth 100000 in
theorem b_L_law_1737 {G : gG} {l : Launch} {p : Program} {e : Env} {s : State} {m : MethodId} {args : Array Value} {below : List Frame} {meth : Method} {c : Code} {h0 : g_H} {r : Int32} {h' : g_H} (X : gX G l "GhostAssizeLaw" cL_law 7 (some .boolean) [] "law" p s m args meth c) (hRc : g_nx h' - g_nx h0 ≤ room_1.cells ∧ g_us h' - g_us h0 ≤ room_1.slots) (hq1 : r = 1) (hn9 : g_nx h' - g_nx h0 ≤ 603072 ∧ g_us h' - g_us h0 ≤ 7190634) (hbs : G.2.2.1.size = s.heap.size ∧ ∃ b9 : Nat, args = #[Value.ref b9]) : w_L_law_1737 G l p e s m args below meth c h0 r h' (f_L_law_1737) := by
  have hx := X.1
  have hb := X.2.1
  have hown := X.2.2.2.1
  have hts := X.2.2.2.2.1
  intro h H locs cells slots ls hf hI hl
  unfold f_L_law_1737 at hf
  refine lv_iconst (v := (0 : Int32)) hx hb dL_law_1737 (by decide) ?_
  cases gRet_e hf
  exact g_lawret X hRc hq1 hn9 hbs hI dL_law_1738
def f_L_law_1754 : gM Int32 :=
    (gRet (0 : Int32))
set_option maxHeartbeats 4000000 in
set_option maxRecDepth 100000 in
theorem b_L_law_1754 {G : gG} {l : Launch} {p : Program} {e : Env} {s : State} {m : MethodId} {args : Array Value} {below : List Frame} {meth : Method} {c : Code} {h0 : g_H} {r : Int32} {h' : g_H} (X : gX G l "GhostAssizeLaw" cL_law 7 (some .boolean) [] "law" p s m args meth c) (hRc : g_nx h' - g_nx h0 ≤ room_1.cells ∧ g_us h' - g_us h0 ≤ room_1.slots) (hq1 : r = 1) (hn9 : g_nx h' - g_nx h0 ≤ 603072 ∧ g_us h' - g_us h0 ≤ 7190634) (hbs : G.2.2.1.size = s.heap.size ∧ ∃ b9 : Nat, args = #[Value.ref b9]) : w_L_law_1754 G l p e s m args below meth c h0 r h' (f_L_law_1754) := by
  have hx := X.1
  have hb := X.2.1
  have hown := X.2.2.2.1
  have hts := X.2.2.2.2.1
  intro h H locs cells slots ls hf hI hl
  unfold f_L_law_1754 at hf
  refine lv_iconst (v := (0 : Int32)) hx hb dL_law_1754 (by decide) ?_
  cases gRet_e hf
  exact g_lawret X hRc hq1 hn9 hbs hI dL_law_1755
def f_L_law_1756 (k23 : Nat → Nat → Nat → Nat → Int32 → gM Int32) (a0 : Nat) (a1 : Nat) (a2 : Nat) (a3 : Nat) (x4 : Int32) : gM Int32 :=
    f_L_law_2492 k23 a0 a1 a2 a3 x4
set_option maxHeartbeats 4000000 in
set_option maxRecDepth 100000 in
theorem b_L_law_1756 {G : gG} {l : Launch} {p : Program} {e : Env} {s : State} {m : MethodId} {args : Array Value} {below : List Frame} {meth : Method} {c : Code} {h0 : g_H} {r : Int32} {h' : g_H} (X : gX G l "GhostAssizeLaw" cL_law 7 (some .boolean) [] "law" p s m args meth c) (hRc : g_nx h' - g_nx h0 ≤ room_1.cells ∧ g_us h' - g_us h0 ≤ room_1.slots) (hq1 : r = 1) (hn9 : g_nx h' - g_nx h0 ≤ 603072 ∧ g_us h' - g_us h0 ≤ 7190634) (hbs : G.2.2.1.size = s.heap.size ∧ ∃ b9 : Nat, args = #[Value.ref b9]) {k23 : Nat → Nat → Nat → Nat → Int32 → gM Int32} (K23 : w_L_law_23 G l p e s m args below meth c h0 r h' k23) : w_L_law_1756 G l p e s m args below meth c h0 r h' (f_L_law_1756 k23) := by
  have hx := X.1
  have hb := X.2.1
  have hown := X.2.2.2.1
  have hts := X.2.2.2.2.1
  intro a0 a1 a2 a3 x4 h H locs cells slots ls hf hI hl
  unfold f_L_law_1756 at hf
  refine lv_goto (tgt := 2492) hx hb dL_law_1756 (by decide) ?_
  exact b_L_law_2492 X hRc hq1 hn9 hbs K23 _ _ _ _ _ _ _ _ _ _ _ hf hI (lv_sub hl [0, 1, 2, 3, 4] rfl)
def f_L_law_1793 : gM Int32 :=
    (gRet (0 : Int32))
set_option maxHeartbeats 4000000 in
set_option maxRecDepth 100000 in
theorem b_L_law_1793 {G : gG} {l : Launch} {p : Program} {e : Env} {s : State} {m : MethodId} {args : Array Value} {below : List Frame} {meth : Method} {c : Code} {h0 : g_H} {r : Int32} {h' : g_H} (X : gX G l "GhostAssizeLaw" cL_law 7 (some .boolean) [] "law" p s m args meth c) (hRc : g_nx h' - g_nx h0 ≤ room_1.cells ∧ g_us h' - g_us h0 ≤ room_1.slots) (hq1 : r = 1) (hn9 : g_nx h' - g_nx h0 ≤ 603072 ∧ g_us h' - g_us h0 ≤ 7190634) (hbs : G.2.2.1.size = s.heap.size ∧ ∃ b9 : Nat, args = #[Value.ref b9]) : w_L_law_1793 G l p e s m args below meth c h0 r h' (f_L_law_1793) := by
  have hx := X.1
  have hb := X.2.1
  have hown := X.2.2.2.1
  have hts := X.2.2.2.2.1
  intro h H locs cells slots ls hf hI hl
  unfold f_L_law_1793 at hf
  refine lv_iconst (v := (0 : Int32)) hx hb dL_law_1793 (by decide) ?_
  cases gRet_e hf
  exact g_lawret X hRc hq1 hn9 hbs hI dL_law_1794
def f_L_law_1810 : gM Int32 :=
    (gRet (0 : Int32))
set_option maxHeartbeats 4000000 in
set_option maxRecDepth 100000 in
theorem b_L_law_1810 {G : gG} {l : Launch} {p : Program} {e : Env} {s : State} {m : MethodId} {args : Array Value} {below : List Frame} {meth : Method} {c : Code} {h0 : g_H} {r : Int32} {h' : g_H} (X : gX G l "GhostAssizeLaw" cL_law 7 (some .boolean) [] "law" p s m args meth c) (hRc : g_nx h' - g_nx h0 ≤ room_1.cells ∧ g_us h' - g_us h0 ≤ room_1.slots) (hq1 : r = 1) (hn9 : g_nx h' - g_nx h0 ≤ 603072 ∧ g_us h' - g_us h0 ≤ 7190634) (hbs : G.2.2.1.size = s.heap.size ∧ ∃ b9 : Nat, args = #[Value.ref b9]) : w_L_law_1810 G l p e s m args below meth c h0 r h' (f_L_law_1810) := by
  have hx := X.1
  have hb := X.2.1
  have hown := X.2.2.2.1
  have hts := X.2.2.2.2.1
  intro h H locs cells slots ls hf hI hl
  unfold f_L_law_1810 at hf
  refine lv_iconst (v := (0 : Int32)) hx hb dL_law_1810 (by decide) ?_
  cases gRet_e hf
  exact g_lawret X hRc hq1 hn9 hbs hI dL_law_1811
def f_L_law_1812 (k23 : Nat → Nat → Nat → Nat → Int32 → gM Int32) (a0 : Nat) (a1 : Nat) (a2 : Nat) (a3 : Nat) (x4 : Int32) : gM Int32 :=
    f_L_law_2492 k23 a0 a1 a2 a3 x4
set_option maxHeartbeats 4000000 in
set_option maxRecDepth 100000 in
theorem b_L_law_1812 {G : gG} {l : Launch} {p : Program} {e : Env} {s : State} {m : MethodId} {args : Array Value} {below : List Frame} {meth : Method} {c : Code} {h0 : g_H} {r : Int32} {h' : g_H} (X : gX G l "GhostAssizeLaw" cL_law 7 (some .boolean) [] "law" p s m args meth c) (hRc : g_nx h' - g_nx h0 ≤ room_1.cells ∧ g_us h' - g_us h0 ≤ room_1.slots) (hq1 : r = 1) (hn9 : g_nx h' - g_nx h0 ≤ 603072 ∧ g_us h' - g_us h0 ≤ 7190634) (hbs : G.2.2.1.size = s.heap.size ∧ ∃ b9 : Nat, args = #[Value.ref b9]) {k23 : Nat → Nat → Nat → Nat → Int32 → gM Int32} (K23 : w_L_law_23 G l p e s m args below meth c h0 r h' k23) : w_L_law_1812 G l p e s m args below meth c h0 r h' (f_L_law_1812 k23) := by
  have hx := X.1
  have hb := X.2.1
  have hown := X.2.2.2.1
  have hts := X.2.2.2.2.1
  intro a0 a1 a2 a3 x4 h H locs cells slots ls hf hI hl
  unfold f_L_law_1812 at hf
  refine lv_goto (tgt := 2492) hx hb dL_law_1812 (by decide) ?_
  exact b_L_law_2492 X hRc hq1 hn9 hbs K23 _ _ _ _ _ _ _ _ _ _ _ hf hI (lv_sub hl [0, 1, 2, 3, 4] rfl)
def f_L_law_1826 : gM Int32 :=
    (gRet (0 : Int32))
set_option maxHeartbeats 4000000 in
set_option maxRecDepth 100000 in
theorem b_L_law_1826 {G : gG} {l : Launch} {p : Program} {e : Env} {s : State} {m : MethodId} {args : Array Value} {below : List Frame} {meth : Method} {c : Code} {h0 : g_H} {r : Int32} {h' : g_H} (X : gX G l "GhostAssizeLaw" cL_law 7 (some .boolean) [] "law" p s m args meth c) (hRc : g_nx h' - g_nx h0 ≤ room_1.cells ∧ g_us h' - g_us h0 ≤ room_1.slots) (hq1 : r = 1) (hn9 : g_nx h' - g_nx h0 ≤ 603072 ∧ g_us h' - g_us h0 ≤ 7190634) (hbs : G.2.2.1.size = s.heap.size ∧ ∃ b9 : Nat, args = #[Value.ref b9]) : w_L_law_1826 G l p e s m args below meth c h0 r h' (f_L_law_1826) := by
  have hx := X.1
  have hb := X.2.1
  have hown := X.2.2.2.1
  have hts := X.2.2.2.2.1
  intro h H locs cells slots ls hf hI hl
  unfold f_L_law_1826 at hf
  refine lv_iconst (v := (0 : Int32)) hx hb dL_law_1826 (by decide) ?_
  cases gRet_e hf
  exact g_lawret X hRc hq1 hn9 hbs hI dL_law_1827
def f_L_law_1839 : gM Int32 :=
    (gRet (0 : Int32))
set_option maxHeartbeats 4000000 in
set_option maxRecDepth 100000 in
theorem b_L_law_1839 {G : gG} {l : Launch} {p : Program} {e : Env} {s : State} {m : MethodId} {args : Array Value} {below : List Frame} {meth : Method} {c : Code} {h0 : g_H} {r : Int32} {h' : g_H} (X : gX G l "GhostAssizeLaw" cL_law 7 (some .boolean) [] "law" p s m args meth c) (hRc : g_nx h' - g_nx h0 ≤ room_1.cells ∧ g_us h' - g_us h0 ≤ room_1.slots) (hq1 : r = 1) (hn9 : g_nx h' - g_nx h0 ≤ 603072 ∧ g_us h' - g_us h0 ≤ 7190634) (hbs : G.2.2.1.size = s.heap.size ∧ ∃ b9 : Nat, args = #[Value.ref b9]) : w_L_law_1839 G l p e s m args below meth c h0 r h' (f_L_law_1839) := by
  have hx := X.1
  have hb := X.2.1
  have hown := X.2.2.2.1
  have hts := X.2.2.2.2.1
  intro h H locs cells slots ls hf hI hl
  unfold f_L_law_1839 at hf
  refine lv_iconst (v := (0 : Int32)) hx hb dL_law_1839 (by decide) ?_
  cases gRet_e hf
  exact g_lawret X hRc hq1 hn9 hbs hI dL_law_1840
def f_L_law_1852 : gM Int32 :=
    (gRet (0 : Int32))
set_option maxHeartbeats 4000000 in
set_option maxRecDepth 100000 in
theorem b_L_law_1852 {G : gG} {l : Launch} {p : Program} {e : Env} {s : State} {m : MethodId} {args : Array Value} {below : List Frame} {meth : Method} {c : Code} {h0 : g_H} {r : Int32} {h' : g_H} (X : gX G l "GhostAssizeLaw" cL_law 7 (some .boolean) [] "law" p s m args meth c) (hRc : g_nx h' - g_nx h0 ≤ room_1.cells ∧ g_us h' - g_us h0 ≤ room_1.slots) (hq1 : r = 1) (hn9 : g_nx h' - g_nx h0 ≤ 603072 ∧ g_us h' - g_us h0 ≤ 7190634) (hbs : G.2.2.1.size = s.heap.size ∧ ∃ b9 : Nat, args = #[Value.ref b9]) : w_L_law_1852 G l p e s m args below meth c h0 r h' (f_L_law_1852) := by
  have hx := X.1
  have hb := X.2.1
  have hown := X.2.2.2.1
  have hts := X.2.2.2.2.1
  intro h H locs cells slots ls hf hI hl
  unfold f_L_law_1852 at hf
  refine lv_iconst (v := (0 : Int32)) hx hb dL_law_1852 (by decide) ?_
  cases gRet_e hf
  exact g_lawret X hRc hq1 hn9 hbs hI dL_law_1853
def f_L_law_1865 : gM Int32 :=
    (gRet (0 : Int32))
set_option maxHeartbeats 4000000 in
set_option maxRecDepth 100000 in
theorem b_L_law_1865 {G : gG} {l : Launch} {p : Program} {e : Env} {s : State} {m : MethodId} {args : Array Value} {below : List Frame} {meth : Method} {c : Code} {h0 : g_H} {r : Int32} {h' : g_H} (X : gX G l "GhostAssizeLaw" cL_law 7 (some .boolean) [] "law" p s m args meth c) (hRc : g_nx h' - g_nx h0 ≤ room_1.cells ∧ g_us h' - g_us h0 ≤ room_1.slots) (hq1 : r = 1) (hn9 : g_nx h' - g_nx h0 ≤ 603072 ∧ g_us h' - g_us h0 ≤ 7190634) (hbs : G.2.2.1.size = s.heap.size ∧ ∃ b9 : Nat, args = #[Value.ref b9]) : w_L_law_1865 G l p e s m args below meth c h0 r h' (f_L_law_1865) := by
  have hx := X.1
  have hb := X.2.1
  have hown := X.2.2.2.1
  have hts := X.2.2.2.2.1
  intro h H locs cells slots ls hf hI hl
  unfold f_L_law_1865 at hf
  refine lv_iconst (v := (0 : Int32)) hx hb dL_law_1865 (by decide) ?_
  cases gRet_e hf
  exact g_lawret X hRc hq1 hn9 hbs hI dL_law_1866
def f_L_law_1901 : gM Int32 :=
    (gRet (0 : Int32))
set_option maxHeartbeats 4000000 in
set_option maxRecDepth 100000 in
theorem b_L_law_1901 {G : gG} {l : Launch} {p : Program} {e : Env} {s : State} {m : MethodId} {args : Array Value} {below : List Frame} {meth : Method} {c : Code} {h0 : g_H} {r : Int32} {h' : g_H} (X : gX G l "GhostAssizeLaw" cL_law 7 (some .boolean) [] "law" p s m args meth c) (hRc : g_nx h' - g_nx h0 ≤ room_1.cells ∧ g_us h' - g_us h0 ≤ room_1.slots) (hq1 : r = 1) (hn9 : g_nx h' - g_nx h0 ≤ 603072 ∧ g_us h' - g_us h0 ≤ 7190634) (hbs : G.2.2.1.size = s.heap.size ∧ ∃ b9 : Nat, args = #[Value.ref b9]) : w_L_law_1901 G l p e s m args below meth c h0 r h' (f_L_law_1901) := by
  have hx := X.1
  have hb := X.2.1
  have hown := X.2.2.2.1
  have hts := X.2.2.2.2.1
  intro h H locs cells slots ls hf hI hl
  unfold f_L_law_1901 at hf
  refine lv_iconst (v := (0 : Int32)) hx hb dL_law_1901 (by decide) ?_
  cases gRet_e hf
  exact g_lawret X hRc hq1 hn9 hbs hI dL_law_1902
def f_L_law_1918 : gM Int32 :=
    (gRet (0 : Int32))
set_option maxHeartbeats 4000000 in
set_option maxRecDepth 100000 in
theorem b_L_law_1918 {G : gG} {l : Launch} {p : Program} {e : Env} {s : State} {m : MethodId} {args : Array Value} {below : List Frame} {meth : Method} {c : Code} {h0 : g_H} {r : Int32} {h' : g_H} (X : gX G l "GhostAssizeLaw" cL_law 7 (some .boolean) [] "law" p s m args meth c) (hRc : g_nx h' - g_nx h0 ≤ room_1.cells ∧ g_us h' - g_us h0 ≤ room_1.slots) (hq1 : r = 1) (hn9 : g_nx h' - g_nx h0 ≤ 603072 ∧ g_us h' - g_us h0 ≤ 7190634) (hbs : G.2.2.1.size = s.heap.size ∧ ∃ b9 : Nat, args = #[Value.ref b9]) : w_L_law_1918 G l p e s m args below meth c h0 r h' (f_L_law_1918) := by
  have hx := X.1
  have hb := X.2.1
  have hown := X.2.2.2.1
  have hts := X.2.2.2.2.1
  intro h H locs cells slots ls hf hI hl
  unfold f_L_law_1918 at hf
  refine lv_iconst (v := (0 : Int32)) hx hb dL_law_1918 (by decide) ?_
  cases gRet_e hf
  exact g_lawret X hRc hq1 hn9 hbs hI dL_law_1919
def f_L_law_1920 (k23 : Nat → Nat → Nat → Nat → Int32 → gM Int32) (a0 : Nat) (a1 : Nat) (a2 : Nat) (a3 : Nat) (x4 : Int32) : gM Int32 :=
    f_L_law_2492 k23 a0 a1 a2 a3 x4
set_option maxHeartbeats 4000000 in
set_option maxRecDepth 100000 in
theorem b_L_law_1920 {G : gG} {l : Launch} {p : Program} {e : Env} {s : State} {m : MethodId} {args : Array Value} {below : List Frame} {meth : Method} {c : Code} {h0 : g_H} {r : Int32} {h' : g_H} (X : gX G l "GhostAssizeLaw" cL_law 7 (some .boolean) [] "law" p s m args meth c) (hRc : g_nx h' - g_nx h0 ≤ room_1.cells ∧ g_us h' - g_us h0 ≤ room_1.slots) (hq1 : r = 1) (hn9 : g_nx h' - g_nx h0 ≤ 603072 ∧ g_us h' - g_us h0 ≤ 7190634) (hbs : G.2.2.1.size = s.heap.size ∧ ∃ b9 : Nat, args = #[Value.ref b9]) {k23 : Nat → Nat → Nat → Nat → Int32 → gM Int32} (K23 : w_L_law_23 G l p e s m args below meth c h0 r h' k23) : w_L_law_1920 G l p e s m args below meth c h0 r h' (f_L_law_1920 k23) := by
  have hx := X.1
  have hb := X.2.1
  have hown := X.2.2.2.1
  have hts := X.2.2.2.2.1
  intro a0 a1 a2 a3 x4 h H locs cells slots ls hf hI hl
  unfold f_L_law_1920 at hf
  refine lv_goto (tgt := 2492) hx hb dL_law_1920 (by decide) ?_
  exact b_L_law_2492 X hRc hq1 hn9 hbs K23 _ _ _ _ _ _ _ _ _ _ _ hf hI (lv_sub hl [0, 1, 2, 3, 4] rfl)
def f_L_law_1969 : gM Int32 :=
    (gRet (0 : Int32))
set_option maxHeartbeats 4000000 in
set_option maxRecDepth 100000 in
theorem b_L_law_1969 {G : gG} {l : Launch} {p : Program} {e : Env} {s : State} {m : MethodId} {args : Array Value} {below : List Frame} {meth : Method} {c : Code} {h0 : g_H} {r : Int32} {h' : g_H} (X : gX G l "GhostAssizeLaw" cL_law 7 (some .boolean) [] "law" p s m args meth c) (hRc : g_nx h' - g_nx h0 ≤ room_1.cells ∧ g_us h' - g_us h0 ≤ room_1.slots) (hq1 : r = 1) (hn9 : g_nx h' - g_nx h0 ≤ 603072 ∧ g_us h' - g_us h0 ≤ 7190634) (hbs : G.2.2.1.size = s.heap.size ∧ ∃ b9 : Nat, args = #[Value.ref b9]) : w_L_law_1969 G l p e s m args below meth c h0 r h' (f_L_law_1969) := by
  have hx := X.1
  have hb := X.2.1
  have hown := X.2.2.2.1
  have hts := X.2.2.2.2.1
  intro h H locs cells slots ls hf hI hl
  unfold f_L_law_1969 at hf
  refine lv_iconst (v := (0 : Int32)) hx hb dL_law_1969 (by decide) ?_
  cases gRet_e hf
  exact g_lawret X hRc hq1 hn9 hbs hI dL_law_1970
def f_L_law_1986 : gM Int32 :=
    (gRet (0 : Int32))
set_option maxHeartbeats 4000000 in
set_option maxRecDepth 100000 in
theorem b_L_law_1986 {G : gG} {l : Launch} {p : Program} {e : Env} {s : State} {m : MethodId} {args : Array Value} {below : List Frame} {meth : Method} {c : Code} {h0 : g_H} {r : Int32} {h' : g_H} (X : gX G l "GhostAssizeLaw" cL_law 7 (some .boolean) [] "law" p s m args meth c) (hRc : g_nx h' - g_nx h0 ≤ room_1.cells ∧ g_us h' - g_us h0 ≤ room_1.slots) (hq1 : r = 1) (hn9 : g_nx h' - g_nx h0 ≤ 603072 ∧ g_us h' - g_us h0 ≤ 7190634) (hbs : G.2.2.1.size = s.heap.size ∧ ∃ b9 : Nat, args = #[Value.ref b9]) : w_L_law_1986 G l p e s m args below meth c h0 r h' (f_L_law_1986) := by
  have hx := X.1
  have hb := X.2.1
  have hown := X.2.2.2.1
  have hts := X.2.2.2.2.1
  intro h H locs cells slots ls hf hI hl
  unfold f_L_law_1986 at hf
  refine lv_iconst (v := (0 : Int32)) hx hb dL_law_1986 (by decide) ?_
  cases gRet_e hf
  exact g_lawret X hRc hq1 hn9 hbs hI dL_law_1987
def f_L_law_1988 (k23 : Nat → Nat → Nat → Nat → Int32 → gM Int32) (a0 : Nat) (a1 : Nat) (a2 : Nat) (a3 : Nat) (x4 : Int32) : gM Int32 :=
    f_L_law_2492 k23 a0 a1 a2 a3 x4
set_option maxHeartbeats 4000000 in
set_option maxRecDepth 100000 in
theorem b_L_law_1988 {G : gG} {l : Launch} {p : Program} {e : Env} {s : State} {m : MethodId} {args : Array Value} {below : List Frame} {meth : Method} {c : Code} {h0 : g_H} {r : Int32} {h' : g_H} (X : gX G l "GhostAssizeLaw" cL_law 7 (some .boolean) [] "law" p s m args meth c) (hRc : g_nx h' - g_nx h0 ≤ room_1.cells ∧ g_us h' - g_us h0 ≤ room_1.slots) (hq1 : r = 1) (hn9 : g_nx h' - g_nx h0 ≤ 603072 ∧ g_us h' - g_us h0 ≤ 7190634) (hbs : G.2.2.1.size = s.heap.size ∧ ∃ b9 : Nat, args = #[Value.ref b9]) {k23 : Nat → Nat → Nat → Nat → Int32 → gM Int32} (K23 : w_L_law_23 G l p e s m args below meth c h0 r h' k23) : w_L_law_1988 G l p e s m args below meth c h0 r h' (f_L_law_1988 k23) := by
  have hx := X.1
  have hb := X.2.1
  have hown := X.2.2.2.1
  have hts := X.2.2.2.2.1
  intro a0 a1 a2 a3 x4 h H locs cells slots ls hf hI hl
  unfold f_L_law_1988 at hf
  refine lv_goto (tgt := 2492) hx hb dL_law_1988 (by decide) ?_
  exact b_L_law_2492 X hRc hq1 hn9 hbs K23 _ _ _ _ _ _ _ _ _ _ _ hf hI (lv_sub hl [0, 1, 2, 3, 4] rfl)
def f_L_law_2030 : gM Int32 :=
    (gRet (0 : Int32))
set_option maxHeartbeats 4000000 in
set_option maxRecDepth 100000 in
theorem b_L_law_2030 {G : gG} {l : Launch} {p : Program} {e : Env} {s : State} {m : MethodId} {args : Array Value} {below : List Frame} {meth : Method} {c : Code} {h0 : g_H} {r : Int32} {h' : g_H} (X : gX G l "GhostAssizeLaw" cL_law 7 (some .boolean) [] "law" p s m args meth c) (hRc : g_nx h' - g_nx h0 ≤ room_1.cells ∧ g_us h' - g_us h0 ≤ room_1.slots) (hq1 : r = 1) (hn9 : g_nx h' - g_nx h0 ≤ 603072 ∧ g_us h' - g_us h0 ≤ 7190634) (hbs : G.2.2.1.size = s.heap.size ∧ ∃ b9 : Nat, args = #[Value.ref b9]) : w_L_law_2030 G l p e s m args below meth c h0 r h' (f_L_law_2030) := by
  have hx := X.1
  have hb := X.2.1
  have hown := X.2.2.2.1
  have hts := X.2.2.2.2.1
  intro h H locs cells slots ls hf hI hl
  unfold f_L_law_2030 at hf
  refine lv_iconst (v := (0 : Int32)) hx hb dL_law_2030 (by decide) ?_
  cases gRet_e hf
  exact g_lawret X hRc hq1 hn9 hbs hI dL_law_2031
def f_L_law_2024 (k23 : Nat → Nat → Nat → Nat → Int32 → gM Int32) (a0 : Nat) (a1 : Nat) (a2 : Nat) (a3 : Nat) (x4 : Int32) (u0 : Int32) (b1 : Nat) (u2 : Int32) : gM Int32 :=
    gB (gCk b1 7) fun _ =>
    gB (f_X8_all b1 u2) fun r101 =>
    gIf (u0 = r101)
    (f_L_law_2492 k23 a0 a1 a2 a3 x4)
    (f_L_law_2030)
set_option maxHeartbeats 4000000 in
set_option maxRecDepth 100000 in
theorem b_L_law_2024 {G : gG} {l : Launch} {p : Program} {e : Env} {s : State} {m : MethodId} {args : Array Value} {below : List Frame} {meth : Method} {c : Code} {h0 : g_H} {r : Int32} {h' : g_H} (X : gX G l "GhostAssizeLaw" cL_law 7 (some .boolean) [] "law" p s m args meth c) (hRc : g_nx h' - g_nx h0 ≤ room_1.cells ∧ g_us h' - g_us h0 ≤ room_1.slots) (hq1 : r = 1) (hn9 : g_nx h' - g_nx h0 ≤ 603072 ∧ g_us h' - g_us h0 ≤ 7190634) (hbs : G.2.2.1.size = s.heap.size ∧ ∃ b9 : Nat, args = #[Value.ref b9]) {k23 : Nat → Nat → Nat → Nat → Int32 → gM Int32} (K23 : w_L_law_23 G l p e s m args below meth c h0 r h' k23) : w_L_law_2024 G l p e s m args below meth c h0 r h' (f_L_law_2024 k23) := by
  have hx := X.1
  have hb := X.2.1
  have hown := X.2.2.2.1
  have hts := X.2.2.2.2.1
  intro a0 a1 a2 a3 x4 u0 b1 u2 h H locs cells slots ls hf hI hl
  unfold f_L_law_2024 at hf
  obtain ⟨hs, hf⟩ := gCk_b hf
  refine g_cBI hI hf (fun v9 h9 e9 l9 l9' => g_rV X hI l9 l9' hRc (As := [.int u2]) (m_X8_all X.2.2.2.2.2.2.2.2.2.2.1 e9) ydX8_all hs rfl rfl q1902 q1903 q1904 q131 q1905 rfl (Nat.le_of_ble_eq_true rfl) (Nat.le_of_ble_eq_true rfl) hl.1 rfl (Nat.le_of_ble_eq_true rfl) dL_law_2024) (fun r101 h H locs cells slots hf hI => ?_)
  refine lv_icmp_eq (tgt := 2492) hx hb dL_law_2027 (by decide) (fun c2027 => ?_) (fun c2027 => ?_)
  · have hf := g_t c2027 hf
    exact b_L_law_2492 X hRc hq1 hn9 hbs K23 _ _ _ _ _ _ _ _ _ _ _ hf hI (lv_sub hl [0, 1, 2, 3, 4] rfl)
  · have hf := g_f c2027 hf
    exact b_L_law_2030 X hRc hq1 hn9 hbs _ _ _ _ _ _ hf hI (lv_sub hl [] rfl)
def f_L_law_2006 (k23 : Nat → Nat → Nat → Nat → Int32 → gM Int32) (a0 : Nat) (a1 : Nat) (a2 : Nat) (a3 : Nat) (x4 : Int32) (b0 : Nat) (u1 : Int32) : gM Int32 :=
    gB (gCk b0 0) fun _ =>
    gB (f_X1_all b0 u1) fun r101 =>
    gB (gAI a0 9 (x4 + (1 : Int32))) fun v102 =>
    gIf (v102 = 0)
    (f_L_law_2024 k23 a0 a1 a2 a3 x4 r101 a2 (0 : Int32))
    (f_L_law_2024 k23 a0 a1 a2 a3 x4 r101 a2 (1 : Int32))
set_option maxHeartbeats 4000000 in
set_option maxRecDepth 100000 in
theorem b_L_law_2006 {G : gG} {l : Launch} {p : Program} {e : Env} {s : State} {m : MethodId} {args : Array Value} {below : List Frame} {meth : Method} {c : Code} {h0 : g_H} {r : Int32} {h' : g_H} (X : gX G l "GhostAssizeLaw" cL_law 7 (some .boolean) [] "law" p s m args meth c) (hRc : g_nx h' - g_nx h0 ≤ room_1.cells ∧ g_us h' - g_us h0 ≤ room_1.slots) (hq1 : r = 1) (hn9 : g_nx h' - g_nx h0 ≤ 603072 ∧ g_us h' - g_us h0 ≤ 7190634) (hbs : G.2.2.1.size = s.heap.size ∧ ∃ b9 : Nat, args = #[Value.ref b9]) {k23 : Nat → Nat → Nat → Nat → Int32 → gM Int32} (K23 : w_L_law_23 G l p e s m args below meth c h0 r h' k23) : w_L_law_2006 G l p e s m args below meth c h0 r h' (f_L_law_2006 k23) := by
  have hx := X.1
  have hb := X.2.1
  have hown := X.2.2.2.1
  have hts := X.2.2.2.2.1
  intro a0 a1 a2 a3 x4 b0 u1 h H locs cells slots ls hf hI hl
  unfold f_L_law_2006 at hf
  obtain ⟨hs, hf⟩ := gCk_b hf
  refine g_cBI hI hf (fun v9 h9 e9 l9 l9' => g_rV X hI l9 l9' hRc (As := [.int u1]) (m_X1_all X.2.2.2.2.2.2.2.2.2.2.1 e9) ydX1_all hs rfl rfl q731 q732 q733 q121 q734 rfl (Nat.le_of_ble_eq_true rfl) (Nat.le_of_ble_eq_true rfl) hl.1 rfl (Nat.le_of_ble_eq_true rfl) dL_law_2006) (fun r101 h H locs cells slots hf hI => ?_)
  refine lv_aload_n hx hb dL_law_2009 rfl (lv_at hl 2 rfl) ?_
  refine lv_aload_n hx hb dL_law_2010 rfl (lv_at hl 0 rfl) ?_
  refine lv_iload hx hb dL_law_2011 (lv_at hl 4 rfl) ?_
  refine lv_iconst (v := (1 : Int32)) hx hb dL_law_2013 (by decide) ?_
  refine lv_iadd hx hb dL_law_2014 ?_
  refine g_aiO9 X hI hf dL_law_2015 (fun v102 hf => ?_)
  refine lv_if_eq (tgt := 2023) hx hb dL_law_2016 (by decide) (fun c2016 => ?_) (fun c2016 => ?_)
  · have hf := g_t c2016 hf
    refine lv_iconst (v := (0 : Int32)) hx hb dL_law_2023 (by decide) ?_
    exact b_L_law_2024 X hRc hq1 hn9 hbs K23 _ _ _ _ _ _ _ _ _ _ _ _ _ _ hf hI (lv_sub hl [0, 1, 2, 3, 4] rfl)
  · have hf := g_f c2016 hf
    refine lv_iconst (v := (1 : Int32)) hx hb dL_law_2019 (by decide) ?_
    refine lv_goto (tgt := 2024) hx hb dL_law_2020 (by decide) ?_
    exact b_L_law_2024 X hRc hq1 hn9 hbs K23 _ _ _ _ _ _ _ _ _ _ _ _ _ _ hf hI (lv_sub hl [0, 1, 2, 3, 4] rfl)
def f_L_law_2078 : gM Int32 :=
    (gRet (0 : Int32))
set_option maxHeartbeats 4000000 in
set_option maxRecDepth 100000 in
theorem b_L_law_2078 {G : gG} {l : Launch} {p : Program} {e : Env} {s : State} {m : MethodId} {args : Array Value} {below : List Frame} {meth : Method} {c : Code} {h0 : g_H} {r : Int32} {h' : g_H} (X : gX G l "GhostAssizeLaw" cL_law 7 (some .boolean) [] "law" p s m args meth c) (hRc : g_nx h' - g_nx h0 ≤ room_1.cells ∧ g_us h' - g_us h0 ≤ room_1.slots) (hq1 : r = 1) (hn9 : g_nx h' - g_nx h0 ≤ 603072 ∧ g_us h' - g_us h0 ≤ 7190634) (hbs : G.2.2.1.size = s.heap.size ∧ ∃ b9 : Nat, args = #[Value.ref b9]) : w_L_law_2078 G l p e s m args below meth c h0 r h' (f_L_law_2078) := by
  have hx := X.1
  have hb := X.2.1
  have hown := X.2.2.2.1
  have hts := X.2.2.2.2.1
  intro h H locs cells slots ls hf hI hl
  unfold f_L_law_2078 at hf
  refine lv_iconst (v := (0 : Int32)) hx hb dL_law_2078 (by decide) ?_
  cases gRet_e hf
  exact g_lawret X hRc hq1 hn9 hbs hI dL_law_2079
def f_L_law_2095 : gM Int32 :=
    (gRet (0 : Int32))
set_option maxHeartbeats 4000000 in
set_option maxRecDepth 100000 in
theorem b_L_law_2095 {G : gG} {l : Launch} {p : Program} {e : Env} {s : State} {m : MethodId} {args : Array Value} {below : List Frame} {meth : Method} {c : Code} {h0 : g_H} {r : Int32} {h' : g_H} (X : gX G l "GhostAssizeLaw" cL_law 7 (some .boolean) [] "law" p s m args meth c) (hRc : g_nx h' - g_nx h0 ≤ room_1.cells ∧ g_us h' - g_us h0 ≤ room_1.slots) (hq1 : r = 1) (hn9 : g_nx h' - g_nx h0 ≤ 603072 ∧ g_us h' - g_us h0 ≤ 7190634) (hbs : G.2.2.1.size = s.heap.size ∧ ∃ b9 : Nat, args = #[Value.ref b9]) : w_L_law_2095 G l p e s m args below meth c h0 r h' (f_L_law_2095) := by
  have hx := X.1
  have hb := X.2.1
  have hown := X.2.2.2.1
  have hts := X.2.2.2.2.1
  intro h H locs cells slots ls hf hI hl
  unfold f_L_law_2095 at hf
  refine lv_iconst (v := (0 : Int32)) hx hb dL_law_2095 (by decide) ?_
  cases gRet_e hf
  exact g_lawret X hRc hq1 hn9 hbs hI dL_law_2096
def f_L_law_2097 (k23 : Nat → Nat → Nat → Nat → Int32 → gM Int32) (a0 : Nat) (a1 : Nat) (a2 : Nat) (a3 : Nat) (x4 : Int32) : gM Int32 :=
    f_L_law_2492 k23 a0 a1 a2 a3 x4
set_option maxHeartbeats 4000000 in
set_option maxRecDepth 100000 in
theorem b_L_law_2097 {G : gG} {l : Launch} {p : Program} {e : Env} {s : State} {m : MethodId} {args : Array Value} {below : List Frame} {meth : Method} {c : Code} {h0 : g_H} {r : Int32} {h' : g_H} (X : gX G l "GhostAssizeLaw" cL_law 7 (some .boolean) [] "law" p s m args meth c) (hRc : g_nx h' - g_nx h0 ≤ room_1.cells ∧ g_us h' - g_us h0 ≤ room_1.slots) (hq1 : r = 1) (hn9 : g_nx h' - g_nx h0 ≤ 603072 ∧ g_us h' - g_us h0 ≤ 7190634) (hbs : G.2.2.1.size = s.heap.size ∧ ∃ b9 : Nat, args = #[Value.ref b9]) {k23 : Nat → Nat → Nat → Nat → Int32 → gM Int32} (K23 : w_L_law_23 G l p e s m args below meth c h0 r h' k23) : w_L_law_2097 G l p e s m args below meth c h0 r h' (f_L_law_2097 k23) := by
  have hx := X.1
  have hb := X.2.1
  have hown := X.2.2.2.1
  have hts := X.2.2.2.2.1
  intro a0 a1 a2 a3 x4 h H locs cells slots ls hf hI hl
  unfold f_L_law_2097 at hf
  refine lv_goto (tgt := 2492) hx hb dL_law_2097 (by decide) ?_
  exact b_L_law_2492 X hRc hq1 hn9 hbs K23 _ _ _ _ _ _ _ _ _ _ _ hf hI (lv_sub hl [0, 1, 2, 3, 4] rfl)
def f_L_law_2111 : gM Int32 :=
    (gRet (0 : Int32))
set_option maxHeartbeats 4000000 in
set_option maxRecDepth 100000 in
theorem b_L_law_2111 {G : gG} {l : Launch} {p : Program} {e : Env} {s : State} {m : MethodId} {args : Array Value} {below : List Frame} {meth : Method} {c : Code} {h0 : g_H} {r : Int32} {h' : g_H} (X : gX G l "GhostAssizeLaw" cL_law 7 (some .boolean) [] "law" p s m args meth c) (hRc : g_nx h' - g_nx h0 ≤ room_1.cells ∧ g_us h' - g_us h0 ≤ room_1.slots) (hq1 : r = 1) (hn9 : g_nx h' - g_nx h0 ≤ 603072 ∧ g_us h' - g_us h0 ≤ 7190634) (hbs : G.2.2.1.size = s.heap.size ∧ ∃ b9 : Nat, args = #[Value.ref b9]) : w_L_law_2111 G l p e s m args below meth c h0 r h' (f_L_law_2111) := by
  have hx := X.1
  have hb := X.2.1
  have hown := X.2.2.2.1
  have hts := X.2.2.2.2.1
  intro h H locs cells slots ls hf hI hl
  unfold f_L_law_2111 at hf
  refine lv_iconst (v := (0 : Int32)) hx hb dL_law_2111 (by decide) ?_
  cases gRet_e hf
  exact g_lawret X hRc hq1 hn9 hbs hI dL_law_2112
def f_L_law_2147 : gM Int32 :=
    (gRet (0 : Int32))
set_option maxHeartbeats 4000000 in
set_option maxRecDepth 100000 in
theorem b_L_law_2147 {G : gG} {l : Launch} {p : Program} {e : Env} {s : State} {m : MethodId} {args : Array Value} {below : List Frame} {meth : Method} {c : Code} {h0 : g_H} {r : Int32} {h' : g_H} (X : gX G l "GhostAssizeLaw" cL_law 7 (some .boolean) [] "law" p s m args meth c) (hRc : g_nx h' - g_nx h0 ≤ room_1.cells ∧ g_us h' - g_us h0 ≤ room_1.slots) (hq1 : r = 1) (hn9 : g_nx h' - g_nx h0 ≤ 603072 ∧ g_us h' - g_us h0 ≤ 7190634) (hbs : G.2.2.1.size = s.heap.size ∧ ∃ b9 : Nat, args = #[Value.ref b9]) : w_L_law_2147 G l p e s m args below meth c h0 r h' (f_L_law_2147) := by
  have hx := X.1
  have hb := X.2.1
  have hown := X.2.2.2.1
  have hts := X.2.2.2.2.1
  intro h H locs cells slots ls hf hI hl
  unfold f_L_law_2147 at hf
  refine lv_iconst (v := (0 : Int32)) hx hb dL_law_2147 (by decide) ?_
  cases gRet_e hf
  exact g_lawret X hRc hq1 hn9 hbs hI dL_law_2148
def f_L_law_2164 : gM Int32 :=
    (gRet (0 : Int32))
set_option maxHeartbeats 4000000 in
set_option maxRecDepth 100000 in
theorem b_L_law_2164 {G : gG} {l : Launch} {p : Program} {e : Env} {s : State} {m : MethodId} {args : Array Value} {below : List Frame} {meth : Method} {c : Code} {h0 : g_H} {r : Int32} {h' : g_H} (X : gX G l "GhostAssizeLaw" cL_law 7 (some .boolean) [] "law" p s m args meth c) (hRc : g_nx h' - g_nx h0 ≤ room_1.cells ∧ g_us h' - g_us h0 ≤ room_1.slots) (hq1 : r = 1) (hn9 : g_nx h' - g_nx h0 ≤ 603072 ∧ g_us h' - g_us h0 ≤ 7190634) (hbs : G.2.2.1.size = s.heap.size ∧ ∃ b9 : Nat, args = #[Value.ref b9]) : w_L_law_2164 G l p e s m args below meth c h0 r h' (f_L_law_2164) := by
  have hx := X.1
  have hb := X.2.1
  have hown := X.2.2.2.1
  have hts := X.2.2.2.2.1
  intro h H locs cells slots ls hf hI hl
  unfold f_L_law_2164 at hf
  refine lv_iconst (v := (0 : Int32)) hx hb dL_law_2164 (by decide) ?_
  cases gRet_e hf
  exact g_lawret X hRc hq1 hn9 hbs hI dL_law_2165
def f_L_law_2166 (k23 : Nat → Nat → Nat → Nat → Int32 → gM Int32) (a0 : Nat) (a1 : Nat) (a2 : Nat) (a3 : Nat) (x4 : Int32) : gM Int32 :=
    f_L_law_2492 k23 a0 a1 a2 a3 x4
set_option maxHeartbeats 4000000 in
set_option maxRecDepth 100000 in
theorem b_L_law_2166 {G : gG} {l : Launch} {p : Program} {e : Env} {s : State} {m : MethodId} {args : Array Value} {below : List Frame} {meth : Method} {c : Code} {h0 : g_H} {r : Int32} {h' : g_H} (X : gX G l "GhostAssizeLaw" cL_law 7 (some .boolean) [] "law" p s m args meth c) (hRc : g_nx h' - g_nx h0 ≤ room_1.cells ∧ g_us h' - g_us h0 ≤ room_1.slots) (hq1 : r = 1) (hn9 : g_nx h' - g_nx h0 ≤ 603072 ∧ g_us h' - g_us h0 ≤ 7190634) (hbs : G.2.2.1.size = s.heap.size ∧ ∃ b9 : Nat, args = #[Value.ref b9]) {k23 : Nat → Nat → Nat → Nat → Int32 → gM Int32} (K23 : w_L_law_23 G l p e s m args below meth c h0 r h' k23) : w_L_law_2166 G l p e s m args below meth c h0 r h' (f_L_law_2166 k23) := by
  have hx := X.1
  have hb := X.2.1
  have hown := X.2.2.2.1
  have hts := X.2.2.2.2.1
  intro a0 a1 a2 a3 x4 h H locs cells slots ls hf hI hl
  unfold f_L_law_2166 at hf
  refine lv_goto (tgt := 2492) hx hb dL_law_2166 (by decide) ?_
  exact b_L_law_2492 X hRc hq1 hn9 hbs K23 _ _ _ _ _ _ _ _ _ _ _ hf hI (lv_sub hl [0, 1, 2, 3, 4] rfl)
def f_L_law_2231 : gM Int32 :=
    (gRet (0 : Int32))
set_option maxHeartbeats 4000000 in
set_option maxRecDepth 100000 in
theorem b_L_law_2231 {G : gG} {l : Launch} {p : Program} {e : Env} {s : State} {m : MethodId} {args : Array Value} {below : List Frame} {meth : Method} {c : Code} {h0 : g_H} {r : Int32} {h' : g_H} (X : gX G l "GhostAssizeLaw" cL_law 7 (some .boolean) [] "law" p s m args meth c) (hRc : g_nx h' - g_nx h0 ≤ room_1.cells ∧ g_us h' - g_us h0 ≤ room_1.slots) (hq1 : r = 1) (hn9 : g_nx h' - g_nx h0 ≤ 603072 ∧ g_us h' - g_us h0 ≤ 7190634) (hbs : G.2.2.1.size = s.heap.size ∧ ∃ b9 : Nat, args = #[Value.ref b9]) : w_L_law_2231 G l p e s m args below meth c h0 r h' (f_L_law_2231) := by
  have hx := X.1
  have hb := X.2.1
  have hown := X.2.2.2.1
  have hts := X.2.2.2.2.1
  intro h H locs cells slots ls hf hI hl
  unfold f_L_law_2231 at hf
  refine lv_iconst (v := (0 : Int32)) hx hb dL_law_2231 (by decide) ?_
  cases gRet_e hf
  exact g_lawret X hRc hq1 hn9 hbs hI dL_law_2232
def f_L_law_2248 : gM Int32 :=
    (gRet (0 : Int32))
set_option maxHeartbeats 4000000 in
set_option maxRecDepth 100000 in
theorem b_L_law_2248 {G : gG} {l : Launch} {p : Program} {e : Env} {s : State} {m : MethodId} {args : Array Value} {below : List Frame} {meth : Method} {c : Code} {h0 : g_H} {r : Int32} {h' : g_H} (X : gX G l "GhostAssizeLaw" cL_law 7 (some .boolean) [] "law" p s m args meth c) (hRc : g_nx h' - g_nx h0 ≤ room_1.cells ∧ g_us h' - g_us h0 ≤ room_1.slots) (hq1 : r = 1) (hn9 : g_nx h' - g_nx h0 ≤ 603072 ∧ g_us h' - g_us h0 ≤ 7190634) (hbs : G.2.2.1.size = s.heap.size ∧ ∃ b9 : Nat, args = #[Value.ref b9]) : w_L_law_2248 G l p e s m args below meth c h0 r h' (f_L_law_2248) := by
  have hx := X.1
  have hb := X.2.1
  have hown := X.2.2.2.1
  have hts := X.2.2.2.2.1
  intro h H locs cells slots ls hf hI hl
  unfold f_L_law_2248 at hf
  refine lv_iconst (v := (0 : Int32)) hx hb dL_law_2248 (by decide) ?_
  cases gRet_e hf
  exact g_lawret X hRc hq1 hn9 hbs hI dL_law_2249
def f_L_law_2250 (k23 : Nat → Nat → Nat → Nat → Int32 → gM Int32) (a0 : Nat) (a1 : Nat) (a2 : Nat) (a3 : Nat) (x4 : Int32) : gM Int32 :=
    f_L_law_2492 k23 a0 a1 a2 a3 x4
set_option maxHeartbeats 4000000 in
set_option maxRecDepth 100000 in
theorem b_L_law_2250 {G : gG} {l : Launch} {p : Program} {e : Env} {s : State} {m : MethodId} {args : Array Value} {below : List Frame} {meth : Method} {c : Code} {h0 : g_H} {r : Int32} {h' : g_H} (X : gX G l "GhostAssizeLaw" cL_law 7 (some .boolean) [] "law" p s m args meth c) (hRc : g_nx h' - g_nx h0 ≤ room_1.cells ∧ g_us h' - g_us h0 ≤ room_1.slots) (hq1 : r = 1) (hn9 : g_nx h' - g_nx h0 ≤ 603072 ∧ g_us h' - g_us h0 ≤ 7190634) (hbs : G.2.2.1.size = s.heap.size ∧ ∃ b9 : Nat, args = #[Value.ref b9]) {k23 : Nat → Nat → Nat → Nat → Int32 → gM Int32} (K23 : w_L_law_23 G l p e s m args below meth c h0 r h' k23) : w_L_law_2250 G l p e s m args below meth c h0 r h' (f_L_law_2250 k23) := by
  have hx := X.1
  have hb := X.2.1
  have hown := X.2.2.2.1
  have hts := X.2.2.2.2.1
  intro a0 a1 a2 a3 x4 h H locs cells slots ls hf hI hl
  unfold f_L_law_2250 at hf
  refine lv_goto (tgt := 2492) hx hb dL_law_2250 (by decide) ?_
  exact b_L_law_2492 X hRc hq1 hn9 hbs K23 _ _ _ _ _ _ _ _ _ _ _ hf hI (lv_sub hl [0, 1, 2, 3, 4] rfl)
def f_L_law_2217 (k23 : Nat → Nat → Nat → Nat → Int32 → gM Int32) (a0 : Nat) (a1 : Nat) (a2 : Nat) (a3 : Nat) (x4 : Int32) (x5 : Int32) (b0 : Nat) (u1 : Int32) (u2 : Int32) : gM Int32 :=
    gB (gCk b0 7) fun _ =>
    gB (f_X8_span b0 u1 u2) fun r101 =>
    gB (gCk a2 7) fun _ =>
    gB (f_X8_thrown a2) fun r102 =>
    gIf (r102 = x5)
    (gIf (x5 = 0)
    (gB (gAI a3 2 (0 : Int32)) fun v103 =>
    gIf ((lg_cmp v103.toInt64 (r101).toInt64) = 0)
    (f_L_law_2250 k23 a0 a1 a2 a3 x4)
    (f_L_law_2248))
    (f_L_law_2250 k23 a0 a1 a2 a3 x4))
    (f_L_law_2231)
set_option maxHeartbeats 4000000 in
set_option maxRecDepth 100000 in
theorem b_L_law_2217 {G : gG} {l : Launch} {p : Program} {e : Env} {s : State} {m : MethodId} {args : Array Value} {below : List Frame} {meth : Method} {c : Code} {h0 : g_H} {r : Int32} {h' : g_H} (X : gX G l "GhostAssizeLaw" cL_law 7 (some .boolean) [] "law" p s m args meth c) (hRc : g_nx h' - g_nx h0 ≤ room_1.cells ∧ g_us h' - g_us h0 ≤ room_1.slots) (hq1 : r = 1) (hn9 : g_nx h' - g_nx h0 ≤ 603072 ∧ g_us h' - g_us h0 ≤ 7190634) (hbs : G.2.2.1.size = s.heap.size ∧ ∃ b9 : Nat, args = #[Value.ref b9]) {k23 : Nat → Nat → Nat → Nat → Int32 → gM Int32} (K23 : w_L_law_23 G l p e s m args below meth c h0 r h' k23) : w_L_law_2217 G l p e s m args below meth c h0 r h' (f_L_law_2217 k23) := by
  have hx := X.1
  have hb := X.2.1
  have hown := X.2.2.2.1
  have hts := X.2.2.2.2.1
  intro a0 a1 a2 a3 x4 x5 b0 u1 u2 h H locs cells slots ls hf hI hl
  unfold f_L_law_2217 at hf
  obtain ⟨hs, hf⟩ := gCk_b hf
  refine g_cBI hI hf (fun v9 h9 e9 l9 l9' => g_rV X hI l9 l9' hRc (As := [.int u1, .int u2]) (m_X8_span X.2.2.2.2.2.2.2.2.2.2.1 e9) ydX8_span hs rfl rfl q2069 q2070 q2071 q131 q2072 rfl (Nat.le_of_ble_eq_true rfl) (Nat.le_of_ble_eq_true rfl) hl.1 rfl (Nat.le_of_ble_eq_true rfl) dL_law_2217) (fun r101 h H locs cells slots hf hI => ?_)
  refine lv_istore (lv' := [(6, .int r101), (0, .ref a0), (1, .ref a1), (2, .ref a2), (3, .ref a3), (4, .int x4), (5, .int x5)]) hx hb dL_law_2220 hl (by decide) rfl (fun ls hl => ?_)
  refine lv_aload_n hx hb dL_law_2222 rfl (lv_at hl 3 rfl) ?_
  obtain ⟨hs, hf⟩ := gCk_b hf
  refine g_cBI hI hf (fun v9 h9 e9 l9 l9' => g_rV X hI l9 l9' hRc (As := []) (m_X8_thrown X.2.2.2.2.2.2.2.2.2.2.1 e9) ydX8_thrown hs rfl rfl q1434 q1435 q1436 q131 q1437 rfl (Nat.le_of_ble_eq_true rfl) (Nat.le_of_ble_eq_true rfl) hl.1 rfl (Nat.le_of_ble_eq_true rfl) dL_law_2223) (fun r102 h H locs cells slots hf hI => ?_)
  refine lv_iload hx hb dL_law_2226 (lv_at hl 6 rfl) ?_
  refine lv_icmp_eq (tgt := 2233) hx hb dL_law_2228 (by decide) (fun c2228 => ?_) (fun c2228 => ?_)
  · have hf := g_t c2228 hf
    refine lv_iload hx hb dL_law_2233 (lv_at hl 6 rfl) ?_
    refine lv_if_ne (tgt := 2250) hx hb dL_law_2235 (by decide) (fun c2235 => ?_) (fun c2235 => ?_)
    · have hf := g_f c2235 hf
      exact b_L_law_2250 X hRc hq1 hn9 hbs K23 _ _ _ _ _ _ _ _ _ _ _ hf hI (lv_sub hl [1, 2, 3, 4, 5] rfl)
    · have hf := g_t c2235 hf
      refine lv_aload_n hx hb dL_law_2238 rfl (lv_at hl 4 rfl) ?_
      refine lv_iconst (v := (0 : Int32)) hx hb dL_law_2239 (by decide) ?_
      refine g_ai2 X hI hf dL_law_2240 (fun v103 hf => ?_)
      refine lv_iload hx hb dL_law_2241 (lv_at hl 0 rfl) ?_
      refine lv_i2l hx hb dL_law_2243 rfl ?_
      refine W.lcmp hx hb dL_law_2244 ?_
      refine lv_if_eq (tgt := 2250) hx hb dL_law_2245 (by decide) (fun c2245 => ?_) (fun c2245 => ?_)
      · have hf := g_t c2245 hf
        exact b_L_law_2250 X hRc hq1 hn9 hbs K23 _ _ _ _ _ _ _ _ _ _ _ hf hI (lv_sub hl [1, 2, 3, 4, 5] rfl)
      · have hf := g_f c2245 hf
        exact b_L_law_2248 X hRc hq1 hn9 hbs _ _ _ _ _ _ hf hI (lv_sub hl [] rfl)
  · have hf := g_f c2228 hf
    exact b_L_law_2231 X hRc hq1 hn9 hbs _ _ _ _ _ _ hf hI (lv_sub hl [] rfl)
def f_L_law_2190 (k23 : Nat → Nat → Nat → Nat → Int32 → gM Int32) (a0 : Nat) (a1 : Nat) (a2 : Nat) (a3 : Nat) (x4 : Int32) (b0 : Nat) (u1 : Int32) (u2 : Int32) : gM Int32 :=
    gB (f_X0_span b0 u1 u2 a3) fun r101 =>
    gB (gAI a0 9 (x4 + (1 : Int32))) fun v102 =>
    gB (gAI a0 9 (x4 + (2 : Int32))) fun v103 =>
    gIf (v103 = 0)
    (f_L_law_2217 k23 a0 a1 a2 a3 x4 r101 a2 v102 (0 : Int32))
    (f_L_law_2217 k23 a0 a1 a2 a3 x4 r101 a2 v102 (1 : Int32))
set_option maxHeartbeats 4000000 in
set_option maxRecDepth 100000 in
theorem b_L_law_2190 {G : gG} {l : Launch} {p : Program} {e : Env} {s : State} {m : MethodId} {args : Array Value} {below : List Frame} {meth : Method} {c : Code} {h0 : g_H} {r : Int32} {h' : g_H} (X : gX G l "GhostAssizeLaw" cL_law 7 (some .boolean) [] "law" p s m args meth c) (hRc : g_nx h' - g_nx h0 ≤ room_1.cells ∧ g_us h' - g_us h0 ≤ room_1.slots) (hq1 : r = 1) (hn9 : g_nx h' - g_nx h0 ≤ 603072 ∧ g_us h' - g_us h0 ≤ 7190634) (hbs : G.2.2.1.size = s.heap.size ∧ ∃ b9 : Nat, args = #[Value.ref b9]) {k23 : Nat → Nat → Nat → Nat → Int32 → gM Int32} (K23 : w_L_law_23 G l p e s m args below meth c h0 r h' k23) : w_L_law_2190 G l p e s m args below meth c h0 r h' (f_L_law_2190 k23) := by
  have hx := X.1
  have hb := X.2.1
  have hown := X.2.2.2.1
  have hts := X.2.2.2.2.1
  intro a0 a1 a2 a3 x4 b0 u1 u2 h H locs cells slots ls hf hI hl
  unfold f_L_law_2190 at hf
  refine lv_aload_n hx hb dL_law_2190 rfl (lv_at hl 3 rfl) ?_
  refine g_cBI hI hf (fun v9 h9 e9 l9 l9' => g_rSX (b := 0) X hI l9 l9' hRc (As := [.ref b0, .int u1, .int u2, .ref a3]) (m_X0_span X.2.2.2.2.2.2.2.2.2.2.1 e9) ydX0_span q1400 q1401 q120 q1402 rfl (Nat.le_of_ble_eq_true rfl) (Nat.le_of_ble_eq_true rfl) hl.1 rfl (Nat.le_of_ble_eq_true rfl) dL_law_2191) (fun r101 h H locs cells slots hf hI => ?_)
  refine lv_istore (lv' := [(5, .int r101), (0, .ref a0), (1, .ref a1), (2, .ref a2), (3, .ref a3), (4, .int x4)]) hx hb dL_law_2194 hl (by decide) rfl (fun ls hl => ?_)
  refine lv_aload_n hx hb dL_law_2196 rfl (lv_at hl 3 rfl) ?_
  refine lv_aload_n hx hb dL_law_2197 rfl (lv_at hl 1 rfl) ?_
  refine lv_iload hx hb dL_law_2198 (lv_at hl 5 rfl) ?_
  refine lv_iconst (v := (1 : Int32)) hx hb dL_law_2200 (by decide) ?_
  refine lv_iadd hx hb dL_law_2201 ?_
  refine g_aiO9 X hI hf dL_law_2202 (fun v102 hf => ?_)
  refine lv_aload_n hx hb dL_law_2203 rfl (lv_at hl 1 rfl) ?_
  refine lv_iload hx hb dL_law_2204 (lv_at hl 5 rfl) ?_
  refine lv_iconst (v := (2 : Int32)) hx hb dL_law_2206 (by decide) ?_
  refine lv_iadd hx hb dL_law_2207 ?_
  refine g_aiO9 X hI hf dL_law_2208 (fun v103 hf => ?_)
  refine lv_if_eq (tgt := 2216) hx hb dL_law_2209 (by decide) (fun c2209 => ?_) (fun c2209 => ?_)
  · have hf := g_t c2209 hf
    refine lv_iconst (v := (0 : Int32)) hx hb dL_law_2216 (by decide) ?_
    exact b_L_law_2217 X hRc hq1 hn9 hbs K23 _ _ _ _ _ _ _ _ _ _ _ _ _ _ _ hf hI (lv_sub hl [1, 2, 3, 4, 5, 0] rfl)
  · have hf := g_f c2209 hf
    refine lv_iconst (v := (1 : Int32)) hx hb dL_law_2212 (by decide) ?_
    refine lv_goto (tgt := 2217) hx hb dL_law_2213 (by decide) ?_
    exact b_L_law_2217 X hRc hq1 hn9 hbs K23 _ _ _ _ _ _ _ _ _ _ _ _ _ _ _ hf hI (lv_sub hl [1, 2, 3, 4, 5, 0] rfl)
def f_L_law_2315 : gM Int32 :=
    (gRet (0 : Int32))
set_option maxHeartbeats 4000000 in
set_option maxRecDepth 100000 in
theorem b_L_law_2315 {G : gG} {l : Launch} {p : Program} {e : Env} {s : State} {m : MethodId} {args : Array Value} {below : List Frame} {meth : Method} {c : Code} {h0 : g_H} {r : Int32} {h' : g_H} (X : gX G l "GhostAssizeLaw" cL_law 7 (some .boolean) [] "law" p s m args meth c) (hRc : g_nx h' - g_nx h0 ≤ room_1.cells ∧ g_us h' - g_us h0 ≤ room_1.slots) (hq1 : r = 1) (hn9 : g_nx h' - g_nx h0 ≤ 603072 ∧ g_us h' - g_us h0 ≤ 7190634) (hbs : G.2.2.1.size = s.heap.size ∧ ∃ b9 : Nat, args = #[Value.ref b9]) : w_L_law_2315 G l p e s m args below meth c h0 r h' (f_L_law_2315) := by
  have hx := X.1
  have hb := X.2.1
  have hown := X.2.2.2.1
  have hts := X.2.2.2.2.1
  intro h H locs cells slots ls hf hI hl
  unfold f_L_law_2315 at hf
  refine lv_iconst (v := (0 : Int32)) hx hb dL_law_2315 (by decide) ?_
  cases gRet_e hf
  exact g_lawret X hRc hq1 hn9 hbs hI dL_law_2316
def f_L_law_2332 : gM Int32 :=
    (gRet (0 : Int32))
set_option maxHeartbeats 4000000 in
set_option maxRecDepth 100000 in
theorem b_L_law_2332 {G : gG} {l : Launch} {p : Program} {e : Env} {s : State} {m : MethodId} {args : Array Value} {below : List Frame} {meth : Method} {c : Code} {h0 : g_H} {r : Int32} {h' : g_H} (X : gX G l "GhostAssizeLaw" cL_law 7 (some .boolean) [] "law" p s m args meth c) (hRc : g_nx h' - g_nx h0 ≤ room_1.cells ∧ g_us h' - g_us h0 ≤ room_1.slots) (hq1 : r = 1) (hn9 : g_nx h' - g_nx h0 ≤ 603072 ∧ g_us h' - g_us h0 ≤ 7190634) (hbs : G.2.2.1.size = s.heap.size ∧ ∃ b9 : Nat, args = #[Value.ref b9]) : w_L_law_2332 G l p e s m args below meth c h0 r h' (f_L_law_2332) := by
  have hx := X.1
  have hb := X.2.1
  have hown := X.2.2.2.1
  have hts := X.2.2.2.2.1
  intro h H locs cells slots ls hf hI hl
  unfold f_L_law_2332 at hf
  refine lv_iconst (v := (0 : Int32)) hx hb dL_law_2332 (by decide) ?_
  cases gRet_e hf
  exact g_lawret X hRc hq1 hn9 hbs hI dL_law_2333
def f_L_law_2334 (k23 : Nat → Nat → Nat → Nat → Int32 → gM Int32) (a0 : Nat) (a1 : Nat) (a2 : Nat) (a3 : Nat) (x4 : Int32) : gM Int32 :=
    f_L_law_2492 k23 a0 a1 a2 a3 x4
set_option maxHeartbeats 4000000 in
set_option maxRecDepth 100000 in
theorem b_L_law_2334 {G : gG} {l : Launch} {p : Program} {e : Env} {s : State} {m : MethodId} {args : Array Value} {below : List Frame} {meth : Method} {c : Code} {h0 : g_H} {r : Int32} {h' : g_H} (X : gX G l "GhostAssizeLaw" cL_law 7 (some .boolean) [] "law" p s m args meth c) (hRc : g_nx h' - g_nx h0 ≤ room_1.cells ∧ g_us h' - g_us h0 ≤ room_1.slots) (hq1 : r = 1) (hn9 : g_nx h' - g_nx h0 ≤ 603072 ∧ g_us h' - g_us h0 ≤ 7190634) (hbs : G.2.2.1.size = s.heap.size ∧ ∃ b9 : Nat, args = #[Value.ref b9]) {k23 : Nat → Nat → Nat → Nat → Int32 → gM Int32} (K23 : w_L_law_23 G l p e s m args below meth c h0 r h' k23) : w_L_law_2334 G l p e s m args below meth c h0 r h' (f_L_law_2334 k23) := by
  have hx := X.1
  have hb := X.2.1
  have hown := X.2.2.2.1
  have hts := X.2.2.2.2.1
  intro a0 a1 a2 a3 x4 h H locs cells slots ls hf hI hl
  unfold f_L_law_2334 at hf
  refine lv_goto (tgt := 2492) hx hb dL_law_2334 (by decide) ?_
  exact b_L_law_2492 X hRc hq1 hn9 hbs K23 _ _ _ _ _ _ _ _ _ _ _ hf hI (lv_sub hl [0, 1, 2, 3, 4] rfl)
def f_L_law_2301 (k23 : Nat → Nat → Nat → Nat → Int32 → gM Int32) (a0 : Nat) (a1 : Nat) (a2 : Nat) (a3 : Nat) (x4 : Int32) (x5 : Int32) (b0 : Nat) (u1 : Int32) (u2 : Int32) : gM Int32 :=
    gB (gCk b0 7) fun _ =>
    gB (f_X8_led b0 u1 u2) fun r101 =>
    gB (gCk a2 7) fun _ =>
    gB (f_X8_thrown a2) fun r102 =>
    gIf (r102 = x5)
    (gIf (x5 = 0)
    (gB (gAI a3 2 (0 : Int32)) fun v103 =>
    gIf ((lg_cmp v103.toInt64 (r101).toInt64) = 0)
    (f_L_law_2334 k23 a0 a1 a2 a3 x4)
    (f_L_law_2332))
    (f_L_law_2334 k23 a0 a1 a2 a3 x4))
    (f_L_law_2315)
set_option maxHeartbeats 4000000 in
set_option maxRecDepth 100000 in
theorem b_L_law_2301 {G : gG} {l : Launch} {p : Program} {e : Env} {s : State} {m : MethodId} {args : Array Value} {below : List Frame} {meth : Method} {c : Code} {h0 : g_H} {r : Int32} {h' : g_H} (X : gX G l "GhostAssizeLaw" cL_law 7 (some .boolean) [] "law" p s m args meth c) (hRc : g_nx h' - g_nx h0 ≤ room_1.cells ∧ g_us h' - g_us h0 ≤ room_1.slots) (hq1 : r = 1) (hn9 : g_nx h' - g_nx h0 ≤ 603072 ∧ g_us h' - g_us h0 ≤ 7190634) (hbs : G.2.2.1.size = s.heap.size ∧ ∃ b9 : Nat, args = #[Value.ref b9]) {k23 : Nat → Nat → Nat → Nat → Int32 → gM Int32} (K23 : w_L_law_23 G l p e s m args below meth c h0 r h' k23) : w_L_law_2301 G l p e s m args below meth c h0 r h' (f_L_law_2301 k23) := by
  have hx := X.1
  have hb := X.2.1
  have hown := X.2.2.2.1
  have hts := X.2.2.2.2.1
  intro a0 a1 a2 a3 x4 x5 b0 u1 u2 h H locs cells slots ls hf hI hl
  unfold f_L_law_2301 at hf
  obtain ⟨hs, hf⟩ := gCk_b hf
  refine g_cBI hI hf (fun v9 h9 e9 l9 l9' => g_rV X hI l9 l9' hRc (As := [.int u1, .int u2]) (m_X8_led X.2.2.2.2.2.2.2.2.2.2.1 e9) ydX8_led hs rfl rfl q2073 q2074 q2075 q131 q2076 rfl (Nat.le_of_ble_eq_true rfl) (Nat.le_of_ble_eq_true rfl) hl.1 rfl (Nat.le_of_ble_eq_true rfl) dL_law_2301) (fun r101 h H locs cells slots hf hI => ?_)
  refine lv_istore (lv' := [(6, .int r101), (0, .ref a0), (1, .ref a1), (2, .ref a2), (3, .ref a3), (4, .int x4), (5, .int x5)]) hx hb dL_law_2304 hl (by decide) rfl (fun ls hl => ?_)
  refine lv_aload_n hx hb dL_law_2306 rfl (lv_at hl 3 rfl) ?_
  obtain ⟨hs, hf⟩ := gCk_b hf
  refine g_cBI hI hf (fun v9 h9 e9 l9 l9' => g_rV X hI l9 l9' hRc (As := []) (m_X8_thrown X.2.2.2.2.2.2.2.2.2.2.1 e9) ydX8_thrown hs rfl rfl q1434 q1435 q1436 q131 q1437 rfl (Nat.le_of_ble_eq_true rfl) (Nat.le_of_ble_eq_true rfl) hl.1 rfl (Nat.le_of_ble_eq_true rfl) dL_law_2307) (fun r102 h H locs cells slots hf hI => ?_)
  refine lv_iload hx hb dL_law_2310 (lv_at hl 6 rfl) ?_
  refine lv_icmp_eq (tgt := 2317) hx hb dL_law_2312 (by decide) (fun c2312 => ?_) (fun c2312 => ?_)
  · have hf := g_t c2312 hf
    refine lv_iload hx hb dL_law_2317 (lv_at hl 6 rfl) ?_
    refine lv_if_ne (tgt := 2334) hx hb dL_law_2319 (by decide) (fun c2319 => ?_) (fun c2319 => ?_)
    · have hf := g_f c2319 hf
      exact b_L_law_2334 X hRc hq1 hn9 hbs K23 _ _ _ _ _ _ _ _ _ _ _ hf hI (lv_sub hl [1, 2, 3, 4, 5] rfl)
    · have hf := g_t c2319 hf
      refine lv_aload_n hx hb dL_law_2322 rfl (lv_at hl 4 rfl) ?_
      refine lv_iconst (v := (0 : Int32)) hx hb dL_law_2323 (by decide) ?_
      refine g_ai2 X hI hf dL_law_2324 (fun v103 hf => ?_)
      refine lv_iload hx hb dL_law_2325 (lv_at hl 0 rfl) ?_
      refine lv_i2l hx hb dL_law_2327 rfl ?_
      refine W.lcmp hx hb dL_law_2328 ?_
      refine lv_if_eq (tgt := 2334) hx hb dL_law_2329 (by decide) (fun c2329 => ?_) (fun c2329 => ?_)
      · have hf := g_t c2329 hf
        exact b_L_law_2334 X hRc hq1 hn9 hbs K23 _ _ _ _ _ _ _ _ _ _ _ hf hI (lv_sub hl [1, 2, 3, 4, 5] rfl)
      · have hf := g_f c2329 hf
        exact b_L_law_2332 X hRc hq1 hn9 hbs _ _ _ _ _ _ hf hI (lv_sub hl [] rfl)
  · have hf := g_f c2312 hf
    exact b_L_law_2315 X hRc hq1 hn9 hbs _ _ _ _ _ _ hf hI (lv_sub hl [] rfl)
def f_L_law_2274 (k23 : Nat → Nat → Nat → Nat → Int32 → gM Int32) (a0 : Nat) (a1 : Nat) (a2 : Nat) (a3 : Nat) (x4 : Int32) (b0 : Nat) (u1 : Int32) (u2 : Int32) : gM Int32 :=
    gB (f_X0_led b0 u1 u2 a3) fun r101 =>
    gB (gAI a0 9 (x4 + (1 : Int32))) fun v102 =>
    gB (gAI a0 9 (x4 + (2 : Int32))) fun v103 =>
    gIf (v103 = 0)
    (f_L_law_2301 k23 a0 a1 a2 a3 x4 r101 a2 v102 (0 : Int32))
    (f_L_law_2301 k23 a0 a1 a2 a3 x4 r101 a2 v102 (1 : Int32))
set_option maxHeartbeats 4000000 in
set_option maxRecDepth 100000 in
theorem b_L_law_2274 {G : gG} {l : Launch} {p : Program} {e : Env} {s : State} {m : MethodId} {args : Array Value} {below : List Frame} {meth : Method} {c : Code} {h0 : g_H} {r : Int32} {h' : g_H} (X : gX G l "GhostAssizeLaw" cL_law 7 (some .boolean) [] "law" p s m args meth c) (hRc : g_nx h' - g_nx h0 ≤ room_1.cells ∧ g_us h' - g_us h0 ≤ room_1.slots) (hq1 : r = 1) (hn9 : g_nx h' - g_nx h0 ≤ 603072 ∧ g_us h' - g_us h0 ≤ 7190634) (hbs : G.2.2.1.size = s.heap.size ∧ ∃ b9 : Nat, args = #[Value.ref b9]) {k23 : Nat → Nat → Nat → Nat → Int32 → gM Int32} (K23 : w_L_law_23 G l p e s m args below meth c h0 r h' k23) : w_L_law_2274 G l p e s m args below meth c h0 r h' (f_L_law_2274 k23) := by
  have hx := X.1
  have hb := X.2.1
  have hown := X.2.2.2.1
  have hts := X.2.2.2.2.1
  intro a0 a1 a2 a3 x4 b0 u1 u2 h H locs cells slots ls hf hI hl
  unfold f_L_law_2274 at hf
  refine lv_aload_n hx hb dL_law_2274 rfl (lv_at hl 3 rfl) ?_
  refine g_cBI hI hf (fun v9 h9 e9 l9 l9' => g_rSX (b := 0) X hI l9 l9' hRc (As := [.ref b0, .int u1, .int u2, .ref a3]) (m_X0_led X.2.2.2.2.2.2.2.2.2.2.1 e9) ydX0_led q1407 q1408 q120 q1409 rfl (Nat.le_of_ble_eq_true rfl) (Nat.le_of_ble_eq_true rfl) hl.1 rfl (Nat.le_of_ble_eq_true rfl) dL_law_2275) (fun r101 h H locs cells slots hf hI => ?_)
  refine lv_istore (lv' := [(5, .int r101), (0, .ref a0), (1, .ref a1), (2, .ref a2), (3, .ref a3), (4, .int x4)]) hx hb dL_law_2278 hl (by decide) rfl (fun ls hl => ?_)
  refine lv_aload_n hx hb dL_law_2280 rfl (lv_at hl 3 rfl) ?_
  refine lv_aload_n hx hb dL_law_2281 rfl (lv_at hl 1 rfl) ?_
  refine lv_iload hx hb dL_law_2282 (lv_at hl 5 rfl) ?_
  refine lv_iconst (v := (1 : Int32)) hx hb dL_law_2284 (by decide) ?_
  refine lv_iadd hx hb dL_law_2285 ?_
  refine g_aiO9 X hI hf dL_law_2286 (fun v102 hf => ?_)
  refine lv_aload_n hx hb dL_law_2287 rfl (lv_at hl 1 rfl) ?_
  refine lv_iload hx hb dL_law_2288 (lv_at hl 5 rfl) ?_
  refine lv_iconst (v := (2 : Int32)) hx hb dL_law_2290 (by decide) ?_
  refine lv_iadd hx hb dL_law_2291 ?_
  refine g_aiO9 X hI hf dL_law_2292 (fun v103 hf => ?_)
  refine lv_if_eq (tgt := 2300) hx hb dL_law_2293 (by decide) (fun c2293 => ?_) (fun c2293 => ?_)
  · have hf := g_t c2293 hf
    refine lv_iconst (v := (0 : Int32)) hx hb dL_law_2300 (by decide) ?_
    exact b_L_law_2301 X hRc hq1 hn9 hbs K23 _ _ _ _ _ _ _ _ _ _ _ _ _ _ _ hf hI (lv_sub hl [1, 2, 3, 4, 5, 0] rfl)
  · have hf := g_f c2293 hf
    refine lv_iconst (v := (1 : Int32)) hx hb dL_law_2296 (by decide) ?_
    refine lv_goto (tgt := 2301) hx hb dL_law_2297 (by decide) ?_
    exact b_L_law_2301 X hRc hq1 hn9 hbs K23 _ _ _ _ _ _ _ _ _ _ _ _ _ _ _ hf hI (lv_sub hl [1, 2, 3, 4, 5, 0] rfl)
def f_L_law_2383 : gM Int32 :=
    (gRet (0 : Int32))
set_option maxHeartbeats 4000000 in
set_option maxRecDepth 100000 in
theorem b_L_law_2383 {G : gG} {l : Launch} {p : Program} {e : Env} {s : State} {m : MethodId} {args : Array Value} {below : List Frame} {meth : Method} {c : Code} {h0 : g_H} {r : Int32} {h' : g_H} (X : gX G l "GhostAssizeLaw" cL_law 7 (some .boolean) [] "law" p s m args meth c) (hRc : g_nx h' - g_nx h0 ≤ room_1.cells ∧ g_us h' - g_us h0 ≤ room_1.slots) (hq1 : r = 1) (hn9 : g_nx h' - g_nx h0 ≤ 603072 ∧ g_us h' - g_us h0 ≤ 7190634) (hbs : G.2.2.1.size = s.heap.size ∧ ∃ b9 : Nat, args = #[Value.ref b9]) : w_L_law_2383 G l p e s m args below meth c h0 r h' (f_L_law_2383) := by
  have hx := X.1
  have hb := X.2.1
  have hown := X.2.2.2.1
  have hts := X.2.2.2.2.1
  intro h H locs cells slots ls hf hI hl
  unfold f_L_law_2383 at hf
  refine lv_iconst (v := (0 : Int32)) hx hb dL_law_2383 (by decide) ?_
  cases gRet_e hf
  exact g_lawret X hRc hq1 hn9 hbs hI dL_law_2384
def f_L_law_2400 : gM Int32 :=
    (gRet (0 : Int32))
set_option maxHeartbeats 4000000 in
set_option maxRecDepth 100000 in
theorem b_L_law_2400 {G : gG} {l : Launch} {p : Program} {e : Env} {s : State} {m : MethodId} {args : Array Value} {below : List Frame} {meth : Method} {c : Code} {h0 : g_H} {r : Int32} {h' : g_H} (X : gX G l "GhostAssizeLaw" cL_law 7 (some .boolean) [] "law" p s m args meth c) (hRc : g_nx h' - g_nx h0 ≤ room_1.cells ∧ g_us h' - g_us h0 ≤ room_1.slots) (hq1 : r = 1) (hn9 : g_nx h' - g_nx h0 ≤ 603072 ∧ g_us h' - g_us h0 ≤ 7190634) (hbs : G.2.2.1.size = s.heap.size ∧ ∃ b9 : Nat, args = #[Value.ref b9]) : w_L_law_2400 G l p e s m args below meth c h0 r h' (f_L_law_2400) := by
  have hx := X.1
  have hb := X.2.1
  have hown := X.2.2.2.1
  have hts := X.2.2.2.2.1
  intro h H locs cells slots ls hf hI hl
  unfold f_L_law_2400 at hf
  refine lv_iconst (v := (0 : Int32)) hx hb dL_law_2400 (by decide) ?_
  cases gRet_e hf
  exact g_lawret X hRc hq1 hn9 hbs hI dL_law_2401
def f_L_law_2402 (k23 : Nat → Nat → Nat → Nat → Int32 → gM Int32) (a0 : Nat) (a1 : Nat) (a2 : Nat) (a3 : Nat) (x4 : Int32) : gM Int32 :=
    f_L_law_2492 k23 a0 a1 a2 a3 x4
set_option maxHeartbeats 4000000 in
set_option maxRecDepth 100000 in
theorem b_L_law_2402 {G : gG} {l : Launch} {p : Program} {e : Env} {s : State} {m : MethodId} {args : Array Value} {below : List Frame} {meth : Method} {c : Code} {h0 : g_H} {r : Int32} {h' : g_H} (X : gX G l "GhostAssizeLaw" cL_law 7 (some .boolean) [] "law" p s m args meth c) (hRc : g_nx h' - g_nx h0 ≤ room_1.cells ∧ g_us h' - g_us h0 ≤ room_1.slots) (hq1 : r = 1) (hn9 : g_nx h' - g_nx h0 ≤ 603072 ∧ g_us h' - g_us h0 ≤ 7190634) (hbs : G.2.2.1.size = s.heap.size ∧ ∃ b9 : Nat, args = #[Value.ref b9]) {k23 : Nat → Nat → Nat → Nat → Int32 → gM Int32} (K23 : w_L_law_23 G l p e s m args below meth c h0 r h' k23) : w_L_law_2402 G l p e s m args below meth c h0 r h' (f_L_law_2402 k23) := by
  have hx := X.1
  have hb := X.2.1
  have hown := X.2.2.2.1
  have hts := X.2.2.2.2.1
  intro a0 a1 a2 a3 x4 h H locs cells slots ls hf hI hl
  unfold f_L_law_2402 at hf
  refine lv_goto (tgt := 2492) hx hb dL_law_2402 (by decide) ?_
  exact b_L_law_2492 X hRc hq1 hn9 hbs K23 _ _ _ _ _ _ _ _ _ _ _ hf hI (lv_sub hl [0, 1, 2, 3, 4] rfl)
def f_L_law_2428 : gM Int32 :=
    (gRet (0 : Int32))
set_option maxHeartbeats 4000000 in
set_option maxRecDepth 100000 in
theorem b_L_law_2428 {G : gG} {l : Launch} {p : Program} {e : Env} {s : State} {m : MethodId} {args : Array Value} {below : List Frame} {meth : Method} {c : Code} {h0 : g_H} {r : Int32} {h' : g_H} (X : gX G l "GhostAssizeLaw" cL_law 7 (some .boolean) [] "law" p s m args meth c) (hRc : g_nx h' - g_nx h0 ≤ room_1.cells ∧ g_us h' - g_us h0 ≤ room_1.slots) (hq1 : r = 1) (hn9 : g_nx h' - g_nx h0 ≤ 603072 ∧ g_us h' - g_us h0 ≤ 7190634) (hbs : G.2.2.1.size = s.heap.size ∧ ∃ b9 : Nat, args = #[Value.ref b9]) : w_L_law_2428 G l p e s m args below meth c h0 r h' (f_L_law_2428) := by
  have hx := X.1
  have hb := X.2.1
  have hown := X.2.2.2.1
  have hts := X.2.2.2.2.1
  intro h H locs cells slots ls hf hI hl
  unfold f_L_law_2428 at hf
  refine lv_iconst (v := (0 : Int32)) hx hb dL_law_2428 (by decide) ?_
  cases gRet_e hf
  exact g_lawret X hRc hq1 hn9 hbs hI dL_law_2429
def f_L_law_2441 : gM Int32 :=
    (gRet (0 : Int32))
set_option maxHeartbeats 4000000 in
set_option maxRecDepth 100000 in
theorem b_L_law_2441 {G : gG} {l : Launch} {p : Program} {e : Env} {s : State} {m : MethodId} {args : Array Value} {below : List Frame} {meth : Method} {c : Code} {h0 : g_H} {r : Int32} {h' : g_H} (X : gX G l "GhostAssizeLaw" cL_law 7 (some .boolean) [] "law" p s m args meth c) (hRc : g_nx h' - g_nx h0 ≤ room_1.cells ∧ g_us h' - g_us h0 ≤ room_1.slots) (hq1 : r = 1) (hn9 : g_nx h' - g_nx h0 ≤ 603072 ∧ g_us h' - g_us h0 ≤ 7190634) (hbs : G.2.2.1.size = s.heap.size ∧ ∃ b9 : Nat, args = #[Value.ref b9]) : w_L_law_2441 G l p e s m args below meth c h0 r h' (f_L_law_2441) := by
  have hx := X.1
  have hb := X.2.1
  have hown := X.2.2.2.1
  have hts := X.2.2.2.2.1
  intro h H locs cells slots ls hf hI hl
  unfold f_L_law_2441 at hf
  refine lv_iconst (v := (0 : Int32)) hx hb dL_law_2441 (by decide) ?_
  cases gRet_e hf
  exact g_lawret X hRc hq1 hn9 hbs hI dL_law_2442
def f_L_law_2465 : gM Int32 :=
    (gRet (0 : Int32))
set_option maxHeartbeats 4000000 in
set_option maxRecDepth 100000 in
theorem b_L_law_2465 {G : gG} {l : Launch} {p : Program} {e : Env} {s : State} {m : MethodId} {args : Array Value} {below : List Frame} {meth : Method} {c : Code} {h0 : g_H} {r : Int32} {h' : g_H} (X : gX G l "GhostAssizeLaw" cL_law 7 (some .boolean) [] "law" p s m args meth c) (hRc : g_nx h' - g_nx h0 ≤ room_1.cells ∧ g_us h' - g_us h0 ≤ room_1.slots) (hq1 : r = 1) (hn9 : g_nx h' - g_nx h0 ≤ 603072 ∧ g_us h' - g_us h0 ≤ 7190634) (hbs : G.2.2.1.size = s.heap.size ∧ ∃ b9 : Nat, args = #[Value.ref b9]) : w_L_law_2465 G l p e s m args below meth c h0 r h' (f_L_law_2465) := by
  have hx := X.1
  have hb := X.2.1
  have hown := X.2.2.2.1
  have hts := X.2.2.2.2.1
  intro h H locs cells slots ls hf hI hl
  unfold f_L_law_2465 at hf
  refine lv_iconst (v := (0 : Int32)) hx hb dL_law_2465 (by decide) ?_
  cases gRet_e hf
  exact g_lawret X hRc hq1 hn9 hbs hI dL_law_2466
def f_L_law_2490 : gM Int32 :=
    (gRet (0 : Int32))
set_option maxHeartbeats 4000000 in
set_option maxRecDepth 100000 in
theorem b_L_law_2490 {G : gG} {l : Launch} {p : Program} {e : Env} {s : State} {m : MethodId} {args : Array Value} {below : List Frame} {meth : Method} {c : Code} {h0 : g_H} {r : Int32} {h' : g_H} (X : gX G l "GhostAssizeLaw" cL_law 7 (some .boolean) [] "law" p s m args meth c) (hRc : g_nx h' - g_nx h0 ≤ room_1.cells ∧ g_us h' - g_us h0 ≤ room_1.slots) (hq1 : r = 1) (hn9 : g_nx h' - g_nx h0 ≤ 603072 ∧ g_us h' - g_us h0 ≤ 7190634) (hbs : G.2.2.1.size = s.heap.size ∧ ∃ b9 : Nat, args = #[Value.ref b9]) : w_L_law_2490 G l p e s m args below meth c h0 r h' (f_L_law_2490) := by
  have hx := X.1
  have hb := X.2.1
  have hown := X.2.2.2.1
  have hts := X.2.2.2.2.1
  intro h H locs cells slots ls hf hI hl
  unfold f_L_law_2490 at hf
  refine lv_iconst (v := (0 : Int32)) hx hb dL_law_2490 (by decide) ?_
  cases gRet_e hf
  exact g_lawret X hRc hq1 hn9 hbs hI dL_law_2491
def f_L_law_2498 : gM Int32 :=
    (gRet (1 : Int32))
set_option maxHeartbeats 4000000 in
set_option maxRecDepth 100000 in
theorem b_L_law_2498 {G : gG} {l : Launch} {p : Program} {e : Env} {s : State} {m : MethodId} {args : Array Value} {below : List Frame} {meth : Method} {c : Code} {h0 : g_H} {r : Int32} {h' : g_H} (X : gX G l "GhostAssizeLaw" cL_law 7 (some .boolean) [] "law" p s m args meth c) (hRc : g_nx h' - g_nx h0 ≤ room_1.cells ∧ g_us h' - g_us h0 ≤ room_1.slots) (hq1 : r = 1) (hn9 : g_nx h' - g_nx h0 ≤ 603072 ∧ g_us h' - g_us h0 ≤ 7190634) (hbs : G.2.2.1.size = s.heap.size ∧ ∃ b9 : Nat, args = #[Value.ref b9]) : w_L_law_2498 G l p e s m args below meth c h0 r h' (f_L_law_2498) := by
  have hx := X.1
  have hb := X.2.1
  have hown := X.2.2.2.1
  have hts := X.2.2.2.2.1
  intro h H locs cells slots ls hf hI hl
  unfold f_L_law_2498 at hf
  refine lv_iconst (v := (1 : Int32)) hx hb dL_law_2498 (by decide) ?_
  cases gRet_e hf
  exact g_lawret X hRc hq1 hn9 hbs hI dL_law_2499
def f_L_law_23 : Nat → Nat → Nat → Nat → Nat → Int32 → gM Int32
  | 0, _, _, _, _, _ => gFail
  | n + 1, a0, a1, a2, a3, x4 =>
    gB (gAN a0 9) fun v101 =>
    gIf ((v101 - (6 : Int32)) < x4)
    (f_L_law_2498)
    (gB (gAI a0 9 x4) fun v102 =>
    gIf ((v102 &&& (63 : Int32)) = (0 : Int32))
    (gB (gAI a0 9 (x4 + (1 : Int32))) fun v103 =>
    gB (gAI a0 9 (x4 + (2 : Int32))) fun v104 =>
    gB (gAI a0 9 (x4 + (3 : Int32))) fun v105 =>
    gB (gAI a0 9 (x4 + (4 : Int32))) fun v106 =>
    gB (gAI a0 9 (x4 + (5 : Int32))) fun v107 =>
    gB (gCk a1 0) fun _ =>
    gB (f_X1_feed a1 v103 v104 v105 v106 v107) fun r108 =>
    gB (gAI a0 9 (x4 + (1 : Int32))) fun v109 =>
    gB (gAI a0 9 (x4 + (2 : Int32))) fun v110 =>
    gB (gAI a0 9 (x4 + (3 : Int32))) fun v111 =>
    gB (gAI a0 9 (x4 + (4 : Int32))) fun v112 =>
    gB (gAI a0 9 (x4 + (5 : Int32))) fun v113 =>
    gB (gCk a2 7) fun _ =>
    gB (f_X8_feed a2 v109 v110 v111 v112 v113) fun r114 =>
    gIf (r108 = r114)
    (f_L_law_2492 (f_L_law_23 n) a0 a1 a2 a3 x4)
    (f_L_law_319))
    (gIf ((v102 &&& (63 : Int32)) = (1 : Int32))
    (gB (gAI a0 9 (x4 + (1 : Int32))) fun v115 =>
    gB (gCk a1 0) fun _ =>
    gB (f_X1_end a1 v115) fun r116 =>
    gB (gAI a0 9 (x4 + (1 : Int32))) fun v117 =>
    gB (gCk a2 7) fun _ =>
    gB (f_X8_end a2 v117) fun r118 =>
    gIf (r116 = r118)
    (f_L_law_2492 (f_L_law_23 n) a0 a1 a2 a3 x4)
    (f_L_law_344))
    (gIf ((v102 &&& (63 : Int32)) = (2 : Int32))
    (gB (f_X0_court a1 a3) fun r119 =>
    gB (gCk a2 7) fun _ =>
    gB (f_X8_court a2) fun r120 =>
    gB (gCk a2 7) fun _ =>
    gB (f_X8_thrown a2) fun r121 =>
    gIf (r121 = r119)
    (gIf (r119 = 0)
    (gB (gAI a3 2 (0 : Int32)) fun v122 =>
    gIf ((lg_cmp v122.toInt64 (r120).toInt64) = 0)
    (f_L_law_387 (f_L_law_23 n) a0 a1 a2 a3 x4)
    (f_L_law_385))
    (f_L_law_387 (f_L_law_23 n) a0 a1 a2 a3 x4))
    (f_L_law_368))
    (gIf ((v102 &&& (63 : Int32)) = (3 : Int32))
    (gB (f_X0_law a1 a3) fun r123 =>
    gB (gCk a2 7) fun _ =>
    gB (f_X8_law a2) fun r124 =>
    gB (gCk a2 7) fun _ =>
    gB (f_X8_thrown a2) fun r125 =>
    gIf (r125 = r123)
    (gIf (r123 = 0)
    (gB (gAI a3 2 (0 : Int32)) fun v126 =>
    gIf ((lg_cmp v126.toInt64 (r124).toInt64) = 0)
    (f_L_law_431 (f_L_law_23 n) a0 a1 a2 a3 x4)
    (f_L_law_429))
    (f_L_law_431 (f_L_law_23 n) a0 a1 a2 a3 x4))
    (f_L_law_412))
    (gIf ((v102 &&& (63 : Int32)) = (4 : Int32))
    (gB (gCk a1 0) fun _ =>
    gB (f_X1_fault a1) fun r127 =>
    gB (gCk a2 7) fun _ =>
    gB (f_X8_fault a2) fun r128 =>
    gIf (r127 = r128)
    (f_L_law_2492 (f_L_law_23 n) a0 a1 a2 a3 x4)
    (f_L_law_445))
    (gIf ((v102 &&& (63 : Int32)) = (5 : Int32))
    (gB (gAI a0 9 (x4 + (1 : Int32))) fun v129 =>
    gB (gAI a0 9 (x4 + (2 : Int32))) fun v130 =>
    gB (f_X0_prop a1 v129 v130 a3) fun r131 =>
    gB (gAI a0 9 (x4 + (1 : Int32))) fun v132 =>
    gB (gAI a0 9 (x4 + (2 : Int32))) fun v133 =>
    gB (gCk a2 7) fun _ =>
    gB (f_X8_prop a2 v132 v133) fun r134 =>
    gB (gCk a2 7) fun _ =>
    gB (f_X8_thrown a2) fun r135 =>
    gIf (r135 = r131)
    (gIf (r131 = 0)
    (gB (gAI a3 2 (0 : Int32)) fun v136 =>
    gIf ((lg_cmp v136.toInt64 (r134).toInt64) = 0)
    (f_L_law_512 (f_L_law_23 n) a0 a1 a2 a3 x4)
    (f_L_law_510))
    (f_L_law_512 (f_L_law_23 n) a0 a1 a2 a3 x4))
    (f_L_law_493))
    (gIf ((v102 &&& (63 : Int32)) = (6 : Int32))
    (gB (gAI a0 9 (x4 + (1 : Int32))) fun v137 =>
    gB (f_X0_slot a1 v137 a3) fun r138 =>
    gB (gAI a0 9 (x4 + (1 : Int32))) fun v139 =>
    gB (gCk a2 7) fun _ =>
    gB (f_X8_slot a2 v139) fun r140 =>
    gB (gCk a2 7) fun _ =>
    gB (f_X8_thrown a2) fun r141 =>
    gIf (r141 = r138)
    (gIf (r138 = 0)
    (gB (gAI a3 2 (0 : Int32)) fun v142 =>
    gIf ((lg_cmp v142.toInt64 (r140).toInt64) = 0)
    (f_L_law_568 (f_L_law_23 n) a0 a1 a2 a3 x4)
    (f_L_law_566))
    (f_L_law_568 (f_L_law_23 n) a0 a1 a2 a3 x4))
    (f_L_law_549))
    (gIf ((v102 &&& (63 : Int32)) = (7 : Int32))
    (gB (gAI a0 9 (x4 + (1 : Int32))) fun v143 =>
    gB (gAI a0 9 (x4 + (2 : Int32))) fun v144 =>
    gB (f_X0_accused a1 v143 v144 a3) fun r145 =>
    gB (gAI a0 9 (x4 + (1 : Int32))) fun v146 =>
    gB (gAI a0 9 (x4 + (2 : Int32))) fun v147 =>
    gB (gCk a2 7) fun _ =>
    gB (f_X8_accused a2 v146 v147) fun r148 =>
    gB (gCk a2 7) fun _ =>
    gB (f_X8_thrown a2) fun r149 =>
    gIf (r149 = r145)
    (gIf (r145 = 0)
    (gB (gAI a3 2 (0 : Int32)) fun v150 =>
    gIf ((lg_cmp v150.toInt64 (r148).toInt64) = 0)
    (f_L_law_636 (f_L_law_23 n) a0 a1 a2 a3 x4)
    (f_L_law_634))
    (f_L_law_636 (f_L_law_23 n) a0 a1 a2 a3 x4))
    (f_L_law_617))
    (gIf ((v102 &&& (63 : Int32)) = (8 : Int32))
    (gB (gAI a0 9 (x4 + (1 : Int32))) fun v151 =>
    gB (gAI a0 9 (x4 + (2 : Int32))) fun v152 =>
    gB (gAI a0 9 (x4 + (3 : Int32))) fun v153 =>
    gB (gAI a0 9 (x4 + (4 : Int32))) fun v154 =>
    gIf (v154 = 0)
    (f_L_law_672 (f_L_law_23 n) a0 a1 a2 a3 x4 a1 v151 v152 v153 (0 : Int32))
    (f_L_law_672 (f_L_law_23 n) a0 a1 a2 a3 x4 a1 v151 v152 v153 (1 : Int32)))
    (gIf ((v102 &&& (63 : Int32)) = (9 : Int32))
    (gB (gAI a0 9 (x4 + (1 : Int32))) fun v155 =>
    gB (f_X0_send a1 v155 a3) fun r156 =>
    gB (gAI a0 9 (x4 + (1 : Int32))) fun v157 =>
    gB (gCk a2 7) fun _ =>
    gB (f_X8_send a2 v157) fun r158 =>
    gB (gCk a2 7) fun _ =>
    gB (f_X8_thrown a2) fun r159 =>
    gIf (r159 = r156)
    (gIf (r156 = 0)
    (gB (gAI a3 2 (0 : Int32)) fun v160 =>
    gIf ((lg_cmp v160.toInt64 (r158).toInt64) = 0)
    (f_L_law_800 (f_L_law_23 n) a0 a1 a2 a3 x4)
    (f_L_law_798))
    (f_L_law_800 (f_L_law_23 n) a0 a1 a2 a3 x4))
    (f_L_law_781))
    (gIf ((v102 &&& (63 : Int32)) = (10 : Int32))
    (gB (gAI a0 9 (x4 + (1 : Int32))) fun v161 =>
    gB (gAI a0 9 (x4 + (2 : Int32))) fun v162 =>
    gB (f_X0_nail a1 v161 v162) fun r163 =>
    gB (gAI a0 9 (x4 + (1 : Int32))) fun v164 =>
    gB (gAI a0 9 (x4 + (2 : Int32))) fun v165 =>
    gB (gCk a2 7) fun _ =>
    gB (f_X8_nail a2 v164 v165) fun _ =>
    gB (gCk a2 7) fun _ =>
    gB (f_X8_thrown a2) fun r167 =>
    gIf (r167 = r163)
    (f_L_law_2492 (f_L_law_23 n) a0 a1 a2 a3 x4)
    (f_L_law_846))
    (gIf ((v102 &&& (63 : Int32)) = (11 : Int32))
    (gB (gAI a0 9 (x4 + (1 : Int32))) fun v168 =>
    gB (f_X0_down a1 v168 a3) fun r169 =>
    gB (gAI a0 9 (x4 + (1 : Int32))) fun v170 =>
    gB (gCk a2 7) fun _ =>
    gB (f_X8_down a2 v170) fun r171 =>
    gB (gCk a2 7) fun _ =>
    gB (f_X8_thrown a2) fun r172 =>
    gIf (r172 = r169)
    (gIf (r169 = 0)
    (gB (gAI a3 2 (0 : Int32)) fun v173 =>
    gIf ((lg_cmp v173.toInt64 (r171).toInt64) = 0)
    (f_L_law_904 (f_L_law_23 n) a0 a1 a2 a3 x4)
    (f_L_law_902))
    (f_L_law_904 (f_L_law_23 n) a0 a1 a2 a3 x4))
    (f_L_law_885))
    (gIf ((v102 &&& (63 : Int32)) = (12 : Int32))
    (gB (gAI a0 9 (x4 + (1 : Int32))) fun v174 =>
    gB (f_X0_mend a1 v174 a3) fun r175 =>
    gB (gAI a0 9 (x4 + (1 : Int32))) fun v176 =>
    gB (gCk a2 7) fun _ =>
    gB (f_X8_mend a2 v176) fun r177 =>
    gB (gCk a2 7) fun _ =>
    gB (f_X8_thrown a2) fun r178 =>
    gIf (r178 = r175)
    (gIf (r175 = 0)
    (gB (gAI a3 2 (0 : Int32)) fun v179 =>
    gIf ((lg_cmp v179.toInt64 (r177).toInt64) = 0)
    (f_L_law_960 (f_L_law_23 n) a0 a1 a2 a3 x4)
    (f_L_law_958))
    (f_L_law_960 (f_L_law_23 n) a0 a1 a2 a3 x4))
    (f_L_law_941))
    (gIf ((v102 &&& (63 : Int32)) = (13 : Int32))
    (gB (gAI a0 9 (x4 + (1 : Int32))) fun v180 =>
    gB (f_X0_recall a1 v180) fun r181 =>
    gB (gAI a0 9 (x4 + (1 : Int32))) fun v182 =>
    gB (gCk a2 7) fun _ =>
    gB (f_X8_recall a2 v182) fun _ =>
    gB (gCk a2 7) fun _ =>
    gB (f_X8_thrown a2) fun r184 =>
    gIf (r184 = r181)
    (f_L_law_2492 (f_L_law_23 n) a0 a1 a2 a3 x4)
    (f_L_law_994))
    (gIf ((v102 &&& (63 : Int32)) = (14 : Int32))
    (gB (gAI a0 9 (x4 + (1 : Int32))) fun v185 =>
    gB (f_X0_inside a1 v185 a3) fun r186 =>
    gB (gAI a0 9 (x4 + (1 : Int32))) fun v187 =>
    gB (gCk a2 7) fun _ =>
    gB (f_X8_inside a2 v187) fun r188 =>
    gB (gCk a2 7) fun _ =>
    gB (f_X8_thrown a2) fun r189 =>
    gIf (r189 = r186)
    (gIf (r186 = 0)
    (gB (gAI a3 2 (0 : Int32)) fun v190 =>
    gIf ((lg_cmp v190.toInt64 (r188).toInt64) = 0)
    (f_L_law_1052 (f_L_law_23 n) a0 a1 a2 a3 x4)
    (f_L_law_1050))
    (f_L_law_1052 (f_L_law_23 n) a0 a1 a2 a3 x4))
    (f_L_law_1033))
    (gIf ((v102 &&& (63 : Int32)) = (15 : Int32))
    (gB (gAI a0 9 (x4 + (1 : Int32))) fun v191 =>
    gB (f_X0_calm a1 v191 a3) fun r192 =>
    gB (gAI a0 9 (x4 + (1 : Int32))) fun v193 =>
    gB (gCk a2 7) fun _ =>
    gB (f_X8_calm a2 v193) fun r194 =>
    gB (gCk a2 7) fun _ =>
    gB (f_X8_thrown a2) fun r195 =>
    gIf (r195 = r192)
    (gIf (r192 = 0)
    (gB (gAI a3 2 (0 : Int32)) fun v196 =>
    gIf ((lg_cmp v196.toInt64 (r194).toInt64) = 0)
    (f_L_law_1108 (f_L_law_23 n) a0 a1 a2 a3 x4)
    (f_L_law_1106))
    (f_L_law_1108 (f_L_law_23 n) a0 a1 a2 a3 x4))
    (f_L_law_1089))
    (gIf ((v102 &&& (63 : Int32)) = (16 : Int32))
    (gB (gAI a0 9 (x4 + (1 : Int32))) fun v197 =>
    gB (f_X0_mornings a1 v197 a3) fun r198 =>
    gB (gAI a0 9 (x4 + (1 : Int32))) fun v199 =>
    gB (gCk a2 7) fun _ =>
    gB (f_X8_mornings a2 v199) fun r200 =>
    gB (gCk a2 7) fun _ =>
    gB (f_X8_thrown a2) fun r201 =>
    gIf (r201 = r198)
    (gIf (r198 = 0)
    (gB (gAI a3 2 (0 : Int32)) fun v202 =>
    gIf ((lg_cmp v202.toInt64 (r200).toInt64) = 0)
    (f_L_law_1164 (f_L_law_23 n) a0 a1 a2 a3 x4)
    (f_L_law_1162))
    (f_L_law_1164 (f_L_law_23 n) a0 a1 a2 a3 x4))
    (f_L_law_1145))
    (gIf ((v102 &&& (63 : Int32)) = (17 : Int32))
    (gB (gAI a0 9 (x4 + (1 : Int32))) fun v203 =>
    gB (f_X0_straight a1 v203 a3) fun r204 =>
    gB (gAI a0 9 (x4 + (1 : Int32))) fun v205 =>
    gB (gCk a2 7) fun _ =>
    gB (f_X8_straight a2 v205) fun r206 =>
    gB (gCk a2 7) fun _ =>
    gB (f_X8_thrown a2) fun r207 =>
    gIf (r207 = r204)
    (gIf (r204 = 0)
    (gB (gAI a3 2 (0 : Int32)) fun v208 =>
    gIf ((lg_cmp v208.toInt64 (r206).toInt64) = 0)
    (f_L_law_1220 (f_L_law_23 n) a0 a1 a2 a3 x4)
    (f_L_law_1218))
    (f_L_law_1220 (f_L_law_23 n) a0 a1 a2 a3 x4))
    (f_L_law_1201))
    (gIf ((v102 &&& (63 : Int32)) = (18 : Int32))
    (gB (gAI a0 9 (x4 + (1 : Int32))) fun v209 =>
    gB (gAI a0 9 (x4 + (2 : Int32))) fun v210 =>
    gB (f_X0_tense a1 v209 v210 a3) fun r211 =>
    gB (gAI a0 9 (x4 + (1 : Int32))) fun v212 =>
    gB (gAI a0 9 (x4 + (2 : Int32))) fun v213 =>
    gB (gCk a2 7) fun _ =>
    gB (f_X8_tense a2 v212 v213) fun r214 =>
    gB (gCk a2 7) fun _ =>
    gB (f_X8_thrown a2) fun r215 =>
    gIf (r215 = r211)
    (gIf (r211 = 0)
    (gB (gAI a3 2 (0 : Int32)) fun v216 =>
    gIf ((lg_cmp v216.toInt64 (r214).toInt64) = 0)
    (f_L_law_1288 (f_L_law_23 n) a0 a1 a2 a3 x4)
    (f_L_law_1286))
    (f_L_law_1288 (f_L_law_23 n) a0 a1 a2 a3 x4))
    (f_L_law_1269))
    (gIf ((v102 &&& (63 : Int32)) = (19 : Int32))
    (gB (gAI a0 9 (x4 + (1 : Int32))) fun v217 =>
    gB (f_X0_ways a1 v217 a3) fun r218 =>
    gB (gAI a0 9 (x4 + (1 : Int32))) fun v219 =>
    gB (gCk a2 7) fun _ =>
    gB (f_X8_ways a2 v219) fun r220 =>
    gB (gCk a2 7) fun _ =>
    gB (f_X8_thrown a2) fun r221 =>
    gIf (r221 = r218)
    (gIf (r218 = 0)
    (gB (gAI a3 2 (0 : Int32)) fun v222 =>
    gIf ((lg_cmp v222.toInt64 (r220).toInt64) = 0)
    (f_L_law_1344 (f_L_law_23 n) a0 a1 a2 a3 x4)
    (f_L_law_1342))
    (f_L_law_1344 (f_L_law_23 n) a0 a1 a2 a3 x4))
    (f_L_law_1325))
    (gIf ((v102 &&& (63 : Int32)) = (20 : Int32))
    (gB (gAI a0 9 (x4 + (1 : Int32))) fun v223 =>
    gB (gAI a0 9 (x4 + (2 : Int32))) fun v224 =>
    gB (f_X0_at a1 v223 v224 a3) fun r225 =>
    gB (gAI a0 9 (x4 + (1 : Int32))) fun v226 =>
    gB (gAI a0 9 (x4 + (2 : Int32))) fun v227 =>
    gB (gCk a2 7) fun _ =>
    gB (f_X8_at a2 v226 v227) fun r228 =>
    gB (gCk a2 7) fun _ =>
    gB (f_X8_thrown a2) fun r229 =>
    gIf (r229 = r225)
    (gIf (r225 = 0)
    (gB (gAI a3 2 (0 : Int32)) fun v230 =>
    gIf ((lg_cmp v230.toInt64 (r228).toInt64) = 0)
    (f_L_law_1412 (f_L_law_23 n) a0 a1 a2 a3 x4)
    (f_L_law_1410))
    (f_L_law_1412 (f_L_law_23 n) a0 a1 a2 a3 x4))
    (f_L_law_1393))
    (gIf ((v102 &&& (63 : Int32)) = (21 : Int32))
    (gB (gAI a0 9 (x4 + (1 : Int32))) fun v231 =>
    gB (f_X0_odds a1 v231 a3) fun r232 =>
    gB (gAI a0 9 (x4 + (1 : Int32))) fun v233 =>
    gB (gCk a2 7) fun _ =>
    gB (f_X8_odds a2 v233) fun r234 =>
    gB (gCk a2 7) fun _ =>
    gB (f_X8_thrown a2) fun r235 =>
    gIf (r235 = r232)
    (gIf (r232 = 0)
    (gB (gAI a3 2 (0 : Int32)) fun v236 =>
    gIf ((lg_cmp v236.toInt64 (r234).toInt64) = 0)
    (f_L_law_1468 (f_L_law_23 n) a0 a1 a2 a3 x4)
    (f_L_law_1466))
    (f_L_law_1468 (f_L_law_23 n) a0 a1 a2 a3 x4))
    (f_L_law_1449))
    (gIf ((v102 &&& (63 : Int32)) = (22 : Int32))
    (gB (gCk a1 0) fun _ =>
    gB (f_X1_gap a1) fun r237 =>
    gB (gCk a2 7) fun _ =>
    gB (f_X8_gap a2) fun r238 =>
    gIf (r237 = r238)
    (f_L_law_2492 (f_L_law_23 n) a0 a1 a2 a3 x4)
    (f_L_law_1482))
    (gIf ((v102 &&& (63 : Int32)) = (23 : Int32))
    (gB (gAI a0 9 (x4 + (1 : Int32))) fun v239 =>
    gIf (v239 = 0)
    (f_L_law_1499 (f_L_law_23 n) a0 a1 a2 a3 x4 a1 (0 : Int32))
    (f_L_law_1499 (f_L_law_23 n) a0 a1 a2 a3 x4 a1 (1 : Int32)))
    (gIf ((v102 &&& (63 : Int32)) = (24 : Int32))
    (gB (gCk a1 0) fun _ =>
    gB (f_X1_swap a1) fun r240 =>
    gB (gCk a2 7) fun _ =>
    gB (f_X8_swap a2) fun r241 =>
    gIf (r240 = r241)
    (f_L_law_2492 (f_L_law_23 n) a0 a1 a2 a3 x4)
    (f_L_law_1536))
    (gIf ((v102 &&& (63 : Int32)) = (25 : Int32))
    (gB (gCk a1 0) fun _ =>
    gB (f_X1_next a1) fun r242 =>
    gB (gCk a2 7) fun _ =>
    gB (f_X8_next a2) fun r243 =>
    gIf (r242 = r243)
    (f_L_law_2492 (f_L_law_23 n) a0 a1 a2 a3 x4)
    (f_L_law_1549))
    (gIf ((v102 &&& (63 : Int32)) = (26 : Int32))
    (gB (gAI a0 9 (x4 + (1 : Int32))) fun v244 =>
    gB (gAI a0 9 (x4 + (2 : Int32))) fun v245 =>
    gIf (v245 = 0)
    (f_L_law_1572 (f_L_law_23 n) a0 a1 a2 a3 x4 a1 v244 (0 : Int32))
    (f_L_law_1572 (f_L_law_23 n) a0 a1 a2 a3 x4 a1 v244 (1 : Int32)))
    (gIf ((v102 &&& (63 : Int32)) = (27 : Int32))
    (gB (gAI a0 9 (x4 + (1 : Int32))) fun v246 =>
    gB (f_X0_ask a1 v246 a3) fun r247 =>
    gB (gAI a0 9 (x4 + (1 : Int32))) fun v248 =>
    gB (gCk a2 7) fun _ =>
    gB (f_X8_ask a2 v248) fun r249 =>
    gB (gCk a2 7) fun _ =>
    gB (f_X8_thrown a2) fun r250 =>
    gIf (r250 = r247)
    (gIf (r247 = 0)
    (gB (gAI a3 2 (0 : Int32)) fun v251 =>
    gIf ((lg_cmp v251.toInt64 (r249).toInt64) = 0)
    (f_L_law_1688 (f_L_law_23 n) a0 a1 a2 a3 x4)
    (f_L_law_1686))
    (f_L_law_1688 (f_L_law_23 n) a0 a1 a2 a3 x4))
    (f_L_law_1669))
    (gIf ((v102 &&& (63 : Int32)) = (28 : Int32))
    (gB (gAI a0 9 (x4 + (1 : Int32))) fun v252 =>
    gB (gAI a0 9 (x4 + (2 : Int32))) fun v253 =>
    gB (f_X0_car a1 v252 v253 a3) fun r254 =>
    gB (gAI a0 9 (x4 + (1 : Int32))) fun v255 =>
    gB (gAI a0 9 (x4 + (2 : Int32))) fun v256 =>
    gB (gCk a2 7) fun _ =>
    gB (f_X8_car a2 v255 v256) fun r257 =>
    gB (gCk a2 7) fun _ =>
    gB (f_X8_thrown a2) fun r258 =>
    gIf (r258 = r254)
    (gIf (r254 = 0)
    (gB (gAI a3 2 (0 : Int32)) fun v259 =>
    gIf ((lg_cmp v259.toInt64 (r257).toInt64) = 0)
    (f_L_law_1756 (f_L_law_23 n) a0 a1 a2 a3 x4)
    (f_L_law_1754))
    (f_L_law_1756 (f_L_law_23 n) a0 a1 a2 a3 x4))
    (f_L_law_1737))
    (gIf ((v102 &&& (63 : Int32)) = (29 : Int32))
    (gB (gAI a0 9 (x4 + (1 : Int32))) fun v260 =>
    gB (f_X0_corners a1 v260 a3) fun r261 =>
    gB (gAI a0 9 (x4 + (1 : Int32))) fun v262 =>
    gB (gCk a2 7) fun _ =>
    gB (f_X8_corners a2 v262) fun r263 =>
    gB (gCk a2 7) fun _ =>
    gB (f_X8_thrown a2) fun r264 =>
    gIf (r264 = r261)
    (gIf (r261 = 0)
    (gB (gAI a3 2 (0 : Int32)) fun v265 =>
    gIf ((lg_cmp v265.toInt64 (r263).toInt64) = 0)
    (f_L_law_1812 (f_L_law_23 n) a0 a1 a2 a3 x4)
    (f_L_law_1810))
    (f_L_law_1812 (f_L_law_23 n) a0 a1 a2 a3 x4))
    (f_L_law_1793))
    (gIf ((v102 &&& (63 : Int32)) = (30 : Int32))
    (gB (gCk a1 0) fun _ =>
    gB (f_X1_cover a1) fun r266 =>
    gB (gCk a2 7) fun _ =>
    gB (f_X8_cover a2) fun r267 =>
    gIf (r266 = r267)
    (f_L_law_2492 (f_L_law_23 n) a0 a1 a2 a3 x4)
    (f_L_law_1826))
    (gIf ((v102 &&& (63 : Int32)) = (31 : Int32))
    (gB (gCk a1 0) fun _ =>
    gB (f_X1_leave a1) fun r268 =>
    gB (gCk a2 7) fun _ =>
    gB (f_X8_leave a2) fun r269 =>
    gIf (r268 = r269)
    (f_L_law_2492 (f_L_law_23 n) a0 a1 a2 a3 x4)
    (f_L_law_1839))
    (gIf ((v102 &&& (63 : Int32)) = (32 : Int32))
    (gB (gCk a1 0) fun _ =>
    gB (f_X1_bravest a1) fun r270 =>
    gB (gCk a2 7) fun _ =>
    gB (f_X8_bravest a2) fun r271 =>
    gIf (r270 = r271)
    (f_L_law_2492 (f_L_law_23 n) a0 a1 a2 a3 x4)
    (f_L_law_1852))
    (gIf ((v102 &&& (63 : Int32)) = (33 : Int32))
    (gB (gCk a1 0) fun _ =>
    gB (f_X1_alike a1) fun r272 =>
    gB (gCk a2 7) fun _ =>
    gB (f_X8_alike a2) fun r273 =>
    gIf (r272 = r273)
    (f_L_law_2492 (f_L_law_23 n) a0 a1 a2 a3 x4)
    (f_L_law_1865))
    (gIf ((v102 &&& (63 : Int32)) = (34 : Int32))
    (gB (gAI a0 9 (x4 + (1 : Int32))) fun v274 =>
    gB (f_X0_usher a1 v274 a3) fun r275 =>
    gB (gAI a0 9 (x4 + (1 : Int32))) fun v276 =>
    gB (gCk a2 7) fun _ =>
    gB (f_X8_usher a2 v276) fun r277 =>
    gB (gCk a2 7) fun _ =>
    gB (f_X8_thrown a2) fun r278 =>
    gIf (r278 = r275)
    (gIf (r275 = 0)
    (gB (gAI a3 2 (0 : Int32)) fun v279 =>
    gIf ((lg_cmp v279.toInt64 (r277).toInt64) = 0)
    (f_L_law_1920 (f_L_law_23 n) a0 a1 a2 a3 x4)
    (f_L_law_1918))
    (f_L_law_1920 (f_L_law_23 n) a0 a1 a2 a3 x4))
    (f_L_law_1901))
    (gIf ((v102 &&& (63 : Int32)) = (35 : Int32))
    (gB (gAI a0 9 (x4 + (1 : Int32))) fun v280 =>
    gB (gAI a0 9 (x4 + (2 : Int32))) fun v281 =>
    gB (f_X0_lasts a1 v280 v281 a3) fun r282 =>
    gB (gAI a0 9 (x4 + (1 : Int32))) fun v283 =>
    gB (gAI a0 9 (x4 + (2 : Int32))) fun v284 =>
    gB (gCk a2 7) fun _ =>
    gB (f_X8_lasts a2 v283 v284) fun r285 =>
    gB (gCk a2 7) fun _ =>
    gB (f_X8_thrown a2) fun r286 =>
    gIf (r286 = r282)
    (gIf (r282 = 0)
    (gB (gAI a3 2 (0 : Int32)) fun v287 =>
    gIf ((lg_cmp v287.toInt64 (r285).toInt64) = 0)
    (f_L_law_1988 (f_L_law_23 n) a0 a1 a2 a3 x4)
    (f_L_law_1986))
    (f_L_law_1988 (f_L_law_23 n) a0 a1 a2 a3 x4))
    (f_L_law_1969))
    (gIf ((v102 &&& (63 : Int32)) = (36 : Int32))
    (gB (gAI a0 9 (x4 + (1 : Int32))) fun v288 =>
    gIf (v288 = 0)
    (f_L_law_2006 (f_L_law_23 n) a0 a1 a2 a3 x4 a1 (0 : Int32))
    (f_L_law_2006 (f_L_law_23 n) a0 a1 a2 a3 x4 a1 (1 : Int32)))
    (gIf ((v102 &&& (63 : Int32)) = (37 : Int32))
    (gB (gAI a0 9 (x4 + (1 : Int32))) fun v289 =>
    gB (gAI a0 9 (x4 + (2 : Int32))) fun v290 =>
    gB (f_X0_share a1 v289 v290 a3) fun r291 =>
    gB (gAI a0 9 (x4 + (1 : Int32))) fun v292 =>
    gB (gAI a0 9 (x4 + (2 : Int32))) fun v293 =>
    gB (gCk a2 7) fun _ =>
    gB (f_X8_share a2 v292 v293) fun r294 =>
    gB (gCk a2 7) fun _ =>
    gB (f_X8_thrown a2) fun r295 =>
    gIf (r295 = r291)
    (gIf (r291 = 0)
    (gB (gAI a3 2 (0 : Int32)) fun v296 =>
    gIf ((lg_cmp v296.toInt64 (r294).toInt64) = 0)
    (f_L_law_2097 (f_L_law_23 n) a0 a1 a2 a3 x4)
    (f_L_law_2095))
    (f_L_law_2097 (f_L_law_23 n) a0 a1 a2 a3 x4))
    (f_L_law_2078))
    (gIf ((v102 &&& (63 : Int32)) = (38 : Int32))
    (gB (gCk a1 0) fun _ =>
    gB (f_X1_loudest a1) fun r297 =>
    gB (gCk a2 7) fun _ =>
    gB (f_X8_loudest a2) fun r298 =>
    gIf (r297 = r298)
    (f_L_law_2492 (f_L_law_23 n) a0 a1 a2 a3 x4)
    (f_L_law_2111))
    (gIf ((v102 &&& (63 : Int32)) = (39 : Int32))
    (gB (gAI a0 9 (x4 + (1 : Int32))) fun v299 =>
    gB (f_X0_trial a1 v299 a3) fun r300 =>
    gB (gAI a0 9 (x4 + (1 : Int32))) fun v301 =>
    gB (gCk a2 7) fun _ =>
    gB (f_X8_trial a2 v301) fun r302 =>
    gB (gCk a2 7) fun _ =>
    gB (f_X8_thrown a2) fun r303 =>
    gIf (r303 = r300)
    (gIf (r300 = 0)
    (gB (gAI a3 2 (0 : Int32)) fun v304 =>
    gIf ((lg_cmp v304.toInt64 (r302).toInt64) = 0)
    (f_L_law_2166 (f_L_law_23 n) a0 a1 a2 a3 x4)
    (f_L_law_2164))
    (f_L_law_2166 (f_L_law_23 n) a0 a1 a2 a3 x4))
    (f_L_law_2147))
    (gIf ((v102 &&& (63 : Int32)) = (40 : Int32))
    (gB (gAI a0 9 (x4 + (1 : Int32))) fun v305 =>
    gB (gAI a0 9 (x4 + (2 : Int32))) fun v306 =>
    gIf (v306 = 0)
    (f_L_law_2190 (f_L_law_23 n) a0 a1 a2 a3 x4 a1 v305 (0 : Int32))
    (f_L_law_2190 (f_L_law_23 n) a0 a1 a2 a3 x4 a1 v305 (1 : Int32)))
    (gIf ((v102 &&& (63 : Int32)) = (41 : Int32))
    (gB (gAI a0 9 (x4 + (1 : Int32))) fun v307 =>
    gB (gAI a0 9 (x4 + (2 : Int32))) fun v308 =>
    gIf (v308 = 0)
    (f_L_law_2274 (f_L_law_23 n) a0 a1 a2 a3 x4 a1 v307 (0 : Int32))
    (f_L_law_2274 (f_L_law_23 n) a0 a1 a2 a3 x4 a1 v307 (1 : Int32)))
    (gIf ((v102 &&& (63 : Int32)) = (42 : Int32))
    (gB (gAI a0 9 (x4 + (1 : Int32))) fun v309 =>
    gB (gAI a0 9 (x4 + (2 : Int32))) fun v310 =>
    gB (f_X0_log a1 v309 v310 a3) fun r311 =>
    gB (gAI a0 9 (x4 + (1 : Int32))) fun v312 =>
    gB (gAI a0 9 (x4 + (2 : Int32))) fun v313 =>
    gB (gCk a2 7) fun _ =>
    gB (f_X8_log a2 v312 v313) fun r314 =>
    gB (gCk a2 7) fun _ =>
    gB (f_X8_thrown a2) fun r315 =>
    gIf (r315 = r311)
    (gIf (r311 = 0)
    (gB (gAI a3 2 (0 : Int32)) fun v316 =>
    gIf ((lg_cmp v316.toInt64 (r314).toInt64) = 0)
    (f_L_law_2402 (f_L_law_23 n) a0 a1 a2 a3 x4)
    (f_L_law_2400))
    (f_L_law_2402 (f_L_law_23 n) a0 a1 a2 a3 x4))
    (f_L_law_2383))
    (gIf ((v102 &&& (63 : Int32)) = (43 : Int32))
    (gB (gAI a0 9 (x4 + (1 : Int32))) fun v317 =>
    gB (gCk a1 0) fun _ =>
    gB (f_X1_seed a1 v317) fun r318 =>
    gB (gAI a0 9 (x4 + (1 : Int32))) fun v319 =>
    gB (gCk a2 7) fun _ =>
    gB (f_X8_seed a2 v319) fun r320 =>
    gIf (r318 = r320)
    (f_L_law_2492 (f_L_law_23 n) a0 a1 a2 a3 x4)
    (f_L_law_2428))
    (gIf ((v102 &&& (63 : Int32)) = (44 : Int32))
    (gB (gCk a1 0) fun _ =>
    gB (f_X1_undo a1) fun r321 =>
    gB (gCk a2 7) fun _ =>
    gB (f_X8_undo a2) fun r322 =>
    gIf (r321 = r322)
    (f_L_law_2492 (f_L_law_23 n) a0 a1 a2 a3 x4)
    (f_L_law_2441))
    (gIf ((v102 &&& (63 : Int32)) = (45 : Int32))
    (gB (gCk a1 0) fun _ =>
    gB (f_X1_image a1) fun _ =>
    gB (gCk a2 7) fun _ =>
    gB (f_X8_image a2) fun _ =>
    f_L_law_2492 (f_L_law_23 n) a0 a1 a2 a3 x4)
    (gIf ((v102 &&& (63 : Int32)) = (46 : Int32))
    (gB (gCk a1 0) fun _ =>
    gB (f_X1_back a1) fun r325 =>
    gB (gCk a2 7) fun _ =>
    gB (f_X8_back a2) fun r326 =>
    gIf (r325 = r326)
    (f_L_law_2492 (f_L_law_23 n) a0 a1 a2 a3 x4)
    (f_L_law_2465))
    (gIf ((v102 &&& (63 : Int32)) = (47 : Int32))
    (gB (gAI a0 9 (x4 + (1 : Int32))) fun v327 =>
    gB (gCk a1 0) fun _ =>
    gB (f_X1_count a1 v327) fun r328 =>
    gB (gAI a0 9 (x4 + (1 : Int32))) fun v329 =>
    gB (gCk a2 7) fun _ =>
    gB (f_X8_count a2 v329) fun r330 =>
    gIf (r328 = r330)
    (f_L_law_2492 (f_L_law_23 n) a0 a1 a2 a3 x4)
    (f_L_law_2490))
    (f_L_law_2492 (f_L_law_23 n) a0 a1 a2 a3 x4)))))))))))))))))))))))))))))))))))))))))))))))))
set_option maxHeartbeats 4000000 in
set_option maxRecDepth 100000 in
theorem b_L_law_23 {G : gG} {l : Launch} {p : Program} {e : Env} {s : State} {m : MethodId} {args : Array Value} {below : List Frame} {meth : Method} {c : Code} {h0 : g_H} {r : Int32} {h' : g_H} (X : gX G l "GhostAssizeLaw" cL_law 7 (some .boolean) [] "law" p s m args meth c) (hRc : g_nx h' - g_nx h0 ≤ room_1.cells ∧ g_us h' - g_us h0 ≤ room_1.slots) (hq1 : r = 1) (hn9 : g_nx h' - g_nx h0 ≤ 603072 ∧ g_us h' - g_us h0 ≤ 7190634) (hbs : G.2.2.1.size = s.heap.size ∧ ∃ b9 : Nat, args = #[Value.ref b9]) : ∀ n : Nat, w_L_law_23 G l p e s m args below meth c h0 r h' (f_L_law_23 n) := by
  have hx := X.1
  have hb := X.2.1
  have hown := X.2.2.2.1
  have hts := X.2.2.2.2.1
  intro n
  induction n with
  | zero =>
    intro a0 a1 a2 a3 x4 h H locs cells slots ls hf hI hl
    exact (gFail_f hf).elim
  | succ n ih =>
    intro a0 a1 a2 a3 x4 h H locs cells slots ls hf hI hl
    rw [f_L_law_23] at hf
    refine lv_iload hx hb dL_law_23 (lv_at hl 4 rfl) ?_
    refine lv_aload_n hx hb dL_law_25 rfl (lv_at hl 0 rfl) ?_
    refine g_anO9 X hI hf dL_law_26 (fun v101 hf => ?_)
    refine lv_bipush (v := (6 : Int32)) hx hb dL_law_27 (by decide) ?_
    refine lv_isub hx hb dL_law_29 ?_
    refine lv_icmp_gt (tgt := 2498) hx hb dL_law_30 (by decide) (fun c30 => ?_) (fun c30 => ?_)
    · have hf := g_t c30 hf
      exact b_L_law_2498 X hRc hq1 hn9 hbs _ _ _ _ _ _ hf hI (lv_sub hl [] rfl)
    · have hf := g_f c30 hf
      refine lv_aload_n hx hb dL_law_33 rfl (lv_at hl 0 rfl) ?_
      refine lv_iload hx hb dL_law_34 (lv_at hl 4 rfl) ?_
      refine g_aiO9 X hI hf dL_law_36 (fun v102 hf => ?_)
      refine lv_bipush (v := (63 : Int32)) hx hb dL_law_37 (by decide) ?_
      refine lv_iand hx hb dL_law_39 ?_
      by_cases c40_0 : (v102 &&& (63 : Int32)) = (0 : Int32)
      · have hf := g_t c40_0 hf
        refine g_tsIn (k := (0 : Int32)) (off := 208) (tgt := 248) hx hb c40_0 dL_law_40 (by decide) (by decide) rfl (by decide) ?_
        refine lv_aload_n hx hb dL_law_248 rfl (lv_at hl 1 rfl) ?_
        refine lv_aload_n hx hb dL_law_249 rfl (lv_at hl 0 rfl) ?_
        refine lv_iload hx hb dL_law_250 (lv_at hl 4 rfl) ?_
        refine lv_iconst (v := (1 : Int32)) hx hb dL_law_252 (by decide) ?_
        refine lv_iadd hx hb dL_law_253 ?_
        refine g_aiO9 X hI hf dL_law_254 (fun v103 hf => ?_)
        refine lv_aload_n hx hb dL_law_255 rfl (lv_at hl 0 rfl) ?_
        refine lv_iload hx hb dL_law_256 (lv_at hl 4 rfl) ?_
        refine lv_iconst (v := (2 : Int32)) hx hb dL_law_258 (by decide) ?_
        refine lv_iadd hx hb dL_law_259 ?_
        refine g_aiO9 X hI hf dL_law_260 (fun v104 hf => ?_)
        refine lv_aload_n hx hb dL_law_261 rfl (lv_at hl 0 rfl) ?_
        refine lv_iload hx hb dL_law_262 (lv_at hl 4 rfl) ?_
        refine lv_iconst (v := (3 : Int32)) hx hb dL_law_264 (by decide) ?_
        refine lv_iadd hx hb dL_law_265 ?_
        refine g_aiO9 X hI hf dL_law_266 (fun v105 hf => ?_)
        refine lv_aload_n hx hb dL_law_267 rfl (lv_at hl 0 rfl) ?_
        refine lv_iload hx hb dL_law_268 (lv_at hl 4 rfl) ?_
        refine lv_iconst (v := (4 : Int32)) hx hb dL_law_270 (by decide) ?_
        refine lv_iadd hx hb dL_law_271 ?_
        refine g_aiO9 X hI hf dL_law_272 (fun v106 hf => ?_)
        refine lv_aload_n hx hb dL_law_273 rfl (lv_at hl 0 rfl) ?_
        refine lv_iload hx hb dL_law_274 (lv_at hl 4 rfl) ?_
        refine lv_iconst (v := (5 : Int32)) hx hb dL_law_276 (by decide) ?_
        refine lv_iadd hx hb dL_law_277 ?_
        refine g_aiO9 X hI hf dL_law_278 (fun v107 hf => ?_)
        obtain ⟨hs, hf⟩ := gCk_b hf
        refine g_cBI hI hf (fun v9 h9 e9 l9 l9' => g_rV X hI l9 l9' hRc (As := [.int v103, .int v104, .int v105, .int v106, .int v107]) (m_X1_feed X.2.2.2.2.2.2.2.2.2.2.1 e9) ydX1_feed hs rfl rfl q520 q521 q522 q121 q523 rfl (Nat.le_of_ble_eq_true rfl) (Nat.le_of_ble_eq_true rfl) hl.1 rfl (Nat.le_of_ble_eq_true rfl) dL_law_279) (fun r108 h H locs cells slots hf hI => ?_)
        refine lv_aload_n hx hb dL_law_282 rfl (lv_at hl 2 rfl) ?_
        refine lv_aload_n hx hb dL_law_283 rfl (lv_at hl 0 rfl) ?_
        refine lv_iload hx hb dL_law_284 (lv_at hl 4 rfl) ?_
        refine lv_iconst (v := (1 : Int32)) hx hb dL_law_286 (by decide) ?_
        refine lv_iadd hx hb dL_law_287 ?_
        refine g_aiO9 X hI hf dL_law_288 (fun v109 hf => ?_)
        refine lv_aload_n hx hb dL_law_289 rfl (lv_at hl 0 rfl) ?_
        refine lv_iload hx hb dL_law_290 (lv_at hl 4 rfl) ?_
        refine lv_iconst (v := (2 : Int32)) hx hb dL_law_292 (by decide) ?_
        refine lv_iadd hx hb dL_law_293 ?_
        refine g_aiO9 X hI hf dL_law_294 (fun v110 hf => ?_)
        refine lv_aload_n hx hb dL_law_295 rfl (lv_at hl 0 rfl) ?_
        refine lv_iload hx hb dL_law_296 (lv_at hl 4 rfl) ?_
        refine lv_iconst (v := (3 : Int32)) hx hb dL_law_298 (by decide) ?_
        refine lv_iadd hx hb dL_law_299 ?_
        refine g_aiO9 X hI hf dL_law_300 (fun v111 hf => ?_)
        refine lv_aload_n hx hb dL_law_301 rfl (lv_at hl 0 rfl) ?_
        refine lv_iload hx hb dL_law_302 (lv_at hl 4 rfl) ?_
        refine lv_iconst (v := (4 : Int32)) hx hb dL_law_304 (by decide) ?_
        refine lv_iadd hx hb dL_law_305 ?_
        refine g_aiO9 X hI hf dL_law_306 (fun v112 hf => ?_)
        refine lv_aload_n hx hb dL_law_307 rfl (lv_at hl 0 rfl) ?_
        refine lv_iload hx hb dL_law_308 (lv_at hl 4 rfl) ?_
        refine lv_iconst (v := (5 : Int32)) hx hb dL_law_310 (by decide) ?_
        refine lv_iadd hx hb dL_law_311 ?_
        refine g_aiO9 X hI hf dL_law_312 (fun v113 hf => ?_)
        obtain ⟨hs, hf⟩ := gCk_b hf
        refine g_cBI hI hf (fun v9 h9 e9 l9 l9' => g_rV X hI l9 l9' hRc (As := [.int v109, .int v110, .int v111, .int v112, .int v113]) (m_X8_feed X.2.2.2.2.2.2.2.2.2.2.1 e9) ydX8_feed hs rfl rfl q1571 q1572 q1573 q131 q1574 rfl (Nat.le_of_ble_eq_true rfl) (Nat.le_of_ble_eq_true rfl) hl.1 rfl (Nat.le_of_ble_eq_true rfl) dL_law_313) (fun r114 h H locs cells slots hf hI => ?_)
        refine lv_icmp_eq (tgt := 2492) hx hb dL_law_316 (by decide) (fun c316 => ?_) (fun c316 => ?_)
        · have hf := g_t c316 hf
          exact b_L_law_2492 X hRc hq1 hn9 hbs ih _ _ _ _ _ _ _ _ _ _ _ hf hI (lv_sub hl [0, 1, 2, 3, 4] rfl)
        · have hf := g_f c316 hf
          exact b_L_law_319 X hRc hq1 hn9 hbs _ _ _ _ _ _ hf hI (lv_sub hl [] rfl)
      have hf := g_f c40_0 hf
      by_cases c40_1 : (v102 &&& (63 : Int32)) = (1 : Int32)
      · have hf := g_t c40_1 hf
        refine g_tsIn (k := (1 : Int32)) (off := 281) (tgt := 321) hx hb c40_1 dL_law_40 (by decide) (by decide) rfl (by decide) ?_
        refine lv_aload_n hx hb dL_law_321 rfl (lv_at hl 1 rfl) ?_
        refine lv_aload_n hx hb dL_law_322 rfl (lv_at hl 0 rfl) ?_
        refine lv_iload hx hb dL_law_323 (lv_at hl 4 rfl) ?_
        refine lv_iconst (v := (1 : Int32)) hx hb dL_law_325 (by decide) ?_
        refine lv_iadd hx hb dL_law_326 ?_
        refine g_aiO9 X hI hf dL_law_327 (fun v115 hf => ?_)
        obtain ⟨hs, hf⟩ := gCk_b hf
        refine g_cBI hI hf (fun v9 h9 e9 l9 l9' => g_rV X hI l9 l9' hRc (As := [.int v115]) (m_X1_end X.2.2.2.2.2.2.2.2.2.2.1 e9) ydX1_end hs rfl rfl q528 q529 q530 q121 q531 rfl (Nat.le_of_ble_eq_true rfl) (Nat.le_of_ble_eq_true rfl) hl.1 rfl (Nat.le_of_ble_eq_true rfl) dL_law_328) (fun r116 h H locs cells slots hf hI => ?_)
        refine lv_aload_n hx hb dL_law_331 rfl (lv_at hl 2 rfl) ?_
        refine lv_aload_n hx hb dL_law_332 rfl (lv_at hl 0 rfl) ?_
        refine lv_iload hx hb dL_law_333 (lv_at hl 4 rfl) ?_
        refine lv_iconst (v := (1 : Int32)) hx hb dL_law_335 (by decide) ?_
        refine lv_iadd hx hb dL_law_336 ?_
        refine g_aiO9 X hI hf dL_law_337 (fun v117 hf => ?_)
        obtain ⟨hs, hf⟩ := gCk_b hf
        refine g_cBI hI hf (fun v9 h9 e9 l9 l9' => g_rV X hI l9 l9' hRc (As := [.int v117]) (m_X8_end X.2.2.2.2.2.2.2.2.2.2.1 e9) ydX8_end hs rfl rfl q1575 q1576 q1577 q131 q1578 rfl (Nat.le_of_ble_eq_true rfl) (Nat.le_of_ble_eq_true rfl) hl.1 rfl (Nat.le_of_ble_eq_true rfl) dL_law_338) (fun r118 h H locs cells slots hf hI => ?_)
        refine lv_icmp_eq (tgt := 2492) hx hb dL_law_341 (by decide) (fun c341 => ?_) (fun c341 => ?_)
        · have hf := g_t c341 hf
          exact b_L_law_2492 X hRc hq1 hn9 hbs ih _ _ _ _ _ _ _ _ _ _ _ hf hI (lv_sub hl [0, 1, 2, 3, 4] rfl)
        · have hf := g_f c341 hf
          exact b_L_law_344 X hRc hq1 hn9 hbs _ _ _ _ _ _ hf hI (lv_sub hl [] rfl)
      have hf := g_f c40_1 hf
      by_cases c40_2 : (v102 &&& (63 : Int32)) = (2 : Int32)
      · have hf := g_t c40_2 hf
        refine g_tsIn (k := (2 : Int32)) (off := 306) (tgt := 346) hx hb c40_2 dL_law_40 (by decide) (by decide) rfl (by decide) ?_
        refine lv_aload_n hx hb dL_law_346 rfl (lv_at hl 1 rfl) ?_
        refine lv_aload_n hx hb dL_law_347 rfl (lv_at hl 3 rfl) ?_
        refine g_cBI hI hf (fun v9 h9 e9 l9 l9' => g_rSX (b := 0) X hI l9 l9' hRc (As := [.ref a1, .ref a3]) (m_X0_court X.2.2.2.2.2.2.2.2.2.2.1 e9) ydX0_court q782 q783 q120 q784 rfl (Nat.le_of_ble_eq_true rfl) (Nat.le_of_ble_eq_true rfl) hl.1 rfl (Nat.le_of_ble_eq_true rfl) dL_law_348) (fun r119 h H locs cells slots hf hI => ?_)
        refine lv_istore (lv' := [(5, .int r119), (0, .ref a0), (1, .ref a1), (2, .ref a2), (3, .ref a3), (4, .int x4)]) hx hb dL_law_351 hl (by decide) rfl (fun ls hl => ?_)
        refine lv_aload_n hx hb dL_law_353 rfl (lv_at hl 3 rfl) ?_
        obtain ⟨hs, hf⟩ := gCk_b hf
        refine g_cBI hI hf (fun v9 h9 e9 l9 l9' => g_rV X hI l9 l9' hRc (As := []) (m_X8_court X.2.2.2.2.2.2.2.2.2.2.1 e9) ydX8_court hs rfl rfl q1583 q1584 q1585 q131 q1586 rfl (Nat.le_of_ble_eq_true rfl) (Nat.le_of_ble_eq_true rfl) hl.1 rfl (Nat.le_of_ble_eq_true rfl) dL_law_354) (fun r120 h H locs cells slots hf hI => ?_)
        refine lv_istore (lv' := [(6, .int r120), (5, .int r119), (0, .ref a0), (1, .ref a1), (2, .ref a2), (3, .ref a3), (4, .int x4)]) hx hb dL_law_357 hl (by decide) rfl (fun ls hl => ?_)
        refine lv_aload_n hx hb dL_law_359 rfl (lv_at hl 4 rfl) ?_
        obtain ⟨hs, hf⟩ := gCk_b hf
        refine g_cBI hI hf (fun v9 h9 e9 l9 l9' => g_rV X hI l9 l9' hRc (As := []) (m_X8_thrown X.2.2.2.2.2.2.2.2.2.2.1 e9) ydX8_thrown hs rfl rfl q1434 q1435 q1436 q131 q1437 rfl (Nat.le_of_ble_eq_true rfl) (Nat.le_of_ble_eq_true rfl) hl.1 rfl (Nat.le_of_ble_eq_true rfl) dL_law_360) (fun r121 h H locs cells slots hf hI => ?_)
        refine lv_iload hx hb dL_law_363 (lv_at hl 1 rfl) ?_
        refine lv_icmp_eq (tgt := 370) hx hb dL_law_365 (by decide) (fun c365 => ?_) (fun c365 => ?_)
        · have hf := g_t c365 hf
          refine lv_iload hx hb dL_law_370 (lv_at hl 1 rfl) ?_
          refine lv_if_ne (tgt := 387) hx hb dL_law_372 (by decide) (fun c372 => ?_) (fun c372 => ?_)
          · have hf := g_f c372 hf
            exact b_L_law_387 X hRc hq1 hn9 hbs ih _ _ _ _ _ _ _ _ _ _ _ hf hI (lv_sub hl [2, 3, 4, 5, 6] rfl)
          · have hf := g_t c372 hf
            refine lv_aload_n hx hb dL_law_375 rfl (lv_at hl 5 rfl) ?_
            refine lv_iconst (v := (0 : Int32)) hx hb dL_law_376 (by decide) ?_
            refine g_ai2 X hI hf dL_law_377 (fun v122 hf => ?_)
            refine lv_iload hx hb dL_law_378 (lv_at hl 0 rfl) ?_
            refine lv_i2l hx hb dL_law_380 rfl ?_
            refine W.lcmp hx hb dL_law_381 ?_
            refine lv_if_eq (tgt := 387) hx hb dL_law_382 (by decide) (fun c382 => ?_) (fun c382 => ?_)
            · have hf := g_t c382 hf
              exact b_L_law_387 X hRc hq1 hn9 hbs ih _ _ _ _ _ _ _ _ _ _ _ hf hI (lv_sub hl [2, 3, 4, 5, 6] rfl)
            · have hf := g_f c382 hf
              exact b_L_law_385 X hRc hq1 hn9 hbs _ _ _ _ _ _ hf hI (lv_sub hl [] rfl)
        · have hf := g_f c365 hf
          exact b_L_law_368 X hRc hq1 hn9 hbs _ _ _ _ _ _ hf hI (lv_sub hl [] rfl)
      have hf := g_f c40_2 hf
      by_cases c40_3 : (v102 &&& (63 : Int32)) = (3 : Int32)
      · have hf := g_t c40_3 hf
        refine g_tsIn (k := (3 : Int32)) (off := 350) (tgt := 390) hx hb c40_3 dL_law_40 (by decide) (by decide) rfl (by decide) ?_
        refine lv_aload_n hx hb dL_law_390 rfl (lv_at hl 1 rfl) ?_
        refine lv_aload_n hx hb dL_law_391 rfl (lv_at hl 3 rfl) ?_
        refine g_cBI hI hf (fun v9 h9 e9 l9 l9' => g_rSX (b := 0) X hI l9 l9' hRc (As := [.ref a1, .ref a3]) (m_X0_law X.2.2.2.2.2.2.2.2.2.2.1 e9) ydX0_law q959 q960 q120 q961 rfl (Nat.le_of_ble_eq_true rfl) (Nat.le_of_ble_eq_true rfl) hl.1 rfl (Nat.le_of_ble_eq_true rfl) dL_law_392) (fun r123 h H locs cells slots hf hI => ?_)
        refine lv_istore (lv' := [(5, .int r123), (0, .ref a0), (1, .ref a1), (2, .ref a2), (3, .ref a3), (4, .int x4)]) hx hb dL_law_395 hl (by decide) rfl (fun ls hl => ?_)
        refine lv_aload_n hx hb dL_law_397 rfl (lv_at hl 3 rfl) ?_
        obtain ⟨hs, hf⟩ := gCk_b hf
        refine g_cBI hI hf (fun v9 h9 e9 l9 l9' => g_rV X hI l9 l9' hRc (As := []) (m_X8_law X.2.2.2.2.2.2.2.2.2.2.1 e9) ydX8_law hs rfl rfl q1740 q1741 q1742 q131 q1743 rfl (Nat.le_of_ble_eq_true rfl) (Nat.le_of_ble_eq_true rfl) hl.1 rfl (Nat.le_of_ble_eq_true rfl) dL_law_398) (fun r124 h H locs cells slots hf hI => ?_)
        refine lv_istore (lv' := [(6, .int r124), (5, .int r123), (0, .ref a0), (1, .ref a1), (2, .ref a2), (3, .ref a3), (4, .int x4)]) hx hb dL_law_401 hl (by decide) rfl (fun ls hl => ?_)
        refine lv_aload_n hx hb dL_law_403 rfl (lv_at hl 4 rfl) ?_
        obtain ⟨hs, hf⟩ := gCk_b hf
        refine g_cBI hI hf (fun v9 h9 e9 l9 l9' => g_rV X hI l9 l9' hRc (As := []) (m_X8_thrown X.2.2.2.2.2.2.2.2.2.2.1 e9) ydX8_thrown hs rfl rfl q1434 q1435 q1436 q131 q1437 rfl (Nat.le_of_ble_eq_true rfl) (Nat.le_of_ble_eq_true rfl) hl.1 rfl (Nat.le_of_ble_eq_true rfl) dL_law_404) (fun r125 h H locs cells slots hf hI => ?_)
        refine lv_iload hx hb dL_law_407 (lv_at hl 1 rfl) ?_
        refine lv_icmp_eq (tgt := 414) hx hb dL_law_409 (by decide) (fun c409 => ?_) (fun c409 => ?_)
        · have hf := g_t c409 hf
          refine lv_iload hx hb dL_law_414 (lv_at hl 1 rfl) ?_
          refine lv_if_ne (tgt := 431) hx hb dL_law_416 (by decide) (fun c416 => ?_) (fun c416 => ?_)
          · have hf := g_f c416 hf
            exact b_L_law_431 X hRc hq1 hn9 hbs ih _ _ _ _ _ _ _ _ _ _ _ hf hI (lv_sub hl [2, 3, 4, 5, 6] rfl)
          · have hf := g_t c416 hf
            refine lv_aload_n hx hb dL_law_419 rfl (lv_at hl 5 rfl) ?_
            refine lv_iconst (v := (0 : Int32)) hx hb dL_law_420 (by decide) ?_
            refine g_ai2 X hI hf dL_law_421 (fun v126 hf => ?_)
            refine lv_iload hx hb dL_law_422 (lv_at hl 0 rfl) ?_
            refine lv_i2l hx hb dL_law_424 rfl ?_
            refine W.lcmp hx hb dL_law_425 ?_
            refine lv_if_eq (tgt := 431) hx hb dL_law_426 (by decide) (fun c426 => ?_) (fun c426 => ?_)
            · have hf := g_t c426 hf
              exact b_L_law_431 X hRc hq1 hn9 hbs ih _ _ _ _ _ _ _ _ _ _ _ hf hI (lv_sub hl [2, 3, 4, 5, 6] rfl)
            · have hf := g_f c426 hf
              exact b_L_law_429 X hRc hq1 hn9 hbs _ _ _ _ _ _ hf hI (lv_sub hl [] rfl)
        · have hf := g_f c409 hf
          exact b_L_law_412 X hRc hq1 hn9 hbs _ _ _ _ _ _ hf hI (lv_sub hl [] rfl)
      have hf := g_f c40_3 hf
      by_cases c40_4 : (v102 &&& (63 : Int32)) = (4 : Int32)
      · have hf := g_t c40_4 hf
        refine g_tsIn (k := (4 : Int32)) (off := 394) (tgt := 434) hx hb c40_4 dL_law_40 (by decide) (by decide) rfl (by decide) ?_
        refine lv_aload_n hx hb dL_law_434 rfl (lv_at hl 1 rfl) ?_
        obtain ⟨hs, hf⟩ := gCk_b hf
        refine g_cBI hI hf (fun v9 h9 e9 l9 l9' => g_rV X hI l9 l9' hRc (As := []) (m_X1_fault X.2.2.2.2.2.2.2.2.2.2.1 e9) ydX1_fault hs rfl rfl q535 q536 q537 q121 q538 rfl (Nat.le_of_ble_eq_true rfl) (Nat.le_of_ble_eq_true rfl) hl.1 rfl (Nat.le_of_ble_eq_true rfl) dL_law_435) (fun r127 h H locs cells slots hf hI => ?_)
        refine lv_aload_n hx hb dL_law_438 rfl (lv_at hl 2 rfl) ?_
        obtain ⟨hs, hf⟩ := gCk_b hf
        refine g_cBI hI hf (fun v9 h9 e9 l9 l9' => g_rV X hI l9 l9' hRc (As := []) (m_X8_fault X.2.2.2.2.2.2.2.2.2.2.1 e9) ydX8_fault hs rfl rfl q1579 q1580 q1581 q131 q1582 rfl (Nat.le_of_ble_eq_true rfl) (Nat.le_of_ble_eq_true rfl) hl.1 rfl (Nat.le_of_ble_eq_true rfl) dL_law_439) (fun r128 h H locs cells slots hf hI => ?_)
        refine lv_icmp_eq (tgt := 2492) hx hb dL_law_442 (by decide) (fun c442 => ?_) (fun c442 => ?_)
        · have hf := g_t c442 hf
          exact b_L_law_2492 X hRc hq1 hn9 hbs ih _ _ _ _ _ _ _ _ _ _ _ hf hI (lv_sub hl [0, 1, 2, 3, 4] rfl)
        · have hf := g_f c442 hf
          exact b_L_law_445 X hRc hq1 hn9 hbs _ _ _ _ _ _ hf hI (lv_sub hl [] rfl)
      have hf := g_f c40_4 hf
      by_cases c40_5 : (v102 &&& (63 : Int32)) = (5 : Int32)
      · have hf := g_t c40_5 hf
        refine g_tsIn (k := (5 : Int32)) (off := 407) (tgt := 447) hx hb c40_5 dL_law_40 (by decide) (by decide) rfl (by decide) ?_
        refine lv_aload_n hx hb dL_law_447 rfl (lv_at hl 1 rfl) ?_
        refine lv_aload_n hx hb dL_law_448 rfl (lv_at hl 0 rfl) ?_
        refine lv_iload hx hb dL_law_449 (lv_at hl 4 rfl) ?_
        refine lv_iconst (v := (1 : Int32)) hx hb dL_law_451 (by decide) ?_
        refine lv_iadd hx hb dL_law_452 ?_
        refine g_aiO9 X hI hf dL_law_453 (fun v129 hf => ?_)
        refine lv_aload_n hx hb dL_law_454 rfl (lv_at hl 0 rfl) ?_
        refine lv_iload hx hb dL_law_455 (lv_at hl 4 rfl) ?_
        refine lv_iconst (v := (2 : Int32)) hx hb dL_law_457 (by decide) ?_
        refine lv_iadd hx hb dL_law_458 ?_
        refine g_aiO9 X hI hf dL_law_459 (fun v130 hf => ?_)
        refine lv_aload_n hx hb dL_law_460 rfl (lv_at hl 3 rfl) ?_
        refine g_cBI hI hf (fun v9 h9 e9 l9 l9' => g_rSX (b := 0) X hI l9 l9' hRc (As := [.ref a1, .int v129, .int v130, .ref a3]) (m_X0_prop X.2.2.2.2.2.2.2.2.2.2.1 e9) ydX0_prop q1095 q1096 q120 q1097 rfl (Nat.le_of_ble_eq_true rfl) (Nat.le_of_ble_eq_true rfl) hl.1 rfl (Nat.le_of_ble_eq_true rfl) dL_law_461) (fun r131 h H locs cells slots hf hI => ?_)
        refine lv_istore (lv' := [(5, .int r131), (0, .ref a0), (1, .ref a1), (2, .ref a2), (3, .ref a3), (4, .int x4)]) hx hb dL_law_464 hl (by decide) rfl (fun ls hl => ?_)
        refine lv_aload_n hx hb dL_law_466 rfl (lv_at hl 3 rfl) ?_
        refine lv_aload_n hx hb dL_law_467 rfl (lv_at hl 1 rfl) ?_
        refine lv_iload hx hb dL_law_468 (lv_at hl 5 rfl) ?_
        refine lv_iconst (v := (1 : Int32)) hx hb dL_law_470 (by decide) ?_
        refine lv_iadd hx hb dL_law_471 ?_
        refine g_aiO9 X hI hf dL_law_472 (fun v132 hf => ?_)
        refine lv_aload_n hx hb dL_law_473 rfl (lv_at hl 1 rfl) ?_
        refine lv_iload hx hb dL_law_474 (lv_at hl 5 rfl) ?_
        refine lv_iconst (v := (2 : Int32)) hx hb dL_law_476 (by decide) ?_
        refine lv_iadd hx hb dL_law_477 ?_
        refine g_aiO9 X hI hf dL_law_478 (fun v133 hf => ?_)
        obtain ⟨hs, hf⟩ := gCk_b hf
        refine g_cBI hI hf (fun v9 h9 e9 l9 l9' => g_rV X hI l9 l9' hRc (As := [.int v132, .int v133]) (m_X8_prop X.2.2.2.2.2.2.2.2.2.2.1 e9) ydX8_prop hs rfl rfl q1744 q1745 q1746 q131 q1747 rfl (Nat.le_of_ble_eq_true rfl) (Nat.le_of_ble_eq_true rfl) hl.1 rfl (Nat.le_of_ble_eq_true rfl) dL_law_479) (fun r134 h H locs cells slots hf hI => ?_)
        refine lv_istore (lv' := [(6, .int r134), (5, .int r131), (0, .ref a0), (1, .ref a1), (2, .ref a2), (3, .ref a3), (4, .int x4)]) hx hb dL_law_482 hl (by decide) rfl (fun ls hl => ?_)
        refine lv_aload_n hx hb dL_law_484 rfl (lv_at hl 4 rfl) ?_
        obtain ⟨hs, hf⟩ := gCk_b hf
        refine g_cBI hI hf (fun v9 h9 e9 l9 l9' => g_rV X hI l9 l9' hRc (As := []) (m_X8_thrown X.2.2.2.2.2.2.2.2.2.2.1 e9) ydX8_thrown hs rfl rfl q1434 q1435 q1436 q131 q1437 rfl (Nat.le_of_ble_eq_true rfl) (Nat.le_of_ble_eq_true rfl) hl.1 rfl (Nat.le_of_ble_eq_true rfl) dL_law_485) (fun r135 h H locs cells slots hf hI => ?_)
        refine lv_iload hx hb dL_law_488 (lv_at hl 1 rfl) ?_
        refine lv_icmp_eq (tgt := 495) hx hb dL_law_490 (by decide) (fun c490 => ?_) (fun c490 => ?_)
        · have hf := g_t c490 hf
          refine lv_iload hx hb dL_law_495 (lv_at hl 1 rfl) ?_
          refine lv_if_ne (tgt := 512) hx hb dL_law_497 (by decide) (fun c497 => ?_) (fun c497 => ?_)
          · have hf := g_f c497 hf
            exact b_L_law_512 X hRc hq1 hn9 hbs ih _ _ _ _ _ _ _ _ _ _ _ hf hI (lv_sub hl [2, 3, 4, 5, 6] rfl)
          · have hf := g_t c497 hf
            refine lv_aload_n hx hb dL_law_500 rfl (lv_at hl 5 rfl) ?_
            refine lv_iconst (v := (0 : Int32)) hx hb dL_law_501 (by decide) ?_
            refine g_ai2 X hI hf dL_law_502 (fun v136 hf => ?_)
            refine lv_iload hx hb dL_law_503 (lv_at hl 0 rfl) ?_
            refine lv_i2l hx hb dL_law_505 rfl ?_
            refine W.lcmp hx hb dL_law_506 ?_
            refine lv_if_eq (tgt := 512) hx hb dL_law_507 (by decide) (fun c507 => ?_) (fun c507 => ?_)
            · have hf := g_t c507 hf
              exact b_L_law_512 X hRc hq1 hn9 hbs ih _ _ _ _ _ _ _ _ _ _ _ hf hI (lv_sub hl [2, 3, 4, 5, 6] rfl)
            · have hf := g_f c507 hf
              exact b_L_law_510 X hRc hq1 hn9 hbs _ _ _ _ _ _ hf hI (lv_sub hl [] rfl)
        · have hf := g_f c490 hf
          exact b_L_law_493 X hRc hq1 hn9 hbs _ _ _ _ _ _ hf hI (lv_sub hl [] rfl)
      have hf := g_f c40_5 hf
      by_cases c40_6 : (v102 &&& (63 : Int32)) = (6 : Int32)
      · have hf := g_t c40_6 hf
        refine g_tsIn (k := (6 : Int32)) (off := 475) (tgt := 515) hx hb c40_6 dL_law_40 (by decide) (by decide) rfl (by decide) ?_
        refine lv_aload_n hx hb dL_law_515 rfl (lv_at hl 1 rfl) ?_
        refine lv_aload_n hx hb dL_law_516 rfl (lv_at hl 0 rfl) ?_
        refine lv_iload hx hb dL_law_517 (lv_at hl 4 rfl) ?_
        refine lv_iconst (v := (1 : Int32)) hx hb dL_law_519 (by decide) ?_
        refine lv_iadd hx hb dL_law_520 ?_
        refine g_aiO9 X hI hf dL_law_521 (fun v137 hf => ?_)
        refine lv_aload_n hx hb dL_law_522 rfl (lv_at hl 3 rfl) ?_
        refine g_cBI hI hf (fun v9 h9 e9 l9 l9' => g_rSX (b := 0) X hI l9 l9' hRc (As := [.ref a1, .int v137, .ref a3]) (m_X0_slot X.2.2.2.2.2.2.2.2.2.2.1 e9) ydX0_slot q1172 q1173 q120 q1174 rfl (Nat.le_of_ble_eq_true rfl) (Nat.le_of_ble_eq_true rfl) hl.1 rfl (Nat.le_of_ble_eq_true rfl) dL_law_523) (fun r138 h H locs cells slots hf hI => ?_)
        refine lv_istore (lv' := [(5, .int r138), (0, .ref a0), (1, .ref a1), (2, .ref a2), (3, .ref a3), (4, .int x4)]) hx hb dL_law_526 hl (by decide) rfl (fun ls hl => ?_)
        refine lv_aload_n hx hb dL_law_528 rfl (lv_at hl 3 rfl) ?_
        refine lv_aload_n hx hb dL_law_529 rfl (lv_at hl 1 rfl) ?_
        refine lv_iload hx hb dL_law_530 (lv_at hl 5 rfl) ?_
        refine lv_iconst (v := (1 : Int32)) hx hb dL_law_532 (by decide) ?_
        refine lv_iadd hx hb dL_law_533 ?_
        refine g_aiO9 X hI hf dL_law_534 (fun v139 hf => ?_)
        obtain ⟨hs, hf⟩ := gCk_b hf
        refine g_cBI hI hf (fun v9 h9 e9 l9 l9' => g_rV X hI l9 l9' hRc (As := [.int v139]) (m_X8_slot X.2.2.2.2.2.2.2.2.2.2.1 e9) ydX8_slot hs rfl rfl q1752 q1753 q1754 q131 q1755 rfl (Nat.le_of_ble_eq_true rfl) (Nat.le_of_ble_eq_true rfl) hl.1 rfl (Nat.le_of_ble_eq_true rfl) dL_law_535) (fun r140 h H locs cells slots hf hI => ?_)
        refine lv_istore (lv' := [(6, .int r140), (5, .int r138), (0, .ref a0), (1, .ref a1), (2, .ref a2), (3, .ref a3), (4, .int x4)]) hx hb dL_law_538 hl (by decide) rfl (fun ls hl => ?_)
        refine lv_aload_n hx hb dL_law_540 rfl (lv_at hl 4 rfl) ?_
        obtain ⟨hs, hf⟩ := gCk_b hf
        refine g_cBI hI hf (fun v9 h9 e9 l9 l9' => g_rV X hI l9 l9' hRc (As := []) (m_X8_thrown X.2.2.2.2.2.2.2.2.2.2.1 e9) ydX8_thrown hs rfl rfl q1434 q1435 q1436 q131 q1437 rfl (Nat.le_of_ble_eq_true rfl) (Nat.le_of_ble_eq_true rfl) hl.1 rfl (Nat.le_of_ble_eq_true rfl) dL_law_541) (fun r141 h H locs cells slots hf hI => ?_)
        refine lv_iload hx hb dL_law_544 (lv_at hl 1 rfl) ?_
        refine lv_icmp_eq (tgt := 551) hx hb dL_law_546 (by decide) (fun c546 => ?_) (fun c546 => ?_)
        · have hf := g_t c546 hf
          refine lv_iload hx hb dL_law_551 (lv_at hl 1 rfl) ?_
          refine lv_if_ne (tgt := 568) hx hb dL_law_553 (by decide) (fun c553 => ?_) (fun c553 => ?_)
          · have hf := g_f c553 hf
            exact b_L_law_568 X hRc hq1 hn9 hbs ih _ _ _ _ _ _ _ _ _ _ _ hf hI (lv_sub hl [2, 3, 4, 5, 6] rfl)
          · have hf := g_t c553 hf
            refine lv_aload_n hx hb dL_law_556 rfl (lv_at hl 5 rfl) ?_
            refine lv_iconst (v := (0 : Int32)) hx hb dL_law_557 (by decide) ?_
            refine g_ai2 X hI hf dL_law_558 (fun v142 hf => ?_)
            refine lv_iload hx hb dL_law_559 (lv_at hl 0 rfl) ?_
            refine lv_i2l hx hb dL_law_561 rfl ?_
            refine W.lcmp hx hb dL_law_562 ?_
            refine lv_if_eq (tgt := 568) hx hb dL_law_563 (by decide) (fun c563 => ?_) (fun c563 => ?_)
            · have hf := g_t c563 hf
              exact b_L_law_568 X hRc hq1 hn9 hbs ih _ _ _ _ _ _ _ _ _ _ _ hf hI (lv_sub hl [2, 3, 4, 5, 6] rfl)
            · have hf := g_f c563 hf
              exact b_L_law_566 X hRc hq1 hn9 hbs _ _ _ _ _ _ hf hI (lv_sub hl [] rfl)
        · have hf := g_f c546 hf
          exact b_L_law_549 X hRc hq1 hn9 hbs _ _ _ _ _ _ hf hI (lv_sub hl [] rfl)
      have hf := g_f c40_6 hf
      by_cases c40_7 : (v102 &&& (63 : Int32)) = (7 : Int32)
      · have hf := g_t c40_7 hf
        refine g_tsIn (k := (7 : Int32)) (off := 531) (tgt := 571) hx hb c40_7 dL_law_40 (by decide) (by decide) rfl (by decide) ?_
        refine lv_aload_n hx hb dL_law_571 rfl (lv_at hl 1 rfl) ?_
        refine lv_aload_n hx hb dL_law_572 rfl (lv_at hl 0 rfl) ?_
        refine lv_iload hx hb dL_law_573 (lv_at hl 4 rfl) ?_
        refine lv_iconst (v := (1 : Int32)) hx hb dL_law_575 (by decide) ?_
        refine lv_iadd hx hb dL_law_576 ?_
        refine g_aiO9 X hI hf dL_law_577 (fun v143 hf => ?_)
        refine lv_aload_n hx hb dL_law_578 rfl (lv_at hl 0 rfl) ?_
        refine lv_iload hx hb dL_law_579 (lv_at hl 4 rfl) ?_
        refine lv_iconst (v := (2 : Int32)) hx hb dL_law_581 (by decide) ?_
        refine lv_iadd hx hb dL_law_582 ?_
        refine g_aiO9 X hI hf dL_law_583 (fun v144 hf => ?_)
        refine lv_aload_n hx hb dL_law_584 rfl (lv_at hl 3 rfl) ?_
        refine g_cBI hI hf (fun v9 h9 e9 l9 l9' => g_rSX (b := 0) X hI l9 l9' hRc (As := [.ref a1, .int v143, .int v144, .ref a3]) (m_X0_accused X.2.2.2.2.2.2.2.2.2.2.1 e9) ydX0_accused q1182 q1183 q120 q1184 rfl (Nat.le_of_ble_eq_true rfl) (Nat.le_of_ble_eq_true rfl) hl.1 rfl (Nat.le_of_ble_eq_true rfl) dL_law_585) (fun r145 h H locs cells slots hf hI => ?_)
        refine lv_istore (lv' := [(5, .int r145), (0, .ref a0), (1, .ref a1), (2, .ref a2), (3, .ref a3), (4, .int x4)]) hx hb dL_law_588 hl (by decide) rfl (fun ls hl => ?_)
        refine lv_aload_n hx hb dL_law_590 rfl (lv_at hl 3 rfl) ?_
        refine lv_aload_n hx hb dL_law_591 rfl (lv_at hl 1 rfl) ?_
        refine lv_iload hx hb dL_law_592 (lv_at hl 5 rfl) ?_
        refine lv_iconst (v := (1 : Int32)) hx hb dL_law_594 (by decide) ?_
        refine lv_iadd hx hb dL_law_595 ?_
        refine g_aiO9 X hI hf dL_law_596 (fun v146 hf => ?_)
        refine lv_aload_n hx hb dL_law_597 rfl (lv_at hl 1 rfl) ?_
        refine lv_iload hx hb dL_law_598 (lv_at hl 5 rfl) ?_
        refine lv_iconst (v := (2 : Int32)) hx hb dL_law_600 (by decide) ?_
        refine lv_iadd hx hb dL_law_601 ?_
        refine g_aiO9 X hI hf dL_law_602 (fun v147 hf => ?_)
        obtain ⟨hs, hf⟩ := gCk_b hf
        refine g_cBI hI hf (fun v9 h9 e9 l9 l9' => g_rV X hI l9 l9' hRc (As := [.int v146, .int v147]) (m_X8_accused X.2.2.2.2.2.2.2.2.2.2.1 e9) ydX8_accused hs rfl rfl q1759 q1760 q1761 q131 q1762 rfl (Nat.le_of_ble_eq_true rfl) (Nat.le_of_ble_eq_true rfl) hl.1 rfl (Nat.le_of_ble_eq_true rfl) dL_law_603) (fun r148 h H locs cells slots hf hI => ?_)
        refine lv_istore (lv' := [(6, .int r148), (5, .int r145), (0, .ref a0), (1, .ref a1), (2, .ref a2), (3, .ref a3), (4, .int x4)]) hx hb dL_law_606 hl (by decide) rfl (fun ls hl => ?_)
        refine lv_aload_n hx hb dL_law_608 rfl (lv_at hl 4 rfl) ?_
        obtain ⟨hs, hf⟩ := gCk_b hf
        refine g_cBI hI hf (fun v9 h9 e9 l9 l9' => g_rV X hI l9 l9' hRc (As := []) (m_X8_thrown X.2.2.2.2.2.2.2.2.2.2.1 e9) ydX8_thrown hs rfl rfl q1434 q1435 q1436 q131 q1437 rfl (Nat.le_of_ble_eq_true rfl) (Nat.le_of_ble_eq_true rfl) hl.1 rfl (Nat.le_of_ble_eq_true rfl) dL_law_609) (fun r149 h H locs cells slots hf hI => ?_)
        refine lv_iload hx hb dL_law_612 (lv_at hl 1 rfl) ?_
        refine lv_icmp_eq (tgt := 619) hx hb dL_law_614 (by decide) (fun c614 => ?_) (fun c614 => ?_)
        · have hf := g_t c614 hf
          refine lv_iload hx hb dL_law_619 (lv_at hl 1 rfl) ?_
          refine lv_if_ne (tgt := 636) hx hb dL_law_621 (by decide) (fun c621 => ?_) (fun c621 => ?_)
          · have hf := g_f c621 hf
            exact b_L_law_636 X hRc hq1 hn9 hbs ih _ _ _ _ _ _ _ _ _ _ _ hf hI (lv_sub hl [2, 3, 4, 5, 6] rfl)
          · have hf := g_t c621 hf
            refine lv_aload_n hx hb dL_law_624 rfl (lv_at hl 5 rfl) ?_
            refine lv_iconst (v := (0 : Int32)) hx hb dL_law_625 (by decide) ?_
            refine g_ai2 X hI hf dL_law_626 (fun v150 hf => ?_)
            refine lv_iload hx hb dL_law_627 (lv_at hl 0 rfl) ?_
            refine lv_i2l hx hb dL_law_629 rfl ?_
            refine W.lcmp hx hb dL_law_630 ?_
            refine lv_if_eq (tgt := 636) hx hb dL_law_631 (by decide) (fun c631 => ?_) (fun c631 => ?_)
            · have hf := g_t c631 hf
              exact b_L_law_636 X hRc hq1 hn9 hbs ih _ _ _ _ _ _ _ _ _ _ _ hf hI (lv_sub hl [2, 3, 4, 5, 6] rfl)
            · have hf := g_f c631 hf
              exact b_L_law_634 X hRc hq1 hn9 hbs _ _ _ _ _ _ hf hI (lv_sub hl [] rfl)
        · have hf := g_f c614 hf
          exact b_L_law_617 X hRc hq1 hn9 hbs _ _ _ _ _ _ hf hI (lv_sub hl [] rfl)
      have hf := g_f c40_7 hf
      by_cases c40_8 : (v102 &&& (63 : Int32)) = (8 : Int32)
      · have hf := g_t c40_8 hf
        refine g_tsIn (k := (8 : Int32)) (off := 599) (tgt := 639) hx hb c40_8 dL_law_40 (by decide) (by decide) rfl (by decide) ?_
        refine lv_aload_n hx hb dL_law_639 rfl (lv_at hl 1 rfl) ?_
        refine lv_aload_n hx hb dL_law_640 rfl (lv_at hl 0 rfl) ?_
        refine lv_iload hx hb dL_law_641 (lv_at hl 4 rfl) ?_
        refine lv_iconst (v := (1 : Int32)) hx hb dL_law_643 (by decide) ?_
        refine lv_iadd hx hb dL_law_644 ?_
        refine g_aiO9 X hI hf dL_law_645 (fun v151 hf => ?_)
        refine lv_aload_n hx hb dL_law_646 rfl (lv_at hl 0 rfl) ?_
        refine lv_iload hx hb dL_law_647 (lv_at hl 4 rfl) ?_
        refine lv_iconst (v := (2 : Int32)) hx hb dL_law_649 (by decide) ?_
        refine lv_iadd hx hb dL_law_650 ?_
        refine g_aiO9 X hI hf dL_law_651 (fun v152 hf => ?_)
        refine lv_aload_n hx hb dL_law_652 rfl (lv_at hl 0 rfl) ?_
        refine lv_iload hx hb dL_law_653 (lv_at hl 4 rfl) ?_
        refine lv_iconst (v := (3 : Int32)) hx hb dL_law_655 (by decide) ?_
        refine lv_iadd hx hb dL_law_656 ?_
        refine g_aiO9 X hI hf dL_law_657 (fun v153 hf => ?_)
        refine lv_aload_n hx hb dL_law_658 rfl (lv_at hl 0 rfl) ?_
        refine lv_iload hx hb dL_law_659 (lv_at hl 4 rfl) ?_
        refine lv_iconst (v := (4 : Int32)) hx hb dL_law_661 (by decide) ?_
        refine lv_iadd hx hb dL_law_662 ?_
        refine g_aiO9 X hI hf dL_law_663 (fun v154 hf => ?_)
        refine lv_if_eq (tgt := 671) hx hb dL_law_664 (by decide) (fun c664 => ?_) (fun c664 => ?_)
        · have hf := g_t c664 hf
          refine lv_iconst (v := (0 : Int32)) hx hb dL_law_671 (by decide) ?_
          exact b_L_law_672 X hRc hq1 hn9 hbs ih _ _ _ _ _ _ _ _ _ _ _ _ _ _ _ _ hf hI (lv_sub hl [0, 1, 2, 3, 4] rfl)
        · have hf := g_f c664 hf
          refine lv_iconst (v := (1 : Int32)) hx hb dL_law_667 (by decide) ?_
          refine lv_goto (tgt := 672) hx hb dL_law_668 (by decide) ?_
          exact b_L_law_672 X hRc hq1 hn9 hbs ih _ _ _ _ _ _ _ _ _ _ _ _ _ _ _ _ hf hI (lv_sub hl [0, 1, 2, 3, 4] rfl)
      have hf := g_f c40_8 hf
      by_cases c40_9 : (v102 &&& (63 : Int32)) = (9 : Int32)
      · have hf := g_t c40_9 hf
        refine g_tsIn (k := (9 : Int32)) (off := 707) (tgt := 747) hx hb c40_9 dL_law_40 (by decide) (by decide) rfl (by decide) ?_
        refine lv_aload_n hx hb dL_law_747 rfl (lv_at hl 1 rfl) ?_
        refine lv_aload_n hx hb dL_law_748 rfl (lv_at hl 0 rfl) ?_
        refine lv_iload hx hb dL_law_749 (lv_at hl 4 rfl) ?_
        refine lv_iconst (v := (1 : Int32)) hx hb dL_law_751 (by decide) ?_
        refine lv_iadd hx hb dL_law_752 ?_
        refine g_aiO9 X hI hf dL_law_753 (fun v155 hf => ?_)
        refine lv_aload_n hx hb dL_law_754 rfl (lv_at hl 3 rfl) ?_
        refine g_cBI hI hf (fun v9 h9 e9 l9 l9' => g_rSX (b := 0) X hI l9 l9' hRc (As := [.ref a1, .int v155, .ref a3]) (m_X0_send X.2.2.2.2.2.2.2.2.2.2.1 e9) ydX0_send q1204 q1205 q120 q1206 rfl (Nat.le_of_ble_eq_true rfl) (Nat.le_of_ble_eq_true rfl) hl.1 rfl (Nat.le_of_ble_eq_true rfl) dL_law_755) (fun r156 h H locs cells slots hf hI => ?_)
        refine lv_istore (lv' := [(5, .int r156), (0, .ref a0), (1, .ref a1), (2, .ref a2), (3, .ref a3), (4, .int x4)]) hx hb dL_law_758 hl (by decide) rfl (fun ls hl => ?_)
        refine lv_aload_n hx hb dL_law_760 rfl (lv_at hl 3 rfl) ?_
        refine lv_aload_n hx hb dL_law_761 rfl (lv_at hl 1 rfl) ?_
        refine lv_iload hx hb dL_law_762 (lv_at hl 5 rfl) ?_
        refine lv_iconst (v := (1 : Int32)) hx hb dL_law_764 (by decide) ?_
        refine lv_iadd hx hb dL_law_765 ?_
        refine g_aiO9 X hI hf dL_law_766 (fun v157 hf => ?_)
        obtain ⟨hs, hf⟩ := gCk_b hf
        refine g_cBI hI hf (fun v9 h9 e9 l9 l9' => g_rV X hI l9 l9' hRc (As := [.int v157]) (m_X8_send X.2.2.2.2.2.2.2.2.2.2.1 e9) ydX8_send hs rfl rfl q1800 q1801 q1802 q131 q1803 rfl (Nat.le_of_ble_eq_true rfl) (Nat.le_of_ble_eq_true rfl) hl.1 rfl (Nat.le_of_ble_eq_true rfl) dL_law_767) (fun r158 h H locs cells slots hf hI => ?_)
        refine lv_istore (lv' := [(6, .int r158), (5, .int r156), (0, .ref a0), (1, .ref a1), (2, .ref a2), (3, .ref a3), (4, .int x4)]) hx hb dL_law_770 hl (by decide) rfl (fun ls hl => ?_)
        refine lv_aload_n hx hb dL_law_772 rfl (lv_at hl 4 rfl) ?_
        obtain ⟨hs, hf⟩ := gCk_b hf
        refine g_cBI hI hf (fun v9 h9 e9 l9 l9' => g_rV X hI l9 l9' hRc (As := []) (m_X8_thrown X.2.2.2.2.2.2.2.2.2.2.1 e9) ydX8_thrown hs rfl rfl q1434 q1435 q1436 q131 q1437 rfl (Nat.le_of_ble_eq_true rfl) (Nat.le_of_ble_eq_true rfl) hl.1 rfl (Nat.le_of_ble_eq_true rfl) dL_law_773) (fun r159 h H locs cells slots hf hI => ?_)
        refine lv_iload hx hb dL_law_776 (lv_at hl 1 rfl) ?_
        refine lv_icmp_eq (tgt := 783) hx hb dL_law_778 (by decide) (fun c778 => ?_) (fun c778 => ?_)
        · have hf := g_t c778 hf
          refine lv_iload hx hb dL_law_783 (lv_at hl 1 rfl) ?_
          refine lv_if_ne (tgt := 800) hx hb dL_law_785 (by decide) (fun c785 => ?_) (fun c785 => ?_)
          · have hf := g_f c785 hf
            exact b_L_law_800 X hRc hq1 hn9 hbs ih _ _ _ _ _ _ _ _ _ _ _ hf hI (lv_sub hl [2, 3, 4, 5, 6] rfl)
          · have hf := g_t c785 hf
            refine lv_aload_n hx hb dL_law_788 rfl (lv_at hl 5 rfl) ?_
            refine lv_iconst (v := (0 : Int32)) hx hb dL_law_789 (by decide) ?_
            refine g_ai2 X hI hf dL_law_790 (fun v160 hf => ?_)
            refine lv_iload hx hb dL_law_791 (lv_at hl 0 rfl) ?_
            refine lv_i2l hx hb dL_law_793 rfl ?_
            refine W.lcmp hx hb dL_law_794 ?_
            refine lv_if_eq (tgt := 800) hx hb dL_law_795 (by decide) (fun c795 => ?_) (fun c795 => ?_)
            · have hf := g_t c795 hf
              exact b_L_law_800 X hRc hq1 hn9 hbs ih _ _ _ _ _ _ _ _ _ _ _ hf hI (lv_sub hl [2, 3, 4, 5, 6] rfl)
            · have hf := g_f c795 hf
              exact b_L_law_798 X hRc hq1 hn9 hbs _ _ _ _ _ _ hf hI (lv_sub hl [] rfl)
        · have hf := g_f c778 hf
          exact b_L_law_781 X hRc hq1 hn9 hbs _ _ _ _ _ _ hf hI (lv_sub hl [] rfl)
      have hf := g_f c40_9 hf
      by_cases c40_10 : (v102 &&& (63 : Int32)) = (10 : Int32)
      · have hf := g_t c40_10 hf
        refine g_tsIn (k := (10 : Int32)) (off := 763) (tgt := 803) hx hb c40_10 dL_law_40 (by decide) (by decide) rfl (by decide) ?_
        refine lv_aload_n hx hb dL_law_803 rfl (lv_at hl 1 rfl) ?_
        refine lv_aload_n hx hb dL_law_804 rfl (lv_at hl 0 rfl) ?_
        refine lv_iload hx hb dL_law_805 (lv_at hl 4 rfl) ?_
        refine lv_iconst (v := (1 : Int32)) hx hb dL_law_807 (by decide) ?_
        refine lv_iadd hx hb dL_law_808 ?_
        refine g_aiO9 X hI hf dL_law_809 (fun v161 hf => ?_)
        refine lv_aload_n hx hb dL_law_810 rfl (lv_at hl 0 rfl) ?_
        refine lv_iload hx hb dL_law_811 (lv_at hl 4 rfl) ?_
        refine lv_iconst (v := (2 : Int32)) hx hb dL_law_813 (by decide) ?_
        refine lv_iadd hx hb dL_law_814 ?_
        refine g_aiO9 X hI hf dL_law_815 (fun v162 hf => ?_)
        refine g_cBI hI hf (fun v9 h9 e9 l9 l9' => g_rSX (b := 0) X hI l9 l9' hRc (As := [.ref a1, .int v161, .int v162]) (m_X0_nail X.2.2.2.2.2.2.2.2.2.2.1 e9) ydX0_nail q1238 q1239 q120 q1240 rfl (Nat.le_of_ble_eq_true rfl) (Nat.le_of_ble_eq_true rfl) hl.1 rfl (Nat.le_of_ble_eq_true rfl) dL_law_816) (fun r163 h H locs cells slots hf hI => ?_)
        refine lv_istore (lv' := [(5, .int r163), (0, .ref a0), (1, .ref a1), (2, .ref a2), (3, .ref a3), (4, .int x4)]) hx hb dL_law_819 hl (by decide) rfl (fun ls hl => ?_)
        refine lv_aload_n hx hb dL_law_821 rfl (lv_at hl 3 rfl) ?_
        refine lv_aload_n hx hb dL_law_822 rfl (lv_at hl 1 rfl) ?_
        refine lv_iload hx hb dL_law_823 (lv_at hl 5 rfl) ?_
        refine lv_iconst (v := (1 : Int32)) hx hb dL_law_825 (by decide) ?_
        refine lv_iadd hx hb dL_law_826 ?_
        refine g_aiO9 X hI hf dL_law_827 (fun v164 hf => ?_)
        refine lv_aload_n hx hb dL_law_828 rfl (lv_at hl 1 rfl) ?_
        refine lv_iload hx hb dL_law_829 (lv_at hl 5 rfl) ?_
        refine lv_iconst (v := (2 : Int32)) hx hb dL_law_831 (by decide) ?_
        refine lv_iadd hx hb dL_law_832 ?_
        refine g_aiO9 X hI hf dL_law_833 (fun v165 hf => ?_)
        obtain ⟨hs, hf⟩ := gCk_b hf
        refine g_cBU hI hf (fun v9 h9 e9 l9 l9' => g_rV X hI l9 l9' hRc (As := [.int v164, .int v165]) (m_X8_nail X.2.2.2.2.2.2.2.2.2.2.1 e9) ydX8_nail hs rfl rfl q1846 q1847 q1848 q131 q1849 rfl (Nat.le_of_ble_eq_true rfl) (Nat.le_of_ble_eq_true rfl) hl.1 rfl (Nat.le_of_ble_eq_true rfl) dL_law_834) (fun r166 h H locs cells slots hf hI => ?_)
        refine lv_aload_n hx hb dL_law_837 rfl (lv_at hl 3 rfl) ?_
        obtain ⟨hs, hf⟩ := gCk_b hf
        refine g_cBI hI hf (fun v9 h9 e9 l9 l9' => g_rV X hI l9 l9' hRc (As := []) (m_X8_thrown X.2.2.2.2.2.2.2.2.2.2.1 e9) ydX8_thrown hs rfl rfl q1434 q1435 q1436 q131 q1437 rfl (Nat.le_of_ble_eq_true rfl) (Nat.le_of_ble_eq_true rfl) hl.1 rfl (Nat.le_of_ble_eq_true rfl) dL_law_838) (fun r167 h H locs cells slots hf hI => ?_)
        refine lv_iload hx hb dL_law_841 (lv_at hl 0 rfl) ?_
        refine lv_icmp_eq (tgt := 848) hx hb dL_law_843 (by decide) (fun c843 => ?_) (fun c843 => ?_)
        · have hf := g_t c843 hf
          refine lv_goto (tgt := 2492) hx hb dL_law_848 (by decide) ?_
          exact b_L_law_2492 X hRc hq1 hn9 hbs ih _ _ _ _ _ _ _ _ _ _ _ hf hI (lv_sub hl [1, 2, 3, 4, 5] rfl)
        · have hf := g_f c843 hf
          exact b_L_law_846 X hRc hq1 hn9 hbs _ _ _ _ _ _ hf hI (lv_sub hl [] rfl)
      have hf := g_f c40_10 hf
      by_cases c40_11 : (v102 &&& (63 : Int32)) = (11 : Int32)
      · have hf := g_t c40_11 hf
        refine g_tsIn (k := (11 : Int32)) (off := 811) (tgt := 851) hx hb c40_11 dL_law_40 (by decide) (by decide) rfl (by decide) ?_
        refine lv_aload_n hx hb dL_law_851 rfl (lv_at hl 1 rfl) ?_
        refine lv_aload_n hx hb dL_law_852 rfl (lv_at hl 0 rfl) ?_
        refine lv_iload hx hb dL_law_853 (lv_at hl 4 rfl) ?_
        refine lv_iconst (v := (1 : Int32)) hx hb dL_law_855 (by decide) ?_
        refine lv_iadd hx hb dL_law_856 ?_
        refine g_aiO9 X hI hf dL_law_857 (fun v168 hf => ?_)
        refine lv_aload_n hx hb dL_law_858 rfl (lv_at hl 3 rfl) ?_
        refine g_cBI hI hf (fun v9 h9 e9 l9 l9' => g_rSX (b := 0) X hI l9 l9' hRc (As := [.ref a1, .int v168, .ref a3]) (m_X0_down X.2.2.2.2.2.2.2.2.2.2.1 e9) ydX0_down q1246 q1247 q120 q1248 rfl (Nat.le_of_ble_eq_true rfl) (Nat.le_of_ble_eq_true rfl) hl.1 rfl (Nat.le_of_ble_eq_true rfl) dL_law_859) (fun r169 h H locs cells slots hf hI => ?_)
        refine lv_istore (lv' := [(5, .int r169), (0, .ref a0), (1, .ref a1), (2, .ref a2), (3, .ref a3), (4, .int x4)]) hx hb dL_law_862 hl (by decide) rfl (fun ls hl => ?_)
        refine lv_aload_n hx hb dL_law_864 rfl (lv_at hl 3 rfl) ?_
        refine lv_aload_n hx hb dL_law_865 rfl (lv_at hl 1 rfl) ?_
        refine lv_iload hx hb dL_law_866 (lv_at hl 5 rfl) ?_
        refine lv_iconst (v := (1 : Int32)) hx hb dL_law_868 (by decide) ?_
        refine lv_iadd hx hb dL_law_869 ?_
        refine g_aiO9 X hI hf dL_law_870 (fun v170 hf => ?_)
        obtain ⟨hs, hf⟩ := gCk_b hf
        refine g_cBI hI hf (fun v9 h9 e9 l9 l9' => g_rV X hI l9 l9' hRc (As := [.int v170]) (m_X8_down X.2.2.2.2.2.2.2.2.2.2.1 e9) ydX8_down hs rfl rfl q1854 q1855 q1856 q131 q1857 rfl (Nat.le_of_ble_eq_true rfl) (Nat.le_of_ble_eq_true rfl) hl.1 rfl (Nat.le_of_ble_eq_true rfl) dL_law_871) (fun r171 h H locs cells slots hf hI => ?_)
        refine lv_istore (lv' := [(6, .int r171), (5, .int r169), (0, .ref a0), (1, .ref a1), (2, .ref a2), (3, .ref a3), (4, .int x4)]) hx hb dL_law_874 hl (by decide) rfl (fun ls hl => ?_)
        refine lv_aload_n hx hb dL_law_876 rfl (lv_at hl 4 rfl) ?_
        obtain ⟨hs, hf⟩ := gCk_b hf
        refine g_cBI hI hf (fun v9 h9 e9 l9 l9' => g_rV X hI l9 l9' hRc (As := []) (m_X8_thrown X.2.2.2.2.2.2.2.2.2.2.1 e9) ydX8_thrown hs rfl rfl q1434 q1435 q1436 q131 q1437 rfl (Nat.le_of_ble_eq_true rfl) (Nat.le_of_ble_eq_true rfl) hl.1 rfl (Nat.le_of_ble_eq_true rfl) dL_law_877) (fun r172 h H locs cells slots hf hI => ?_)
        refine lv_iload hx hb dL_law_880 (lv_at hl 1 rfl) ?_
        refine lv_icmp_eq (tgt := 887) hx hb dL_law_882 (by decide) (fun c882 => ?_) (fun c882 => ?_)
        · have hf := g_t c882 hf
          refine lv_iload hx hb dL_law_887 (lv_at hl 1 rfl) ?_
          refine lv_if_ne (tgt := 904) hx hb dL_law_889 (by decide) (fun c889 => ?_) (fun c889 => ?_)
          · have hf := g_f c889 hf
            exact b_L_law_904 X hRc hq1 hn9 hbs ih _ _ _ _ _ _ _ _ _ _ _ hf hI (lv_sub hl [2, 3, 4, 5, 6] rfl)
          · have hf := g_t c889 hf
            refine lv_aload_n hx hb dL_law_892 rfl (lv_at hl 5 rfl) ?_
            refine lv_iconst (v := (0 : Int32)) hx hb dL_law_893 (by decide) ?_
            refine g_ai2 X hI hf dL_law_894 (fun v173 hf => ?_)
            refine lv_iload hx hb dL_law_895 (lv_at hl 0 rfl) ?_
            refine lv_i2l hx hb dL_law_897 rfl ?_
            refine W.lcmp hx hb dL_law_898 ?_
            refine lv_if_eq (tgt := 904) hx hb dL_law_899 (by decide) (fun c899 => ?_) (fun c899 => ?_)
            · have hf := g_t c899 hf
              exact b_L_law_904 X hRc hq1 hn9 hbs ih _ _ _ _ _ _ _ _ _ _ _ hf hI (lv_sub hl [2, 3, 4, 5, 6] rfl)
            · have hf := g_f c899 hf
              exact b_L_law_902 X hRc hq1 hn9 hbs _ _ _ _ _ _ hf hI (lv_sub hl [] rfl)
        · have hf := g_f c882 hf
          exact b_L_law_885 X hRc hq1 hn9 hbs _ _ _ _ _ _ hf hI (lv_sub hl [] rfl)
      have hf := g_f c40_11 hf
      by_cases c40_12 : (v102 &&& (63 : Int32)) = (12 : Int32)
      · have hf := g_t c40_12 hf
        refine g_tsIn (k := (12 : Int32)) (off := 867) (tgt := 907) hx hb c40_12 dL_law_40 (by decide) (by decide) rfl (by decide) ?_
        refine lv_aload_n hx hb dL_law_907 rfl (lv_at hl 1 rfl) ?_
        refine lv_aload_n hx hb dL_law_908 rfl (lv_at hl 0 rfl) ?_
        refine lv_iload hx hb dL_law_909 (lv_at hl 4 rfl) ?_
        refine lv_iconst (v := (1 : Int32)) hx hb dL_law_911 (by decide) ?_
        refine lv_iadd hx hb dL_law_912 ?_
        refine g_aiO9 X hI hf dL_law_913 (fun v174 hf => ?_)
        refine lv_aload_n hx hb dL_law_914 rfl (lv_at hl 3 rfl) ?_
        refine g_cBI hI hf (fun v9 h9 e9 l9 l9' => g_rSX (b := 0) X hI l9 l9' hRc (As := [.ref a1, .int v174, .ref a3]) (m_X0_mend X.2.2.2.2.2.2.2.2.2.2.1 e9) ydX0_mend q1253 q1254 q120 q1255 rfl (Nat.le_of_ble_eq_true rfl) (Nat.le_of_ble_eq_true rfl) hl.1 rfl (Nat.le_of_ble_eq_true rfl) dL_law_915) (fun r175 h H locs cells slots hf hI => ?_)
        refine lv_istore (lv' := [(5, .int r175), (0, .ref a0), (1, .ref a1), (2, .ref a2), (3, .ref a3), (4, .int x4)]) hx hb dL_law_918 hl (by decide) rfl (fun ls hl => ?_)
        refine lv_aload_n hx hb dL_law_920 rfl (lv_at hl 3 rfl) ?_
        refine lv_aload_n hx hb dL_law_921 rfl (lv_at hl 1 rfl) ?_
        refine lv_iload hx hb dL_law_922 (lv_at hl 5 rfl) ?_
        refine lv_iconst (v := (1 : Int32)) hx hb dL_law_924 (by decide) ?_
        refine lv_iadd hx hb dL_law_925 ?_
        refine g_aiO9 X hI hf dL_law_926 (fun v176 hf => ?_)
        obtain ⟨hs, hf⟩ := gCk_b hf
        refine g_cBI hI hf (fun v9 h9 e9 l9 l9' => g_rV X hI l9 l9' hRc (As := [.int v176]) (m_X8_mend X.2.2.2.2.2.2.2.2.2.2.1 e9) ydX8_mend hs rfl rfl q1858 q1859 q1860 q131 q1861 rfl (Nat.le_of_ble_eq_true rfl) (Nat.le_of_ble_eq_true rfl) hl.1 rfl (Nat.le_of_ble_eq_true rfl) dL_law_927) (fun r177 h H locs cells slots hf hI => ?_)
        refine lv_istore (lv' := [(6, .int r177), (5, .int r175), (0, .ref a0), (1, .ref a1), (2, .ref a2), (3, .ref a3), (4, .int x4)]) hx hb dL_law_930 hl (by decide) rfl (fun ls hl => ?_)
        refine lv_aload_n hx hb dL_law_932 rfl (lv_at hl 4 rfl) ?_
        obtain ⟨hs, hf⟩ := gCk_b hf
        refine g_cBI hI hf (fun v9 h9 e9 l9 l9' => g_rV X hI l9 l9' hRc (As := []) (m_X8_thrown X.2.2.2.2.2.2.2.2.2.2.1 e9) ydX8_thrown hs rfl rfl q1434 q1435 q1436 q131 q1437 rfl (Nat.le_of_ble_eq_true rfl) (Nat.le_of_ble_eq_true rfl) hl.1 rfl (Nat.le_of_ble_eq_true rfl) dL_law_933) (fun r178 h H locs cells slots hf hI => ?_)
        refine lv_iload hx hb dL_law_936 (lv_at hl 1 rfl) ?_
        refine lv_icmp_eq (tgt := 943) hx hb dL_law_938 (by decide) (fun c938 => ?_) (fun c938 => ?_)
        · have hf := g_t c938 hf
          refine lv_iload hx hb dL_law_943 (lv_at hl 1 rfl) ?_
          refine lv_if_ne (tgt := 960) hx hb dL_law_945 (by decide) (fun c945 => ?_) (fun c945 => ?_)
          · have hf := g_f c945 hf
            exact b_L_law_960 X hRc hq1 hn9 hbs ih _ _ _ _ _ _ _ _ _ _ _ hf hI (lv_sub hl [2, 3, 4, 5, 6] rfl)
          · have hf := g_t c945 hf
            refine lv_aload_n hx hb dL_law_948 rfl (lv_at hl 5 rfl) ?_
            refine lv_iconst (v := (0 : Int32)) hx hb dL_law_949 (by decide) ?_
            refine g_ai2 X hI hf dL_law_950 (fun v179 hf => ?_)
            refine lv_iload hx hb dL_law_951 (lv_at hl 0 rfl) ?_
            refine lv_i2l hx hb dL_law_953 rfl ?_
            refine W.lcmp hx hb dL_law_954 ?_
            refine lv_if_eq (tgt := 960) hx hb dL_law_955 (by decide) (fun c955 => ?_) (fun c955 => ?_)
            · have hf := g_t c955 hf
              exact b_L_law_960 X hRc hq1 hn9 hbs ih _ _ _ _ _ _ _ _ _ _ _ hf hI (lv_sub hl [2, 3, 4, 5, 6] rfl)
            · have hf := g_f c955 hf
              exact b_L_law_958 X hRc hq1 hn9 hbs _ _ _ _ _ _ hf hI (lv_sub hl [] rfl)
        · have hf := g_f c938 hf
          exact b_L_law_941 X hRc hq1 hn9 hbs _ _ _ _ _ _ hf hI (lv_sub hl [] rfl)
      have hf := g_f c40_12 hf
      by_cases c40_13 : (v102 &&& (63 : Int32)) = (13 : Int32)
      · have hf := g_t c40_13 hf
        refine g_tsIn (k := (13 : Int32)) (off := 923) (tgt := 963) hx hb c40_13 dL_law_40 (by decide) (by decide) rfl (by decide) ?_
        refine lv_aload_n hx hb dL_law_963 rfl (lv_at hl 1 rfl) ?_
        refine lv_aload_n hx hb dL_law_964 rfl (lv_at hl 0 rfl) ?_
        refine lv_iload hx hb dL_law_965 (lv_at hl 4 rfl) ?_
        refine lv_iconst (v := (1 : Int32)) hx hb dL_law_967 (by decide) ?_
        refine lv_iadd hx hb dL_law_968 ?_
        refine g_aiO9 X hI hf dL_law_969 (fun v180 hf => ?_)
        refine g_cBI hI hf (fun v9 h9 e9 l9 l9' => g_rSX (b := 0) X hI l9 l9' hRc (As := [.ref a1, .int v180]) (m_X0_recall X.2.2.2.2.2.2.2.2.2.2.1 e9) ydX0_recall q1260 q1261 q120 q1262 rfl (Nat.le_of_ble_eq_true rfl) (Nat.le_of_ble_eq_true rfl) hl.1 rfl (Nat.le_of_ble_eq_true rfl) dL_law_970) (fun r181 h H locs cells slots hf hI => ?_)
        refine lv_istore (lv' := [(5, .int r181), (0, .ref a0), (1, .ref a1), (2, .ref a2), (3, .ref a3), (4, .int x4)]) hx hb dL_law_973 hl (by decide) rfl (fun ls hl => ?_)
        refine lv_aload_n hx hb dL_law_975 rfl (lv_at hl 3 rfl) ?_
        refine lv_aload_n hx hb dL_law_976 rfl (lv_at hl 1 rfl) ?_
        refine lv_iload hx hb dL_law_977 (lv_at hl 5 rfl) ?_
        refine lv_iconst (v := (1 : Int32)) hx hb dL_law_979 (by decide) ?_
        refine lv_iadd hx hb dL_law_980 ?_
        refine g_aiO9 X hI hf dL_law_981 (fun v182 hf => ?_)
        obtain ⟨hs, hf⟩ := gCk_b hf
        refine g_cBU hI hf (fun v9 h9 e9 l9 l9' => g_rV X hI l9 l9' hRc (As := [.int v182]) (m_X8_recall X.2.2.2.2.2.2.2.2.2.2.1 e9) ydX8_recall hs rfl rfl q1862 q1863 q1864 q131 q1865 rfl (Nat.le_of_ble_eq_true rfl) (Nat.le_of_ble_eq_true rfl) hl.1 rfl (Nat.le_of_ble_eq_true rfl) dL_law_982) (fun r183 h H locs cells slots hf hI => ?_)
        refine lv_aload_n hx hb dL_law_985 rfl (lv_at hl 3 rfl) ?_
        obtain ⟨hs, hf⟩ := gCk_b hf
        refine g_cBI hI hf (fun v9 h9 e9 l9 l9' => g_rV X hI l9 l9' hRc (As := []) (m_X8_thrown X.2.2.2.2.2.2.2.2.2.2.1 e9) ydX8_thrown hs rfl rfl q1434 q1435 q1436 q131 q1437 rfl (Nat.le_of_ble_eq_true rfl) (Nat.le_of_ble_eq_true rfl) hl.1 rfl (Nat.le_of_ble_eq_true rfl) dL_law_986) (fun r184 h H locs cells slots hf hI => ?_)
        refine lv_iload hx hb dL_law_989 (lv_at hl 0 rfl) ?_
        refine lv_icmp_eq (tgt := 996) hx hb dL_law_991 (by decide) (fun c991 => ?_) (fun c991 => ?_)
        · have hf := g_t c991 hf
          refine lv_goto (tgt := 2492) hx hb dL_law_996 (by decide) ?_
          exact b_L_law_2492 X hRc hq1 hn9 hbs ih _ _ _ _ _ _ _ _ _ _ _ hf hI (lv_sub hl [1, 2, 3, 4, 5] rfl)
        · have hf := g_f c991 hf
          exact b_L_law_994 X hRc hq1 hn9 hbs _ _ _ _ _ _ hf hI (lv_sub hl [] rfl)
      have hf := g_f c40_13 hf
      by_cases c40_14 : (v102 &&& (63 : Int32)) = (14 : Int32)
      · have hf := g_t c40_14 hf
        refine g_tsIn (k := (14 : Int32)) (off := 959) (tgt := 999) hx hb c40_14 dL_law_40 (by decide) (by decide) rfl (by decide) ?_
        refine lv_aload_n hx hb dL_law_999 rfl (lv_at hl 1 rfl) ?_
        refine lv_aload_n hx hb dL_law_1000 rfl (lv_at hl 0 rfl) ?_
        refine lv_iload hx hb dL_law_1001 (lv_at hl 4 rfl) ?_
        refine lv_iconst (v := (1 : Int32)) hx hb dL_law_1003 (by decide) ?_
        refine lv_iadd hx hb dL_law_1004 ?_
        refine g_aiO9 X hI hf dL_law_1005 (fun v185 hf => ?_)
        refine lv_aload_n hx hb dL_law_1006 rfl (lv_at hl 3 rfl) ?_
        refine g_cBI hI hf (fun v9 h9 e9 l9 l9' => g_rSX (b := 0) X hI l9 l9' hRc (As := [.ref a1, .int v185, .ref a3]) (m_X0_inside X.2.2.2.2.2.2.2.2.2.2.1 e9) ydX0_inside q1267 q1268 q120 q1269 rfl (Nat.le_of_ble_eq_true rfl) (Nat.le_of_ble_eq_true rfl) hl.1 rfl (Nat.le_of_ble_eq_true rfl) dL_law_1007) (fun r186 h H locs cells slots hf hI => ?_)
        refine lv_istore (lv' := [(5, .int r186), (0, .ref a0), (1, .ref a1), (2, .ref a2), (3, .ref a3), (4, .int x4)]) hx hb dL_law_1010 hl (by decide) rfl (fun ls hl => ?_)
        refine lv_aload_n hx hb dL_law_1012 rfl (lv_at hl 3 rfl) ?_
        refine lv_aload_n hx hb dL_law_1013 rfl (lv_at hl 1 rfl) ?_
        refine lv_iload hx hb dL_law_1014 (lv_at hl 5 rfl) ?_
        refine lv_iconst (v := (1 : Int32)) hx hb dL_law_1016 (by decide) ?_
        refine lv_iadd hx hb dL_law_1017 ?_
        refine g_aiO9 X hI hf dL_law_1018 (fun v187 hf => ?_)
        obtain ⟨hs, hf⟩ := gCk_b hf
        refine g_cBI hI hf (fun v9 h9 e9 l9 l9' => g_rV X hI l9 l9' hRc (As := [.int v187]) (m_X8_inside X.2.2.2.2.2.2.2.2.2.2.1 e9) ydX8_inside hs rfl rfl q1866 q1867 q1868 q131 q1869 rfl (Nat.le_of_ble_eq_true rfl) (Nat.le_of_ble_eq_true rfl) hl.1 rfl (Nat.le_of_ble_eq_true rfl) dL_law_1019) (fun r188 h H locs cells slots hf hI => ?_)
        refine lv_istore (lv' := [(6, .int r188), (5, .int r186), (0, .ref a0), (1, .ref a1), (2, .ref a2), (3, .ref a3), (4, .int x4)]) hx hb dL_law_1022 hl (by decide) rfl (fun ls hl => ?_)
        refine lv_aload_n hx hb dL_law_1024 rfl (lv_at hl 4 rfl) ?_
        obtain ⟨hs, hf⟩ := gCk_b hf
        refine g_cBI hI hf (fun v9 h9 e9 l9 l9' => g_rV X hI l9 l9' hRc (As := []) (m_X8_thrown X.2.2.2.2.2.2.2.2.2.2.1 e9) ydX8_thrown hs rfl rfl q1434 q1435 q1436 q131 q1437 rfl (Nat.le_of_ble_eq_true rfl) (Nat.le_of_ble_eq_true rfl) hl.1 rfl (Nat.le_of_ble_eq_true rfl) dL_law_1025) (fun r189 h H locs cells slots hf hI => ?_)
        refine lv_iload hx hb dL_law_1028 (lv_at hl 1 rfl) ?_
        refine lv_icmp_eq (tgt := 1035) hx hb dL_law_1030 (by decide) (fun c1030 => ?_) (fun c1030 => ?_)
        · have hf := g_t c1030 hf
          refine lv_iload hx hb dL_law_1035 (lv_at hl 1 rfl) ?_
          refine lv_if_ne (tgt := 1052) hx hb dL_law_1037 (by decide) (fun c1037 => ?_) (fun c1037 => ?_)
          · have hf := g_f c1037 hf
            exact b_L_law_1052 X hRc hq1 hn9 hbs ih _ _ _ _ _ _ _ _ _ _ _ hf hI (lv_sub hl [2, 3, 4, 5, 6] rfl)
          · have hf := g_t c1037 hf
            refine lv_aload_n hx hb dL_law_1040 rfl (lv_at hl 5 rfl) ?_
            refine lv_iconst (v := (0 : Int32)) hx hb dL_law_1041 (by decide) ?_
            refine g_ai2 X hI hf dL_law_1042 (fun v190 hf => ?_)
            refine lv_iload hx hb dL_law_1043 (lv_at hl 0 rfl) ?_
            refine lv_i2l hx hb dL_law_1045 rfl ?_
            refine W.lcmp hx hb dL_law_1046 ?_
            refine lv_if_eq (tgt := 1052) hx hb dL_law_1047 (by decide) (fun c1047 => ?_) (fun c1047 => ?_)
            · have hf := g_t c1047 hf
              exact b_L_law_1052 X hRc hq1 hn9 hbs ih _ _ _ _ _ _ _ _ _ _ _ hf hI (lv_sub hl [2, 3, 4, 5, 6] rfl)
            · have hf := g_f c1047 hf
              exact b_L_law_1050 X hRc hq1 hn9 hbs _ _ _ _ _ _ hf hI (lv_sub hl [] rfl)
        · have hf := g_f c1030 hf
          exact b_L_law_1033 X hRc hq1 hn9 hbs _ _ _ _ _ _ hf hI (lv_sub hl [] rfl)
      have hf := g_f c40_14 hf
      by_cases c40_15 : (v102 &&& (63 : Int32)) = (15 : Int32)
      · have hf := g_t c40_15 hf
        refine g_tsIn (k := (15 : Int32)) (off := 1015) (tgt := 1055) hx hb c40_15 dL_law_40 (by decide) (by decide) rfl (by decide) ?_
        refine lv_aload_n hx hb dL_law_1055 rfl (lv_at hl 1 rfl) ?_
        refine lv_aload_n hx hb dL_law_1056 rfl (lv_at hl 0 rfl) ?_
        refine lv_iload hx hb dL_law_1057 (lv_at hl 4 rfl) ?_
        refine lv_iconst (v := (1 : Int32)) hx hb dL_law_1059 (by decide) ?_
        refine lv_iadd hx hb dL_law_1060 ?_
        refine g_aiO9 X hI hf dL_law_1061 (fun v191 hf => ?_)
        refine lv_aload_n hx hb dL_law_1062 rfl (lv_at hl 3 rfl) ?_
        refine g_cBI hI hf (fun v9 h9 e9 l9 l9' => g_rSX (b := 0) X hI l9 l9' hRc (As := [.ref a1, .int v191, .ref a3]) (m_X0_calm X.2.2.2.2.2.2.2.2.2.2.1 e9) ydX0_calm q1274 q1275 q120 q1276 rfl (Nat.le_of_ble_eq_true rfl) (Nat.le_of_ble_eq_true rfl) hl.1 rfl (Nat.le_of_ble_eq_true rfl) dL_law_1063) (fun r192 h H locs cells slots hf hI => ?_)
        refine lv_istore (lv' := [(5, .int r192), (0, .ref a0), (1, .ref a1), (2, .ref a2), (3, .ref a3), (4, .int x4)]) hx hb dL_law_1066 hl (by decide) rfl (fun ls hl => ?_)
        refine lv_aload_n hx hb dL_law_1068 rfl (lv_at hl 3 rfl) ?_
        refine lv_aload_n hx hb dL_law_1069 rfl (lv_at hl 1 rfl) ?_
        refine lv_iload hx hb dL_law_1070 (lv_at hl 5 rfl) ?_
        refine lv_iconst (v := (1 : Int32)) hx hb dL_law_1072 (by decide) ?_
        refine lv_iadd hx hb dL_law_1073 ?_
        refine g_aiO9 X hI hf dL_law_1074 (fun v193 hf => ?_)
        obtain ⟨hs, hf⟩ := gCk_b hf
        refine g_cBI hI hf (fun v9 h9 e9 l9 l9' => g_rV X hI l9 l9' hRc (As := [.int v193]) (m_X8_calm X.2.2.2.2.2.2.2.2.2.2.1 e9) ydX8_calm hs rfl rfl q1874 q1875 q1876 q131 q1877 rfl (Nat.le_of_ble_eq_true rfl) (Nat.le_of_ble_eq_true rfl) hl.1 rfl (Nat.le_of_ble_eq_true rfl) dL_law_1075) (fun r194 h H locs cells slots hf hI => ?_)
        refine lv_istore (lv' := [(6, .int r194), (5, .int r192), (0, .ref a0), (1, .ref a1), (2, .ref a2), (3, .ref a3), (4, .int x4)]) hx hb dL_law_1078 hl (by decide) rfl (fun ls hl => ?_)
        refine lv_aload_n hx hb dL_law_1080 rfl (lv_at hl 4 rfl) ?_
        obtain ⟨hs, hf⟩ := gCk_b hf
        refine g_cBI hI hf (fun v9 h9 e9 l9 l9' => g_rV X hI l9 l9' hRc (As := []) (m_X8_thrown X.2.2.2.2.2.2.2.2.2.2.1 e9) ydX8_thrown hs rfl rfl q1434 q1435 q1436 q131 q1437 rfl (Nat.le_of_ble_eq_true rfl) (Nat.le_of_ble_eq_true rfl) hl.1 rfl (Nat.le_of_ble_eq_true rfl) dL_law_1081) (fun r195 h H locs cells slots hf hI => ?_)
        refine lv_iload hx hb dL_law_1084 (lv_at hl 1 rfl) ?_
        refine lv_icmp_eq (tgt := 1091) hx hb dL_law_1086 (by decide) (fun c1086 => ?_) (fun c1086 => ?_)
        · have hf := g_t c1086 hf
          refine lv_iload hx hb dL_law_1091 (lv_at hl 1 rfl) ?_
          refine lv_if_ne (tgt := 1108) hx hb dL_law_1093 (by decide) (fun c1093 => ?_) (fun c1093 => ?_)
          · have hf := g_f c1093 hf
            exact b_L_law_1108 X hRc hq1 hn9 hbs ih _ _ _ _ _ _ _ _ _ _ _ hf hI (lv_sub hl [2, 3, 4, 5, 6] rfl)
          · have hf := g_t c1093 hf
            refine lv_aload_n hx hb dL_law_1096 rfl (lv_at hl 5 rfl) ?_
            refine lv_iconst (v := (0 : Int32)) hx hb dL_law_1097 (by decide) ?_
            refine g_ai2 X hI hf dL_law_1098 (fun v196 hf => ?_)
            refine lv_iload hx hb dL_law_1099 (lv_at hl 0 rfl) ?_
            refine lv_i2l hx hb dL_law_1101 rfl ?_
            refine W.lcmp hx hb dL_law_1102 ?_
            refine lv_if_eq (tgt := 1108) hx hb dL_law_1103 (by decide) (fun c1103 => ?_) (fun c1103 => ?_)
            · have hf := g_t c1103 hf
              exact b_L_law_1108 X hRc hq1 hn9 hbs ih _ _ _ _ _ _ _ _ _ _ _ hf hI (lv_sub hl [2, 3, 4, 5, 6] rfl)
            · have hf := g_f c1103 hf
              exact b_L_law_1106 X hRc hq1 hn9 hbs _ _ _ _ _ _ hf hI (lv_sub hl [] rfl)
        · have hf := g_f c1086 hf
          exact b_L_law_1089 X hRc hq1 hn9 hbs _ _ _ _ _ _ hf hI (lv_sub hl [] rfl)
      have hf := g_f c40_15 hf
      by_cases c40_16 : (v102 &&& (63 : Int32)) = (16 : Int32)
      · have hf := g_t c40_16 hf
        refine g_tsIn (k := (16 : Int32)) (off := 1071) (tgt := 1111) hx hb c40_16 dL_law_40 (by decide) (by decide) rfl (by decide) ?_
        refine lv_aload_n hx hb dL_law_1111 rfl (lv_at hl 1 rfl) ?_
        refine lv_aload_n hx hb dL_law_1112 rfl (lv_at hl 0 rfl) ?_
        refine lv_iload hx hb dL_law_1113 (lv_at hl 4 rfl) ?_
        refine lv_iconst (v := (1 : Int32)) hx hb dL_law_1115 (by decide) ?_
        refine lv_iadd hx hb dL_law_1116 ?_
        refine g_aiO9 X hI hf dL_law_1117 (fun v197 hf => ?_)
        refine lv_aload_n hx hb dL_law_1118 rfl (lv_at hl 3 rfl) ?_
        refine g_cBI hI hf (fun v9 h9 e9 l9 l9' => g_rSX (b := 0) X hI l9 l9' hRc (As := [.ref a1, .int v197, .ref a3]) (m_X0_mornings X.2.2.2.2.2.2.2.2.2.2.1 e9) ydX0_mornings q1281 q1282 q120 q1283 rfl (Nat.le_of_ble_eq_true rfl) (Nat.le_of_ble_eq_true rfl) hl.1 rfl (Nat.le_of_ble_eq_true rfl) dL_law_1119) (fun r198 h H locs cells slots hf hI => ?_)
        refine lv_istore (lv' := [(5, .int r198), (0, .ref a0), (1, .ref a1), (2, .ref a2), (3, .ref a3), (4, .int x4)]) hx hb dL_law_1122 hl (by decide) rfl (fun ls hl => ?_)
        refine lv_aload_n hx hb dL_law_1124 rfl (lv_at hl 3 rfl) ?_
        refine lv_aload_n hx hb dL_law_1125 rfl (lv_at hl 1 rfl) ?_
        refine lv_iload hx hb dL_law_1126 (lv_at hl 5 rfl) ?_
        refine lv_iconst (v := (1 : Int32)) hx hb dL_law_1128 (by decide) ?_
        refine lv_iadd hx hb dL_law_1129 ?_
        refine g_aiO9 X hI hf dL_law_1130 (fun v199 hf => ?_)
        obtain ⟨hs, hf⟩ := gCk_b hf
        refine g_cBI hI hf (fun v9 h9 e9 l9 l9' => g_rV X hI l9 l9' hRc (As := [.int v199]) (m_X8_mornings X.2.2.2.2.2.2.2.2.2.2.1 e9) ydX8_mornings hs rfl rfl q1878 q1879 q1880 q131 q1881 rfl (Nat.le_of_ble_eq_true rfl) (Nat.le_of_ble_eq_true rfl) hl.1 rfl (Nat.le_of_ble_eq_true rfl) dL_law_1131) (fun r200 h H locs cells slots hf hI => ?_)
        refine lv_istore (lv' := [(6, .int r200), (5, .int r198), (0, .ref a0), (1, .ref a1), (2, .ref a2), (3, .ref a3), (4, .int x4)]) hx hb dL_law_1134 hl (by decide) rfl (fun ls hl => ?_)
        refine lv_aload_n hx hb dL_law_1136 rfl (lv_at hl 4 rfl) ?_
        obtain ⟨hs, hf⟩ := gCk_b hf
        refine g_cBI hI hf (fun v9 h9 e9 l9 l9' => g_rV X hI l9 l9' hRc (As := []) (m_X8_thrown X.2.2.2.2.2.2.2.2.2.2.1 e9) ydX8_thrown hs rfl rfl q1434 q1435 q1436 q131 q1437 rfl (Nat.le_of_ble_eq_true rfl) (Nat.le_of_ble_eq_true rfl) hl.1 rfl (Nat.le_of_ble_eq_true rfl) dL_law_1137) (fun r201 h H locs cells slots hf hI => ?_)
        refine lv_iload hx hb dL_law_1140 (lv_at hl 1 rfl) ?_
        refine lv_icmp_eq (tgt := 1147) hx hb dL_law_1142 (by decide) (fun c1142 => ?_) (fun c1142 => ?_)
        · have hf := g_t c1142 hf
          refine lv_iload hx hb dL_law_1147 (lv_at hl 1 rfl) ?_
          refine lv_if_ne (tgt := 1164) hx hb dL_law_1149 (by decide) (fun c1149 => ?_) (fun c1149 => ?_)
          · have hf := g_f c1149 hf
            exact b_L_law_1164 X hRc hq1 hn9 hbs ih _ _ _ _ _ _ _ _ _ _ _ hf hI (lv_sub hl [2, 3, 4, 5, 6] rfl)
          · have hf := g_t c1149 hf
            refine lv_aload_n hx hb dL_law_1152 rfl (lv_at hl 5 rfl) ?_
            refine lv_iconst (v := (0 : Int32)) hx hb dL_law_1153 (by decide) ?_
            refine g_ai2 X hI hf dL_law_1154 (fun v202 hf => ?_)
            refine lv_iload hx hb dL_law_1155 (lv_at hl 0 rfl) ?_
            refine lv_i2l hx hb dL_law_1157 rfl ?_
            refine W.lcmp hx hb dL_law_1158 ?_
            refine lv_if_eq (tgt := 1164) hx hb dL_law_1159 (by decide) (fun c1159 => ?_) (fun c1159 => ?_)
            · have hf := g_t c1159 hf
              exact b_L_law_1164 X hRc hq1 hn9 hbs ih _ _ _ _ _ _ _ _ _ _ _ hf hI (lv_sub hl [2, 3, 4, 5, 6] rfl)
            · have hf := g_f c1159 hf
              exact b_L_law_1162 X hRc hq1 hn9 hbs _ _ _ _ _ _ hf hI (lv_sub hl [] rfl)
        · have hf := g_f c1142 hf
          exact b_L_law_1145 X hRc hq1 hn9 hbs _ _ _ _ _ _ hf hI (lv_sub hl [] rfl)
      have hf := g_f c40_16 hf
      by_cases c40_17 : (v102 &&& (63 : Int32)) = (17 : Int32)
      · have hf := g_t c40_17 hf
        refine g_tsIn (k := (17 : Int32)) (off := 1127) (tgt := 1167) hx hb c40_17 dL_law_40 (by decide) (by decide) rfl (by decide) ?_
        refine lv_aload_n hx hb dL_law_1167 rfl (lv_at hl 1 rfl) ?_
        refine lv_aload_n hx hb dL_law_1168 rfl (lv_at hl 0 rfl) ?_
        refine lv_iload hx hb dL_law_1169 (lv_at hl 4 rfl) ?_
        refine lv_iconst (v := (1 : Int32)) hx hb dL_law_1171 (by decide) ?_
        refine lv_iadd hx hb dL_law_1172 ?_
        refine g_aiO9 X hI hf dL_law_1173 (fun v203 hf => ?_)
        refine lv_aload_n hx hb dL_law_1174 rfl (lv_at hl 3 rfl) ?_
        refine g_cBI hI hf (fun v9 h9 e9 l9 l9' => g_rSX (b := 0) X hI l9 l9' hRc (As := [.ref a1, .int v203, .ref a3]) (m_X0_straight X.2.2.2.2.2.2.2.2.2.2.1 e9) ydX0_straight q1289 q1290 q120 q1291 rfl (Nat.le_of_ble_eq_true rfl) (Nat.le_of_ble_eq_true rfl) hl.1 rfl (Nat.le_of_ble_eq_true rfl) dL_law_1175) (fun r204 h H locs cells slots hf hI => ?_)
        refine lv_istore (lv' := [(5, .int r204), (0, .ref a0), (1, .ref a1), (2, .ref a2), (3, .ref a3), (4, .int x4)]) hx hb dL_law_1178 hl (by decide) rfl (fun ls hl => ?_)
        refine lv_aload_n hx hb dL_law_1180 rfl (lv_at hl 3 rfl) ?_
        refine lv_aload_n hx hb dL_law_1181 rfl (lv_at hl 1 rfl) ?_
        refine lv_iload hx hb dL_law_1182 (lv_at hl 5 rfl) ?_
        refine lv_iconst (v := (1 : Int32)) hx hb dL_law_1184 (by decide) ?_
        refine lv_iadd hx hb dL_law_1185 ?_
        refine g_aiO9 X hI hf dL_law_1186 (fun v205 hf => ?_)
        obtain ⟨hs, hf⟩ := gCk_b hf
        refine g_cBI hI hf (fun v9 h9 e9 l9 l9' => g_rV X hI l9 l9' hRc (As := [.int v205]) (m_X8_straight X.2.2.2.2.2.2.2.2.2.2.1 e9) ydX8_straight hs rfl rfl q1882 q1883 q1884 q131 q1885 rfl (Nat.le_of_ble_eq_true rfl) (Nat.le_of_ble_eq_true rfl) hl.1 rfl (Nat.le_of_ble_eq_true rfl) dL_law_1187) (fun r206 h H locs cells slots hf hI => ?_)
        refine lv_istore (lv' := [(6, .int r206), (5, .int r204), (0, .ref a0), (1, .ref a1), (2, .ref a2), (3, .ref a3), (4, .int x4)]) hx hb dL_law_1190 hl (by decide) rfl (fun ls hl => ?_)
        refine lv_aload_n hx hb dL_law_1192 rfl (lv_at hl 4 rfl) ?_
        obtain ⟨hs, hf⟩ := gCk_b hf
        refine g_cBI hI hf (fun v9 h9 e9 l9 l9' => g_rV X hI l9 l9' hRc (As := []) (m_X8_thrown X.2.2.2.2.2.2.2.2.2.2.1 e9) ydX8_thrown hs rfl rfl q1434 q1435 q1436 q131 q1437 rfl (Nat.le_of_ble_eq_true rfl) (Nat.le_of_ble_eq_true rfl) hl.1 rfl (Nat.le_of_ble_eq_true rfl) dL_law_1193) (fun r207 h H locs cells slots hf hI => ?_)
        refine lv_iload hx hb dL_law_1196 (lv_at hl 1 rfl) ?_
        refine lv_icmp_eq (tgt := 1203) hx hb dL_law_1198 (by decide) (fun c1198 => ?_) (fun c1198 => ?_)
        · have hf := g_t c1198 hf
          refine lv_iload hx hb dL_law_1203 (lv_at hl 1 rfl) ?_
          refine lv_if_ne (tgt := 1220) hx hb dL_law_1205 (by decide) (fun c1205 => ?_) (fun c1205 => ?_)
          · have hf := g_f c1205 hf
            exact b_L_law_1220 X hRc hq1 hn9 hbs ih _ _ _ _ _ _ _ _ _ _ _ hf hI (lv_sub hl [2, 3, 4, 5, 6] rfl)
          · have hf := g_t c1205 hf
            refine lv_aload_n hx hb dL_law_1208 rfl (lv_at hl 5 rfl) ?_
            refine lv_iconst (v := (0 : Int32)) hx hb dL_law_1209 (by decide) ?_
            refine g_ai2 X hI hf dL_law_1210 (fun v208 hf => ?_)
            refine lv_iload hx hb dL_law_1211 (lv_at hl 0 rfl) ?_
            refine lv_i2l hx hb dL_law_1213 rfl ?_
            refine W.lcmp hx hb dL_law_1214 ?_
            refine lv_if_eq (tgt := 1220) hx hb dL_law_1215 (by decide) (fun c1215 => ?_) (fun c1215 => ?_)
            · have hf := g_t c1215 hf
              exact b_L_law_1220 X hRc hq1 hn9 hbs ih _ _ _ _ _ _ _ _ _ _ _ hf hI (lv_sub hl [2, 3, 4, 5, 6] rfl)
            · have hf := g_f c1215 hf
              exact b_L_law_1218 X hRc hq1 hn9 hbs _ _ _ _ _ _ hf hI (lv_sub hl [] rfl)
        · have hf := g_f c1198 hf
          exact b_L_law_1201 X hRc hq1 hn9 hbs _ _ _ _ _ _ hf hI (lv_sub hl [] rfl)
      have hf := g_f c40_17 hf
      by_cases c40_18 : (v102 &&& (63 : Int32)) = (18 : Int32)
      · have hf := g_t c40_18 hf
        refine g_tsIn (k := (18 : Int32)) (off := 1183) (tgt := 1223) hx hb c40_18 dL_law_40 (by decide) (by decide) rfl (by decide) ?_
        refine lv_aload_n hx hb dL_law_1223 rfl (lv_at hl 1 rfl) ?_
        refine lv_aload_n hx hb dL_law_1224 rfl (lv_at hl 0 rfl) ?_
        refine lv_iload hx hb dL_law_1225 (lv_at hl 4 rfl) ?_
        refine lv_iconst (v := (1 : Int32)) hx hb dL_law_1227 (by decide) ?_
        refine lv_iadd hx hb dL_law_1228 ?_
        refine g_aiO9 X hI hf dL_law_1229 (fun v209 hf => ?_)
        refine lv_aload_n hx hb dL_law_1230 rfl (lv_at hl 0 rfl) ?_
        refine lv_iload hx hb dL_law_1231 (lv_at hl 4 rfl) ?_
        refine lv_iconst (v := (2 : Int32)) hx hb dL_law_1233 (by decide) ?_
        refine lv_iadd hx hb dL_law_1234 ?_
        refine g_aiO9 X hI hf dL_law_1235 (fun v210 hf => ?_)
        refine lv_aload_n hx hb dL_law_1236 rfl (lv_at hl 3 rfl) ?_
        refine g_cBI hI hf (fun v9 h9 e9 l9 l9' => g_rSX (b := 0) X hI l9 l9' hRc (As := [.ref a1, .int v209, .int v210, .ref a3]) (m_X0_tense X.2.2.2.2.2.2.2.2.2.2.1 e9) ydX0_tense q1296 q1297 q120 q1298 rfl (Nat.le_of_ble_eq_true rfl) (Nat.le_of_ble_eq_true rfl) hl.1 rfl (Nat.le_of_ble_eq_true rfl) dL_law_1237) (fun r211 h H locs cells slots hf hI => ?_)
        refine lv_istore (lv' := [(5, .int r211), (0, .ref a0), (1, .ref a1), (2, .ref a2), (3, .ref a3), (4, .int x4)]) hx hb dL_law_1240 hl (by decide) rfl (fun ls hl => ?_)
        refine lv_aload_n hx hb dL_law_1242 rfl (lv_at hl 3 rfl) ?_
        refine lv_aload_n hx hb dL_law_1243 rfl (lv_at hl 1 rfl) ?_
        refine lv_iload hx hb dL_law_1244 (lv_at hl 5 rfl) ?_
        refine lv_iconst (v := (1 : Int32)) hx hb dL_law_1246 (by decide) ?_
        refine lv_iadd hx hb dL_law_1247 ?_
        refine g_aiO9 X hI hf dL_law_1248 (fun v212 hf => ?_)
        refine lv_aload_n hx hb dL_law_1249 rfl (lv_at hl 1 rfl) ?_
        refine lv_iload hx hb dL_law_1250 (lv_at hl 5 rfl) ?_
        refine lv_iconst (v := (2 : Int32)) hx hb dL_law_1252 (by decide) ?_
        refine lv_iadd hx hb dL_law_1253 ?_
        refine g_aiO9 X hI hf dL_law_1254 (fun v213 hf => ?_)
        obtain ⟨hs, hf⟩ := gCk_b hf
        refine g_cBI hI hf (fun v9 h9 e9 l9 l9' => g_rV X hI l9 l9' hRc (As := [.int v212, .int v213]) (m_X8_tense X.2.2.2.2.2.2.2.2.2.2.1 e9) ydX8_tense hs rfl rfl q1890 q1891 q1892 q131 q1893 rfl (Nat.le_of_ble_eq_true rfl) (Nat.le_of_ble_eq_true rfl) hl.1 rfl (Nat.le_of_ble_eq_true rfl) dL_law_1255) (fun r214 h H locs cells slots hf hI => ?_)
        refine lv_istore (lv' := [(6, .int r214), (5, .int r211), (0, .ref a0), (1, .ref a1), (2, .ref a2), (3, .ref a3), (4, .int x4)]) hx hb dL_law_1258 hl (by decide) rfl (fun ls hl => ?_)
        refine lv_aload_n hx hb dL_law_1260 rfl (lv_at hl 4 rfl) ?_
        obtain ⟨hs, hf⟩ := gCk_b hf
        refine g_cBI hI hf (fun v9 h9 e9 l9 l9' => g_rV X hI l9 l9' hRc (As := []) (m_X8_thrown X.2.2.2.2.2.2.2.2.2.2.1 e9) ydX8_thrown hs rfl rfl q1434 q1435 q1436 q131 q1437 rfl (Nat.le_of_ble_eq_true rfl) (Nat.le_of_ble_eq_true rfl) hl.1 rfl (Nat.le_of_ble_eq_true rfl) dL_law_1261) (fun r215 h H locs cells slots hf hI => ?_)
        refine lv_iload hx hb dL_law_1264 (lv_at hl 1 rfl) ?_
        refine lv_icmp_eq (tgt := 1271) hx hb dL_law_1266 (by decide) (fun c1266 => ?_) (fun c1266 => ?_)
        · have hf := g_t c1266 hf
          refine lv_iload hx hb dL_law_1271 (lv_at hl 1 rfl) ?_
          refine lv_if_ne (tgt := 1288) hx hb dL_law_1273 (by decide) (fun c1273 => ?_) (fun c1273 => ?_)
          · have hf := g_f c1273 hf
            exact b_L_law_1288 X hRc hq1 hn9 hbs ih _ _ _ _ _ _ _ _ _ _ _ hf hI (lv_sub hl [2, 3, 4, 5, 6] rfl)
          · have hf := g_t c1273 hf
            refine lv_aload_n hx hb dL_law_1276 rfl (lv_at hl 5 rfl) ?_
            refine lv_iconst (v := (0 : Int32)) hx hb dL_law_1277 (by decide) ?_
            refine g_ai2 X hI hf dL_law_1278 (fun v216 hf => ?_)
            refine lv_iload hx hb dL_law_1279 (lv_at hl 0 rfl) ?_
            refine lv_i2l hx hb dL_law_1281 rfl ?_
            refine W.lcmp hx hb dL_law_1282 ?_
            refine lv_if_eq (tgt := 1288) hx hb dL_law_1283 (by decide) (fun c1283 => ?_) (fun c1283 => ?_)
            · have hf := g_t c1283 hf
              exact b_L_law_1288 X hRc hq1 hn9 hbs ih _ _ _ _ _ _ _ _ _ _ _ hf hI (lv_sub hl [2, 3, 4, 5, 6] rfl)
            · have hf := g_f c1283 hf
              exact b_L_law_1286 X hRc hq1 hn9 hbs _ _ _ _ _ _ hf hI (lv_sub hl [] rfl)
        · have hf := g_f c1266 hf
          exact b_L_law_1269 X hRc hq1 hn9 hbs _ _ _ _ _ _ hf hI (lv_sub hl [] rfl)
      have hf := g_f c40_18 hf
      by_cases c40_19 : (v102 &&& (63 : Int32)) = (19 : Int32)
      · have hf := g_t c40_19 hf
        refine g_tsIn (k := (19 : Int32)) (off := 1251) (tgt := 1291) hx hb c40_19 dL_law_40 (by decide) (by decide) rfl (by decide) ?_
        refine lv_aload_n hx hb dL_law_1291 rfl (lv_at hl 1 rfl) ?_
        refine lv_aload_n hx hb dL_law_1292 rfl (lv_at hl 0 rfl) ?_
        refine lv_iload hx hb dL_law_1293 (lv_at hl 4 rfl) ?_
        refine lv_iconst (v := (1 : Int32)) hx hb dL_law_1295 (by decide) ?_
        refine lv_iadd hx hb dL_law_1296 ?_
        refine g_aiO9 X hI hf dL_law_1297 (fun v217 hf => ?_)
        refine lv_aload_n hx hb dL_law_1298 rfl (lv_at hl 3 rfl) ?_
        refine g_cBI hI hf (fun v9 h9 e9 l9 l9' => g_rSX (b := 0) X hI l9 l9' hRc (As := [.ref a1, .int v217, .ref a3]) (m_X0_ways X.2.2.2.2.2.2.2.2.2.2.1 e9) ydX0_ways q1303 q1304 q120 q1305 rfl (Nat.le_of_ble_eq_true rfl) (Nat.le_of_ble_eq_true rfl) hl.1 rfl (Nat.le_of_ble_eq_true rfl) dL_law_1299) (fun r218 h H locs cells slots hf hI => ?_)
        refine lv_istore (lv' := [(5, .int r218), (0, .ref a0), (1, .ref a1), (2, .ref a2), (3, .ref a3), (4, .int x4)]) hx hb dL_law_1302 hl (by decide) rfl (fun ls hl => ?_)
        refine lv_aload_n hx hb dL_law_1304 rfl (lv_at hl 3 rfl) ?_
        refine lv_aload_n hx hb dL_law_1305 rfl (lv_at hl 1 rfl) ?_
        refine lv_iload hx hb dL_law_1306 (lv_at hl 5 rfl) ?_
        refine lv_iconst (v := (1 : Int32)) hx hb dL_law_1308 (by decide) ?_
        refine lv_iadd hx hb dL_law_1309 ?_
        refine g_aiO9 X hI hf dL_law_1310 (fun v219 hf => ?_)
        obtain ⟨hs, hf⟩ := gCk_b hf
        refine g_cBI hI hf (fun v9 h9 e9 l9 l9' => g_rV X hI l9 l9' hRc (As := [.int v219]) (m_X8_ways X.2.2.2.2.2.2.2.2.2.2.1 e9) ydX8_ways hs rfl rfl q1934 q1935 q1936 q131 q1937 rfl (Nat.le_of_ble_eq_true rfl) (Nat.le_of_ble_eq_true rfl) hl.1 rfl (Nat.le_of_ble_eq_true rfl) dL_law_1311) (fun r220 h H locs cells slots hf hI => ?_)
        refine lv_istore (lv' := [(6, .int r220), (5, .int r218), (0, .ref a0), (1, .ref a1), (2, .ref a2), (3, .ref a3), (4, .int x4)]) hx hb dL_law_1314 hl (by decide) rfl (fun ls hl => ?_)
        refine lv_aload_n hx hb dL_law_1316 rfl (lv_at hl 4 rfl) ?_
        obtain ⟨hs, hf⟩ := gCk_b hf
        refine g_cBI hI hf (fun v9 h9 e9 l9 l9' => g_rV X hI l9 l9' hRc (As := []) (m_X8_thrown X.2.2.2.2.2.2.2.2.2.2.1 e9) ydX8_thrown hs rfl rfl q1434 q1435 q1436 q131 q1437 rfl (Nat.le_of_ble_eq_true rfl) (Nat.le_of_ble_eq_true rfl) hl.1 rfl (Nat.le_of_ble_eq_true rfl) dL_law_1317) (fun r221 h H locs cells slots hf hI => ?_)
        refine lv_iload hx hb dL_law_1320 (lv_at hl 1 rfl) ?_
        refine lv_icmp_eq (tgt := 1327) hx hb dL_law_1322 (by decide) (fun c1322 => ?_) (fun c1322 => ?_)
        · have hf := g_t c1322 hf
          refine lv_iload hx hb dL_law_1327 (lv_at hl 1 rfl) ?_
          refine lv_if_ne (tgt := 1344) hx hb dL_law_1329 (by decide) (fun c1329 => ?_) (fun c1329 => ?_)
          · have hf := g_f c1329 hf
            exact b_L_law_1344 X hRc hq1 hn9 hbs ih _ _ _ _ _ _ _ _ _ _ _ hf hI (lv_sub hl [2, 3, 4, 5, 6] rfl)
          · have hf := g_t c1329 hf
            refine lv_aload_n hx hb dL_law_1332 rfl (lv_at hl 5 rfl) ?_
            refine lv_iconst (v := (0 : Int32)) hx hb dL_law_1333 (by decide) ?_
            refine g_ai2 X hI hf dL_law_1334 (fun v222 hf => ?_)
            refine lv_iload hx hb dL_law_1335 (lv_at hl 0 rfl) ?_
            refine lv_i2l hx hb dL_law_1337 rfl ?_
            refine W.lcmp hx hb dL_law_1338 ?_
            refine lv_if_eq (tgt := 1344) hx hb dL_law_1339 (by decide) (fun c1339 => ?_) (fun c1339 => ?_)
            · have hf := g_t c1339 hf
              exact b_L_law_1344 X hRc hq1 hn9 hbs ih _ _ _ _ _ _ _ _ _ _ _ hf hI (lv_sub hl [2, 3, 4, 5, 6] rfl)
            · have hf := g_f c1339 hf
              exact b_L_law_1342 X hRc hq1 hn9 hbs _ _ _ _ _ _ hf hI (lv_sub hl [] rfl)
        · have hf := g_f c1322 hf
          exact b_L_law_1325 X hRc hq1 hn9 hbs _ _ _ _ _ _ hf hI (lv_sub hl [] rfl)
      have hf := g_f c40_19 hf
      by_cases c40_20 : (v102 &&& (63 : Int32)) = (20 : Int32)
      · have hf := g_t c40_20 hf
        refine g_tsIn (k := (20 : Int32)) (off := 1307) (tgt := 1347) hx hb c40_20 dL_law_40 (by decide) (by decide) rfl (by decide) ?_
        refine lv_aload_n hx hb dL_law_1347 rfl (lv_at hl 1 rfl) ?_
        refine lv_aload_n hx hb dL_law_1348 rfl (lv_at hl 0 rfl) ?_
        refine lv_iload hx hb dL_law_1349 (lv_at hl 4 rfl) ?_
        refine lv_iconst (v := (1 : Int32)) hx hb dL_law_1351 (by decide) ?_
        refine lv_iadd hx hb dL_law_1352 ?_
        refine g_aiO9 X hI hf dL_law_1353 (fun v223 hf => ?_)
        refine lv_aload_n hx hb dL_law_1354 rfl (lv_at hl 0 rfl) ?_
        refine lv_iload hx hb dL_law_1355 (lv_at hl 4 rfl) ?_
        refine lv_iconst (v := (2 : Int32)) hx hb dL_law_1357 (by decide) ?_
        refine lv_iadd hx hb dL_law_1358 ?_
        refine g_aiO9 X hI hf dL_law_1359 (fun v224 hf => ?_)
        refine lv_aload_n hx hb dL_law_1360 rfl (lv_at hl 3 rfl) ?_
        refine g_cBI hI hf (fun v9 h9 e9 l9 l9' => g_rSX (b := 0) X hI l9 l9' hRc (As := [.ref a1, .int v223, .int v224, .ref a3]) (m_X0_at X.2.2.2.2.2.2.2.2.2.2.1 e9) ydX0_at q1310 q1311 q120 q1312 rfl (Nat.le_of_ble_eq_true rfl) (Nat.le_of_ble_eq_true rfl) hl.1 rfl (Nat.le_of_ble_eq_true rfl) dL_law_1361) (fun r225 h H locs cells slots hf hI => ?_)
        refine lv_istore (lv' := [(5, .int r225), (0, .ref a0), (1, .ref a1), (2, .ref a2), (3, .ref a3), (4, .int x4)]) hx hb dL_law_1364 hl (by decide) rfl (fun ls hl => ?_)
        refine lv_aload_n hx hb dL_law_1366 rfl (lv_at hl 3 rfl) ?_
        refine lv_aload_n hx hb dL_law_1367 rfl (lv_at hl 1 rfl) ?_
        refine lv_iload hx hb dL_law_1368 (lv_at hl 5 rfl) ?_
        refine lv_iconst (v := (1 : Int32)) hx hb dL_law_1370 (by decide) ?_
        refine lv_iadd hx hb dL_law_1371 ?_
        refine g_aiO9 X hI hf dL_law_1372 (fun v226 hf => ?_)
        refine lv_aload_n hx hb dL_law_1373 rfl (lv_at hl 1 rfl) ?_
        refine lv_iload hx hb dL_law_1374 (lv_at hl 5 rfl) ?_
        refine lv_iconst (v := (2 : Int32)) hx hb dL_law_1376 (by decide) ?_
        refine lv_iadd hx hb dL_law_1377 ?_
        refine g_aiO9 X hI hf dL_law_1378 (fun v227 hf => ?_)
        obtain ⟨hs, hf⟩ := gCk_b hf
        refine g_cBI hI hf (fun v9 h9 e9 l9 l9' => g_rV X hI l9 l9' hRc (As := [.int v226, .int v227]) (m_X8_at X.2.2.2.2.2.2.2.2.2.2.1 e9) ydX8_at hs rfl rfl q1950 q1951 q1952 q131 q1953 rfl (Nat.le_of_ble_eq_true rfl) (Nat.le_of_ble_eq_true rfl) hl.1 rfl (Nat.le_of_ble_eq_true rfl) dL_law_1379) (fun r228 h H locs cells slots hf hI => ?_)
        refine lv_istore (lv' := [(6, .int r228), (5, .int r225), (0, .ref a0), (1, .ref a1), (2, .ref a2), (3, .ref a3), (4, .int x4)]) hx hb dL_law_1382 hl (by decide) rfl (fun ls hl => ?_)
        refine lv_aload_n hx hb dL_law_1384 rfl (lv_at hl 4 rfl) ?_
        obtain ⟨hs, hf⟩ := gCk_b hf
        refine g_cBI hI hf (fun v9 h9 e9 l9 l9' => g_rV X hI l9 l9' hRc (As := []) (m_X8_thrown X.2.2.2.2.2.2.2.2.2.2.1 e9) ydX8_thrown hs rfl rfl q1434 q1435 q1436 q131 q1437 rfl (Nat.le_of_ble_eq_true rfl) (Nat.le_of_ble_eq_true rfl) hl.1 rfl (Nat.le_of_ble_eq_true rfl) dL_law_1385) (fun r229 h H locs cells slots hf hI => ?_)
        refine lv_iload hx hb dL_law_1388 (lv_at hl 1 rfl) ?_
        refine lv_icmp_eq (tgt := 1395) hx hb dL_law_1390 (by decide) (fun c1390 => ?_) (fun c1390 => ?_)
        · have hf := g_t c1390 hf
          refine lv_iload hx hb dL_law_1395 (lv_at hl 1 rfl) ?_
          refine lv_if_ne (tgt := 1412) hx hb dL_law_1397 (by decide) (fun c1397 => ?_) (fun c1397 => ?_)
          · have hf := g_f c1397 hf
            exact b_L_law_1412 X hRc hq1 hn9 hbs ih _ _ _ _ _ _ _ _ _ _ _ hf hI (lv_sub hl [2, 3, 4, 5, 6] rfl)
          · have hf := g_t c1397 hf
            refine lv_aload_n hx hb dL_law_1400 rfl (lv_at hl 5 rfl) ?_
            refine lv_iconst (v := (0 : Int32)) hx hb dL_law_1401 (by decide) ?_
            refine g_ai2 X hI hf dL_law_1402 (fun v230 hf => ?_)
            refine lv_iload hx hb dL_law_1403 (lv_at hl 0 rfl) ?_
            refine lv_i2l hx hb dL_law_1405 rfl ?_
            refine W.lcmp hx hb dL_law_1406 ?_
            refine lv_if_eq (tgt := 1412) hx hb dL_law_1407 (by decide) (fun c1407 => ?_) (fun c1407 => ?_)
            · have hf := g_t c1407 hf
              exact b_L_law_1412 X hRc hq1 hn9 hbs ih _ _ _ _ _ _ _ _ _ _ _ hf hI (lv_sub hl [2, 3, 4, 5, 6] rfl)
            · have hf := g_f c1407 hf
              exact b_L_law_1410 X hRc hq1 hn9 hbs _ _ _ _ _ _ hf hI (lv_sub hl [] rfl)
        · have hf := g_f c1390 hf
          exact b_L_law_1393 X hRc hq1 hn9 hbs _ _ _ _ _ _ hf hI (lv_sub hl [] rfl)
      have hf := g_f c40_20 hf
      by_cases c40_21 : (v102 &&& (63 : Int32)) = (21 : Int32)
      · have hf := g_t c40_21 hf
        refine g_tsIn (k := (21 : Int32)) (off := 1375) (tgt := 1415) hx hb c40_21 dL_law_40 (by decide) (by decide) rfl (by decide) ?_
        refine lv_aload_n hx hb dL_law_1415 rfl (lv_at hl 1 rfl) ?_
        refine lv_aload_n hx hb dL_law_1416 rfl (lv_at hl 0 rfl) ?_
        refine lv_iload hx hb dL_law_1417 (lv_at hl 4 rfl) ?_
        refine lv_iconst (v := (1 : Int32)) hx hb dL_law_1419 (by decide) ?_
        refine lv_iadd hx hb dL_law_1420 ?_
        refine g_aiO9 X hI hf dL_law_1421 (fun v231 hf => ?_)
        refine lv_aload_n hx hb dL_law_1422 rfl (lv_at hl 3 rfl) ?_
        refine g_cBI hI hf (fun v9 h9 e9 l9 l9' => g_rSX (b := 0) X hI l9 l9' hRc (As := [.ref a1, .int v231, .ref a3]) (m_X0_odds X.2.2.2.2.2.2.2.2.2.2.1 e9) ydX0_odds q1317 q1318 q120 q1319 rfl (Nat.le_of_ble_eq_true rfl) (Nat.le_of_ble_eq_true rfl) hl.1 rfl (Nat.le_of_ble_eq_true rfl) dL_law_1423) (fun r232 h H locs cells slots hf hI => ?_)
        refine lv_istore (lv' := [(5, .int r232), (0, .ref a0), (1, .ref a1), (2, .ref a2), (3, .ref a3), (4, .int x4)]) hx hb dL_law_1426 hl (by decide) rfl (fun ls hl => ?_)
        refine lv_aload_n hx hb dL_law_1428 rfl (lv_at hl 3 rfl) ?_
        refine lv_aload_n hx hb dL_law_1429 rfl (lv_at hl 1 rfl) ?_
        refine lv_iload hx hb dL_law_1430 (lv_at hl 5 rfl) ?_
        refine lv_iconst (v := (1 : Int32)) hx hb dL_law_1432 (by decide) ?_
        refine lv_iadd hx hb dL_law_1433 ?_
        refine g_aiO9 X hI hf dL_law_1434 (fun v233 hf => ?_)
        obtain ⟨hs, hf⟩ := gCk_b hf
        refine g_cBI hI hf (fun v9 h9 e9 l9 l9' => g_rV X hI l9 l9' hRc (As := [.int v233]) (m_X8_odds X.2.2.2.2.2.2.2.2.2.2.1 e9) ydX8_odds hs rfl rfl q1954 q1955 q1956 q131 q1957 rfl (Nat.le_of_ble_eq_true rfl) (Nat.le_of_ble_eq_true rfl) hl.1 rfl (Nat.le_of_ble_eq_true rfl) dL_law_1435) (fun r234 h H locs cells slots hf hI => ?_)
        refine lv_istore (lv' := [(6, .int r234), (5, .int r232), (0, .ref a0), (1, .ref a1), (2, .ref a2), (3, .ref a3), (4, .int x4)]) hx hb dL_law_1438 hl (by decide) rfl (fun ls hl => ?_)
        refine lv_aload_n hx hb dL_law_1440 rfl (lv_at hl 4 rfl) ?_
        obtain ⟨hs, hf⟩ := gCk_b hf
        refine g_cBI hI hf (fun v9 h9 e9 l9 l9' => g_rV X hI l9 l9' hRc (As := []) (m_X8_thrown X.2.2.2.2.2.2.2.2.2.2.1 e9) ydX8_thrown hs rfl rfl q1434 q1435 q1436 q131 q1437 rfl (Nat.le_of_ble_eq_true rfl) (Nat.le_of_ble_eq_true rfl) hl.1 rfl (Nat.le_of_ble_eq_true rfl) dL_law_1441) (fun r235 h H locs cells slots hf hI => ?_)
        refine lv_iload hx hb dL_law_1444 (lv_at hl 1 rfl) ?_
        refine lv_icmp_eq (tgt := 1451) hx hb dL_law_1446 (by decide) (fun c1446 => ?_) (fun c1446 => ?_)
        · have hf := g_t c1446 hf
          refine lv_iload hx hb dL_law_1451 (lv_at hl 1 rfl) ?_
          refine lv_if_ne (tgt := 1468) hx hb dL_law_1453 (by decide) (fun c1453 => ?_) (fun c1453 => ?_)
          · have hf := g_f c1453 hf
            exact b_L_law_1468 X hRc hq1 hn9 hbs ih _ _ _ _ _ _ _ _ _ _ _ hf hI (lv_sub hl [2, 3, 4, 5, 6] rfl)
          · have hf := g_t c1453 hf
            refine lv_aload_n hx hb dL_law_1456 rfl (lv_at hl 5 rfl) ?_
            refine lv_iconst (v := (0 : Int32)) hx hb dL_law_1457 (by decide) ?_
            refine g_ai2 X hI hf dL_law_1458 (fun v236 hf => ?_)
            refine lv_iload hx hb dL_law_1459 (lv_at hl 0 rfl) ?_
            refine lv_i2l hx hb dL_law_1461 rfl ?_
            refine W.lcmp hx hb dL_law_1462 ?_
            refine lv_if_eq (tgt := 1468) hx hb dL_law_1463 (by decide) (fun c1463 => ?_) (fun c1463 => ?_)
            · have hf := g_t c1463 hf
              exact b_L_law_1468 X hRc hq1 hn9 hbs ih _ _ _ _ _ _ _ _ _ _ _ hf hI (lv_sub hl [2, 3, 4, 5, 6] rfl)
            · have hf := g_f c1463 hf
              exact b_L_law_1466 X hRc hq1 hn9 hbs _ _ _ _ _ _ hf hI (lv_sub hl [] rfl)
        · have hf := g_f c1446 hf
          exact b_L_law_1449 X hRc hq1 hn9 hbs _ _ _ _ _ _ hf hI (lv_sub hl [] rfl)
      have hf := g_f c40_21 hf
      by_cases c40_22 : (v102 &&& (63 : Int32)) = (22 : Int32)
      · have hf := g_t c40_22 hf
        refine g_tsIn (k := (22 : Int32)) (off := 1431) (tgt := 1471) hx hb c40_22 dL_law_40 (by decide) (by decide) rfl (by decide) ?_
        refine lv_aload_n hx hb dL_law_1471 rfl (lv_at hl 1 rfl) ?_
        obtain ⟨hs, hf⟩ := gCk_b hf
        refine g_cBI hI hf (fun v9 h9 e9 l9 l9' => g_rV X hI l9 l9' hRc (As := []) (m_X1_gap X.2.2.2.2.2.2.2.2.2.2.1 e9) ydX1_gap hs rfl rfl q539 q540 q541 q121 q542 rfl (Nat.le_of_ble_eq_true rfl) (Nat.le_of_ble_eq_true rfl) hl.1 rfl (Nat.le_of_ble_eq_true rfl) dL_law_1472) (fun r237 h H locs cells slots hf hI => ?_)
        refine lv_aload_n hx hb dL_law_1475 rfl (lv_at hl 2 rfl) ?_
        obtain ⟨hs, hf⟩ := gCk_b hf
        refine g_cBI hI hf (fun v9 h9 e9 l9 l9' => g_rV X hI l9 l9' hRc (As := []) (m_X8_gap X.2.2.2.2.2.2.2.2.2.2.1 e9) ydX8_gap hs rfl rfl q1963 q1964 q1965 q131 q1966 rfl (Nat.le_of_ble_eq_true rfl) (Nat.le_of_ble_eq_true rfl) hl.1 rfl (Nat.le_of_ble_eq_true rfl) dL_law_1476) (fun r238 h H locs cells slots hf hI => ?_)
        refine lv_icmp_eq (tgt := 2492) hx hb dL_law_1479 (by decide) (fun c1479 => ?_) (fun c1479 => ?_)
        · have hf := g_t c1479 hf
          exact b_L_law_2492 X hRc hq1 hn9 hbs ih _ _ _ _ _ _ _ _ _ _ _ hf hI (lv_sub hl [0, 1, 2, 3, 4] rfl)
        · have hf := g_f c1479 hf
          exact b_L_law_1482 X hRc hq1 hn9 hbs _ _ _ _ _ _ hf hI (lv_sub hl [] rfl)
      have hf := g_f c40_22 hf
      by_cases c40_23 : (v102 &&& (63 : Int32)) = (23 : Int32)
      · have hf := g_t c40_23 hf
        refine g_tsIn (k := (23 : Int32)) (off := 1444) (tgt := 1484) hx hb c40_23 dL_law_40 (by decide) (by decide) rfl (by decide) ?_
        refine lv_aload_n hx hb dL_law_1484 rfl (lv_at hl 1 rfl) ?_
        refine lv_aload_n hx hb dL_law_1485 rfl (lv_at hl 0 rfl) ?_
        refine lv_iload hx hb dL_law_1486 (lv_at hl 4 rfl) ?_
        refine lv_iconst (v := (1 : Int32)) hx hb dL_law_1488 (by decide) ?_
        refine lv_iadd hx hb dL_law_1489 ?_
        refine g_aiO9 X hI hf dL_law_1490 (fun v239 hf => ?_)
        refine lv_if_eq (tgt := 1498) hx hb dL_law_1491 (by decide) (fun c1491 => ?_) (fun c1491 => ?_)
        · have hf := g_t c1491 hf
          refine lv_iconst (v := (0 : Int32)) hx hb dL_law_1498 (by decide) ?_
          exact b_L_law_1499 X hRc hq1 hn9 hbs ih _ _ _ _ _ _ _ _ _ _ _ _ _ hf hI (lv_sub hl [0, 1, 2, 3, 4] rfl)
        · have hf := g_f c1491 hf
          refine lv_iconst (v := (1 : Int32)) hx hb dL_law_1494 (by decide) ?_
          refine lv_goto (tgt := 1499) hx hb dL_law_1495 (by decide) ?_
          exact b_L_law_1499 X hRc hq1 hn9 hbs ih _ _ _ _ _ _ _ _ _ _ _ _ _ hf hI (lv_sub hl [0, 1, 2, 3, 4] rfl)
      have hf := g_f c40_23 hf
      by_cases c40_24 : (v102 &&& (63 : Int32)) = (24 : Int32)
      · have hf := g_t c40_24 hf
        refine g_tsIn (k := (24 : Int32)) (off := 1485) (tgt := 1525) hx hb c40_24 dL_law_40 (by decide) (by decide) rfl (by decide) ?_
        refine lv_aload_n hx hb dL_law_1525 rfl (lv_at hl 1 rfl) ?_
        obtain ⟨hs, hf⟩ := gCk_b hf
        refine g_cBI hI hf (fun v9 h9 e9 l9 l9' => g_rV X hI l9 l9' hRc (As := []) (m_X1_swap X.2.2.2.2.2.2.2.2.2.2.1 e9) ydX1_swap hs rfl rfl q636 q637 q638 q121 q639 rfl (Nat.le_of_ble_eq_true rfl) (Nat.le_of_ble_eq_true rfl) hl.1 rfl (Nat.le_of_ble_eq_true rfl) dL_law_1526) (fun r240 h H locs cells slots hf hI => ?_)
        refine lv_aload_n hx hb dL_law_1529 rfl (lv_at hl 2 rfl) ?_
        obtain ⟨hs, hf⟩ := gCk_b hf
        refine g_cBI hI hf (fun v9 h9 e9 l9 l9' => g_rV X hI l9 l9' hRc (As := []) (m_X8_swap X.2.2.2.2.2.2.2.2.2.2.1 e9) ydX8_swap hs rfl rfl q1988 q1989 q1990 q131 q1991 rfl (Nat.le_of_ble_eq_true rfl) (Nat.le_of_ble_eq_true rfl) hl.1 rfl (Nat.le_of_ble_eq_true rfl) dL_law_1530) (fun r241 h H locs cells slots hf hI => ?_)
        refine lv_icmp_eq (tgt := 2492) hx hb dL_law_1533 (by decide) (fun c1533 => ?_) (fun c1533 => ?_)
        · have hf := g_t c1533 hf
          exact b_L_law_2492 X hRc hq1 hn9 hbs ih _ _ _ _ _ _ _ _ _ _ _ hf hI (lv_sub hl [0, 1, 2, 3, 4] rfl)
        · have hf := g_f c1533 hf
          exact b_L_law_1536 X hRc hq1 hn9 hbs _ _ _ _ _ _ hf hI (lv_sub hl [] rfl)
      have hf := g_f c40_24 hf
      by_cases c40_25 : (v102 &&& (63 : Int32)) = (25 : Int32)
      · have hf := g_t c40_25 hf
        refine g_tsIn (k := (25 : Int32)) (off := 1498) (tgt := 1538) hx hb c40_25 dL_law_40 (by decide) (by decide) rfl (by decide) ?_
        refine lv_aload_n hx hb dL_law_1538 rfl (lv_at hl 1 rfl) ?_
        obtain ⟨hs, hf⟩ := gCk_b hf
        refine g_cBI hI hf (fun v9 h9 e9 l9 l9' => g_rV X hI l9 l9' hRc (As := []) (m_X1_next X.2.2.2.2.2.2.2.2.2.2.1 e9) ydX1_next hs rfl rfl q645 q646 q647 q121 q648 rfl (Nat.le_of_ble_eq_true rfl) (Nat.le_of_ble_eq_true rfl) hl.1 rfl (Nat.le_of_ble_eq_true rfl) dL_law_1539) (fun r242 h H locs cells slots hf hI => ?_)
        refine lv_aload_n hx hb dL_law_1542 rfl (lv_at hl 2 rfl) ?_
        obtain ⟨hs, hf⟩ := gCk_b hf
        refine g_cBI hI hf (fun v9 h9 e9 l9 l9' => g_rV X hI l9 l9' hRc (As := []) (m_X8_next X.2.2.2.2.2.2.2.2.2.2.1 e9) ydX8_next hs rfl rfl q1996 q1997 q1998 q131 q1999 rfl (Nat.le_of_ble_eq_true rfl) (Nat.le_of_ble_eq_true rfl) hl.1 rfl (Nat.le_of_ble_eq_true rfl) dL_law_1543) (fun r243 h H locs cells slots hf hI => ?_)
        refine lv_icmp_eq (tgt := 2492) hx hb dL_law_1546 (by decide) (fun c1546 => ?_) (fun c1546 => ?_)
        · have hf := g_t c1546 hf
          exact b_L_law_2492 X hRc hq1 hn9 hbs ih _ _ _ _ _ _ _ _ _ _ _ hf hI (lv_sub hl [0, 1, 2, 3, 4] rfl)
        · have hf := g_f c1546 hf
          exact b_L_law_1549 X hRc hq1 hn9 hbs _ _ _ _ _ _ hf hI (lv_sub hl [] rfl)
      have hf := g_f c40_25 hf
      by_cases c40_26 : (v102 &&& (63 : Int32)) = (26 : Int32)
      · have hf := g_t c40_26 hf
        refine g_tsIn (k := (26 : Int32)) (off := 1511) (tgt := 1551) hx hb c40_26 dL_law_40 (by decide) (by decide) rfl (by decide) ?_
        refine lv_aload_n hx hb dL_law_1551 rfl (lv_at hl 1 rfl) ?_
        refine lv_aload_n hx hb dL_law_1552 rfl (lv_at hl 0 rfl) ?_
        refine lv_iload hx hb dL_law_1553 (lv_at hl 4 rfl) ?_
        refine lv_iconst (v := (1 : Int32)) hx hb dL_law_1555 (by decide) ?_
        refine lv_iadd hx hb dL_law_1556 ?_
        refine g_aiO9 X hI hf dL_law_1557 (fun v244 hf => ?_)
        refine lv_aload_n hx hb dL_law_1558 rfl (lv_at hl 0 rfl) ?_
        refine lv_iload hx hb dL_law_1559 (lv_at hl 4 rfl) ?_
        refine lv_iconst (v := (2 : Int32)) hx hb dL_law_1561 (by decide) ?_
        refine lv_iadd hx hb dL_law_1562 ?_
        refine g_aiO9 X hI hf dL_law_1563 (fun v245 hf => ?_)
        refine lv_if_eq (tgt := 1571) hx hb dL_law_1564 (by decide) (fun c1564 => ?_) (fun c1564 => ?_)
        · have hf := g_t c1564 hf
          refine lv_iconst (v := (0 : Int32)) hx hb dL_law_1571 (by decide) ?_
          exact b_L_law_1572 X hRc hq1 hn9 hbs ih _ _ _ _ _ _ _ _ _ _ _ _ _ _ hf hI (lv_sub hl [0, 1, 2, 3, 4] rfl)
        · have hf := g_f c1564 hf
          refine lv_iconst (v := (1 : Int32)) hx hb dL_law_1567 (by decide) ?_
          refine lv_goto (tgt := 1572) hx hb dL_law_1568 (by decide) ?_
          exact b_L_law_1572 X hRc hq1 hn9 hbs ih _ _ _ _ _ _ _ _ _ _ _ _ _ _ hf hI (lv_sub hl [0, 1, 2, 3, 4] rfl)
      have hf := g_f c40_26 hf
      by_cases c40_27 : (v102 &&& (63 : Int32)) = (27 : Int32)
      · have hf := g_t c40_27 hf
        refine g_tsIn (k := (27 : Int32)) (off := 1595) (tgt := 1635) hx hb c40_27 dL_law_40 (by decide) (by decide) rfl (by decide) ?_
        refine lv_aload_n hx hb dL_law_1635 rfl (lv_at hl 1 rfl) ?_
        refine lv_aload_n hx hb dL_law_1636 rfl (lv_at hl 0 rfl) ?_
        refine lv_iload hx hb dL_law_1637 (lv_at hl 4 rfl) ?_
        refine lv_iconst (v := (1 : Int32)) hx hb dL_law_1639 (by decide) ?_
        refine lv_iadd hx hb dL_law_1640 ?_
        refine g_aiO9 X hI hf dL_law_1641 (fun v246 hf => ?_)
        refine lv_aload_n hx hb dL_law_1642 rfl (lv_at hl 3 rfl) ?_
        refine g_cBI hI hf (fun v9 h9 e9 l9 l9' => g_rSX (b := 0) X hI l9 l9' hRc (As := [.ref a1, .int v246, .ref a3]) (m_X0_ask X.2.2.2.2.2.2.2.2.2.2.1 e9) ydX0_ask q1335 q1336 q120 q1337 rfl (Nat.le_of_ble_eq_true rfl) (Nat.le_of_ble_eq_true rfl) hl.1 rfl (Nat.le_of_ble_eq_true rfl) dL_law_1643) (fun r247 h H locs cells slots hf hI => ?_)
        refine lv_istore (lv' := [(5, .int r247), (0, .ref a0), (1, .ref a1), (2, .ref a2), (3, .ref a3), (4, .int x4)]) hx hb dL_law_1646 hl (by decide) rfl (fun ls hl => ?_)
        refine lv_aload_n hx hb dL_law_1648 rfl (lv_at hl 3 rfl) ?_
        refine lv_aload_n hx hb dL_law_1649 rfl (lv_at hl 1 rfl) ?_
        refine lv_iload hx hb dL_law_1650 (lv_at hl 5 rfl) ?_
        refine lv_iconst (v := (1 : Int32)) hx hb dL_law_1652 (by decide) ?_
        refine lv_iadd hx hb dL_law_1653 ?_
        refine g_aiO9 X hI hf dL_law_1654 (fun v248 hf => ?_)
        obtain ⟨hs, hf⟩ := gCk_b hf
        refine g_cBI hI hf (fun v9 h9 e9 l9 l9' => g_rV X hI l9 l9' hRc (As := [.int v248]) (m_X8_ask X.2.2.2.2.2.2.2.2.2.2.1 e9) ydX8_ask hs rfl rfl q2053 q2054 q2055 q131 q2056 rfl (Nat.le_of_ble_eq_true rfl) (Nat.le_of_ble_eq_true rfl) hl.1 rfl (Nat.le_of_ble_eq_true rfl) dL_law_1655) (fun r249 h H locs cells slots hf hI => ?_)
        refine lv_istore (lv' := [(6, .int r249), (5, .int r247), (0, .ref a0), (1, .ref a1), (2, .ref a2), (3, .ref a3), (4, .int x4)]) hx hb dL_law_1658 hl (by decide) rfl (fun ls hl => ?_)
        refine lv_aload_n hx hb dL_law_1660 rfl (lv_at hl 4 rfl) ?_
        obtain ⟨hs, hf⟩ := gCk_b hf
        refine g_cBI hI hf (fun v9 h9 e9 l9 l9' => g_rV X hI l9 l9' hRc (As := []) (m_X8_thrown X.2.2.2.2.2.2.2.2.2.2.1 e9) ydX8_thrown hs rfl rfl q1434 q1435 q1436 q131 q1437 rfl (Nat.le_of_ble_eq_true rfl) (Nat.le_of_ble_eq_true rfl) hl.1 rfl (Nat.le_of_ble_eq_true rfl) dL_law_1661) (fun r250 h H locs cells slots hf hI => ?_)
        refine lv_iload hx hb dL_law_1664 (lv_at hl 1 rfl) ?_
        refine lv_icmp_eq (tgt := 1671) hx hb dL_law_1666 (by decide) (fun c1666 => ?_) (fun c1666 => ?_)
        · have hf := g_t c1666 hf
          refine lv_iload hx hb dL_law_1671 (lv_at hl 1 rfl) ?_
          refine lv_if_ne (tgt := 1688) hx hb dL_law_1673 (by decide) (fun c1673 => ?_) (fun c1673 => ?_)
          · have hf := g_f c1673 hf
            exact b_L_law_1688 X hRc hq1 hn9 hbs ih _ _ _ _ _ _ _ _ _ _ _ hf hI (lv_sub hl [2, 3, 4, 5, 6] rfl)
          · have hf := g_t c1673 hf
            refine lv_aload_n hx hb dL_law_1676 rfl (lv_at hl 5 rfl) ?_
            refine lv_iconst (v := (0 : Int32)) hx hb dL_law_1677 (by decide) ?_
            refine g_ai2 X hI hf dL_law_1678 (fun v251 hf => ?_)
            refine lv_iload hx hb dL_law_1679 (lv_at hl 0 rfl) ?_
            refine lv_i2l hx hb dL_law_1681 rfl ?_
            refine W.lcmp hx hb dL_law_1682 ?_
            refine lv_if_eq (tgt := 1688) hx hb dL_law_1683 (by decide) (fun c1683 => ?_) (fun c1683 => ?_)
            · have hf := g_t c1683 hf
              exact b_L_law_1688 X hRc hq1 hn9 hbs ih _ _ _ _ _ _ _ _ _ _ _ hf hI (lv_sub hl [2, 3, 4, 5, 6] rfl)
            · have hf := g_f c1683 hf
              exact b_L_law_1686 X hRc hq1 hn9 hbs _ _ _ _ _ _ hf hI (lv_sub hl [] rfl)
        · have hf := g_f c1666 hf
          exact b_L_law_1669 X hRc hq1 hn9 hbs _ _ _ _ _ _ hf hI (lv_sub hl [] rfl)
      have hf := g_f c40_27 hf
      by_cases c40_28 : (v102 &&& (63 : Int32)) = (28 : Int32)
      · have hf := g_t c40_28 hf
        refine g_tsIn (k := (28 : Int32)) (off := 1651) (tgt := 1691) hx hb c40_28 dL_law_40 (by decide) (by decide) rfl (by decide) ?_
        refine lv_aload_n hx hb dL_law_1691 rfl (lv_at hl 1 rfl) ?_
        refine lv_aload_n hx hb dL_law_1692 rfl (lv_at hl 0 rfl) ?_
        refine lv_iload hx hb dL_law_1693 (lv_at hl 4 rfl) ?_
        refine lv_iconst (v := (1 : Int32)) hx hb dL_law_1695 (by decide) ?_
        refine lv_iadd hx hb dL_law_1696 ?_
        refine g_aiO9 X hI hf dL_law_1697 (fun v252 hf => ?_)
        refine lv_aload_n hx hb dL_law_1698 rfl (lv_at hl 0 rfl) ?_
        refine lv_iload hx hb dL_law_1699 (lv_at hl 4 rfl) ?_
        refine lv_iconst (v := (2 : Int32)) hx hb dL_law_1701 (by decide) ?_
        refine lv_iadd hx hb dL_law_1702 ?_
        refine g_aiO9 X hI hf dL_law_1703 (fun v253 hf => ?_)
        refine lv_aload_n hx hb dL_law_1704 rfl (lv_at hl 3 rfl) ?_
        refine g_cBI hI hf (fun v9 h9 e9 l9 l9' => g_rSX (b := 0) X hI l9 l9' hRc (As := [.ref a1, .int v252, .int v253, .ref a3]) (m_X0_car X.2.2.2.2.2.2.2.2.2.2.1 e9) ydX0_car q1346 q1347 q120 q1348 rfl (Nat.le_of_ble_eq_true rfl) (Nat.le_of_ble_eq_true rfl) hl.1 rfl (Nat.le_of_ble_eq_true rfl) dL_law_1705) (fun r254 h H locs cells slots hf hI => ?_)
        refine lv_istore (lv' := [(5, .int r254), (0, .ref a0), (1, .ref a1), (2, .ref a2), (3, .ref a3), (4, .int x4)]) hx hb dL_law_1708 hl (by decide) rfl (fun ls hl => ?_)
        refine lv_aload_n hx hb dL_law_1710 rfl (lv_at hl 3 rfl) ?_
        refine lv_aload_n hx hb dL_law_1711 rfl (lv_at hl 1 rfl) ?_
        refine lv_iload hx hb dL_law_1712 (lv_at hl 5 rfl) ?_
        refine lv_iconst (v := (1 : Int32)) hx hb dL_law_1714 (by decide) ?_
        refine lv_iadd hx hb dL_law_1715 ?_
        refine g_aiO9 X hI hf dL_law_1716 (fun v255 hf => ?_)
        refine lv_aload_n hx hb dL_law_1717 rfl (lv_at hl 1 rfl) ?_
        refine lv_iload hx hb dL_law_1718 (lv_at hl 5 rfl) ?_
        refine lv_iconst (v := (2 : Int32)) hx hb dL_law_1720 (by decide) ?_
        refine lv_iadd hx hb dL_law_1721 ?_
        refine g_aiO9 X hI hf dL_law_1722 (fun v256 hf => ?_)
        obtain ⟨hs, hf⟩ := gCk_b hf
        refine g_cBI hI hf (fun v9 h9 e9 l9 l9' => g_rV X hI l9 l9' hRc (As := [.int v255, .int v256]) (m_X8_car X.2.2.2.2.2.2.2.2.2.2.1 e9) ydX8_car hs rfl rfl q1922 q1923 q1924 q131 q1925 rfl (Nat.le_of_ble_eq_true rfl) (Nat.le_of_ble_eq_true rfl) hl.1 rfl (Nat.le_of_ble_eq_true rfl) dL_law_1723) (fun r257 h H locs cells slots hf hI => ?_)
        refine lv_istore (lv' := [(6, .int r257), (5, .int r254), (0, .ref a0), (1, .ref a1), (2, .ref a2), (3, .ref a3), (4, .int x4)]) hx hb dL_law_1726 hl (by decide) rfl (fun ls hl => ?_)
        refine lv_aload_n hx hb dL_law_1728 rfl (lv_at hl 4 rfl) ?_
        obtain ⟨hs, hf⟩ := gCk_b hf
        refine g_cBI hI hf (fun v9 h9 e9 l9 l9' => g_rV X hI l9 l9' hRc (As := []) (m_X8_thrown X.2.2.2.2.2.2.2.2.2.2.1 e9) ydX8_thrown hs rfl rfl q1434 q1435 q1436 q131 q1437 rfl (Nat.le_of_ble_eq_true rfl) (Nat.le_of_ble_eq_true rfl) hl.1 rfl (Nat.le_of_ble_eq_true rfl) dL_law_1729) (fun r258 h H locs cells slots hf hI => ?_)
        refine lv_iload hx hb dL_law_1732 (lv_at hl 1 rfl) ?_
        refine lv_icmp_eq (tgt := 1739) hx hb dL_law_1734 (by decide) (fun c1734 => ?_) (fun c1734 => ?_)
        · have hf := g_t c1734 hf
          refine lv_iload hx hb dL_law_1739 (lv_at hl 1 rfl) ?_
          refine lv_if_ne (tgt := 1756) hx hb dL_law_1741 (by decide) (fun c1741 => ?_) (fun c1741 => ?_)
          · have hf := g_f c1741 hf
            exact b_L_law_1756 X hRc hq1 hn9 hbs ih _ _ _ _ _ _ _ _ _ _ _ hf hI (lv_sub hl [2, 3, 4, 5, 6] rfl)
          · have hf := g_t c1741 hf
            refine lv_aload_n hx hb dL_law_1744 rfl (lv_at hl 5 rfl) ?_
            refine lv_iconst (v := (0 : Int32)) hx hb dL_law_1745 (by decide) ?_
            refine g_ai2 X hI hf dL_law_1746 (fun v259 hf => ?_)
            refine lv_iload hx hb dL_law_1747 (lv_at hl 0 rfl) ?_
            refine lv_i2l hx hb dL_law_1749 rfl ?_
            refine W.lcmp hx hb dL_law_1750 ?_
            refine lv_if_eq (tgt := 1756) hx hb dL_law_1751 (by decide) (fun c1751 => ?_) (fun c1751 => ?_)
            · have hf := g_t c1751 hf
              exact b_L_law_1756 X hRc hq1 hn9 hbs ih _ _ _ _ _ _ _ _ _ _ _ hf hI (lv_sub hl [2, 3, 4, 5, 6] rfl)
            · have hf := g_f c1751 hf
              exact b_L_law_1754 X hRc hq1 hn9 hbs _ _ _ _ _ _ hf hI (lv_sub hl [] rfl)
        · have hf := g_f c1734 hf
          exact b_L_law_1737 X hRc hq1 hn9 hbs _ _ _ _ _ _ hf hI (lv_sub hl [] rfl)
      have hf := g_f c40_28 hf
      by_cases c40_29 : (v102 &&& (63 : Int32)) = (29 : Int32)
      · have hf := g_t c40_29 hf
        refine g_tsIn (k := (29 : Int32)) (off := 1719) (tgt := 1759) hx hb c40_29 dL_law_40 (by decide) (by decide) rfl (by decide) ?_
        refine lv_aload_n hx hb dL_law_1759 rfl (lv_at hl 1 rfl) ?_
        refine lv_aload_n hx hb dL_law_1760 rfl (lv_at hl 0 rfl) ?_
        refine lv_iload hx hb dL_law_1761 (lv_at hl 4 rfl) ?_
        refine lv_iconst (v := (1 : Int32)) hx hb dL_law_1763 (by decide) ?_
        refine lv_iadd hx hb dL_law_1764 ?_
        refine g_aiO9 X hI hf dL_law_1765 (fun v260 hf => ?_)
        refine lv_aload_n hx hb dL_law_1766 rfl (lv_at hl 3 rfl) ?_
        refine g_cBI hI hf (fun v9 h9 e9 l9 l9' => g_rSX (b := 0) X hI l9 l9' hRc (As := [.ref a1, .int v260, .ref a3]) (m_X0_corners X.2.2.2.2.2.2.2.2.2.2.1 e9) ydX0_corners q1353 q1354 q120 q1355 rfl (Nat.le_of_ble_eq_true rfl) (Nat.le_of_ble_eq_true rfl) hl.1 rfl (Nat.le_of_ble_eq_true rfl) dL_law_1767) (fun r261 h H locs cells slots hf hI => ?_)
        refine lv_istore (lv' := [(5, .int r261), (0, .ref a0), (1, .ref a1), (2, .ref a2), (3, .ref a3), (4, .int x4)]) hx hb dL_law_1770 hl (by decide) rfl (fun ls hl => ?_)
        refine lv_aload_n hx hb dL_law_1772 rfl (lv_at hl 3 rfl) ?_
        refine lv_aload_n hx hb dL_law_1773 rfl (lv_at hl 1 rfl) ?_
        refine lv_iload hx hb dL_law_1774 (lv_at hl 5 rfl) ?_
        refine lv_iconst (v := (1 : Int32)) hx hb dL_law_1776 (by decide) ?_
        refine lv_iadd hx hb dL_law_1777 ?_
        refine g_aiO9 X hI hf dL_law_1778 (fun v262 hf => ?_)
        obtain ⟨hs, hf⟩ := gCk_b hf
        refine g_cBI hI hf (fun v9 h9 e9 l9 l9' => g_rV X hI l9 l9' hRc (As := [.int v262]) (m_X8_corners X.2.2.2.2.2.2.2.2.2.2.1 e9) ydX8_corners hs rfl rfl q1894 q1895 q1896 q131 q1897 rfl (Nat.le_of_ble_eq_true rfl) (Nat.le_of_ble_eq_true rfl) hl.1 rfl (Nat.le_of_ble_eq_true rfl) dL_law_1779) (fun r263 h H locs cells slots hf hI => ?_)
        refine lv_istore (lv' := [(6, .int r263), (5, .int r261), (0, .ref a0), (1, .ref a1), (2, .ref a2), (3, .ref a3), (4, .int x4)]) hx hb dL_law_1782 hl (by decide) rfl (fun ls hl => ?_)
        refine lv_aload_n hx hb dL_law_1784 rfl (lv_at hl 4 rfl) ?_
        obtain ⟨hs, hf⟩ := gCk_b hf
        refine g_cBI hI hf (fun v9 h9 e9 l9 l9' => g_rV X hI l9 l9' hRc (As := []) (m_X8_thrown X.2.2.2.2.2.2.2.2.2.2.1 e9) ydX8_thrown hs rfl rfl q1434 q1435 q1436 q131 q1437 rfl (Nat.le_of_ble_eq_true rfl) (Nat.le_of_ble_eq_true rfl) hl.1 rfl (Nat.le_of_ble_eq_true rfl) dL_law_1785) (fun r264 h H locs cells slots hf hI => ?_)
        refine lv_iload hx hb dL_law_1788 (lv_at hl 1 rfl) ?_
        refine lv_icmp_eq (tgt := 1795) hx hb dL_law_1790 (by decide) (fun c1790 => ?_) (fun c1790 => ?_)
        · have hf := g_t c1790 hf
          refine lv_iload hx hb dL_law_1795 (lv_at hl 1 rfl) ?_
          refine lv_if_ne (tgt := 1812) hx hb dL_law_1797 (by decide) (fun c1797 => ?_) (fun c1797 => ?_)
          · have hf := g_f c1797 hf
            exact b_L_law_1812 X hRc hq1 hn9 hbs ih _ _ _ _ _ _ _ _ _ _ _ hf hI (lv_sub hl [2, 3, 4, 5, 6] rfl)
          · have hf := g_t c1797 hf
            refine lv_aload_n hx hb dL_law_1800 rfl (lv_at hl 5 rfl) ?_
            refine lv_iconst (v := (0 : Int32)) hx hb dL_law_1801 (by decide) ?_
            refine g_ai2 X hI hf dL_law_1802 (fun v265 hf => ?_)
            refine lv_iload hx hb dL_law_1803 (lv_at hl 0 rfl) ?_
            refine lv_i2l hx hb dL_law_1805 rfl ?_
            refine W.lcmp hx hb dL_law_1806 ?_
            refine lv_if_eq (tgt := 1812) hx hb dL_law_1807 (by decide) (fun c1807 => ?_) (fun c1807 => ?_)
            · have hf := g_t c1807 hf
              exact b_L_law_1812 X hRc hq1 hn9 hbs ih _ _ _ _ _ _ _ _ _ _ _ hf hI (lv_sub hl [2, 3, 4, 5, 6] rfl)
            · have hf := g_f c1807 hf
              exact b_L_law_1810 X hRc hq1 hn9 hbs _ _ _ _ _ _ hf hI (lv_sub hl [] rfl)
        · have hf := g_f c1790 hf
          exact b_L_law_1793 X hRc hq1 hn9 hbs _ _ _ _ _ _ hf hI (lv_sub hl [] rfl)
      have hf := g_f c40_29 hf
      by_cases c40_30 : (v102 &&& (63 : Int32)) = (30 : Int32)
      · have hf := g_t c40_30 hf
        refine g_tsIn (k := (30 : Int32)) (off := 1775) (tgt := 1815) hx hb c40_30 dL_law_40 (by decide) (by decide) rfl (by decide) ?_
        refine lv_aload_n hx hb dL_law_1815 rfl (lv_at hl 1 rfl) ?_
        obtain ⟨hs, hf⟩ := gCk_b hf
        refine g_cBI hI hf (fun v9 h9 e9 l9 l9' => g_rV X hI l9 l9' hRc (As := []) (m_X1_cover X.2.2.2.2.2.2.2.2.2.2.1 e9) ydX1_cover hs rfl rfl q650 q651 q652 q121 q653 rfl (Nat.le_of_ble_eq_true rfl) (Nat.le_of_ble_eq_true rfl) hl.1 rfl (Nat.le_of_ble_eq_true rfl) dL_law_1816) (fun r266 h H locs cells slots hf hI => ?_)
        refine lv_aload_n hx hb dL_law_1819 rfl (lv_at hl 2 rfl) ?_
        obtain ⟨hs, hf⟩ := gCk_b hf
        refine g_cBI hI hf (fun v9 h9 e9 l9 l9' => g_rV X hI l9 l9' hRc (As := []) (m_X8_cover X.2.2.2.2.2.2.2.2.2.2.1 e9) ydX8_cover hs rfl rfl q2013 q2014 q2015 q131 q2016 rfl (Nat.le_of_ble_eq_true rfl) (Nat.le_of_ble_eq_true rfl) hl.1 rfl (Nat.le_of_ble_eq_true rfl) dL_law_1820) (fun r267 h H locs cells slots hf hI => ?_)
        refine lv_icmp_eq (tgt := 2492) hx hb dL_law_1823 (by decide) (fun c1823 => ?_) (fun c1823 => ?_)
        · have hf := g_t c1823 hf
          exact b_L_law_2492 X hRc hq1 hn9 hbs ih _ _ _ _ _ _ _ _ _ _ _ hf hI (lv_sub hl [0, 1, 2, 3, 4] rfl)
        · have hf := g_f c1823 hf
          exact b_L_law_1826 X hRc hq1 hn9 hbs _ _ _ _ _ _ hf hI (lv_sub hl [] rfl)
      have hf := g_f c40_30 hf
      by_cases c40_31 : (v102 &&& (63 : Int32)) = (31 : Int32)
      · have hf := g_t c40_31 hf
        refine g_tsIn (k := (31 : Int32)) (off := 1788) (tgt := 1828) hx hb c40_31 dL_law_40 (by decide) (by decide) rfl (by decide) ?_
        refine lv_aload_n hx hb dL_law_1828 rfl (lv_at hl 1 rfl) ?_
        obtain ⟨hs, hf⟩ := gCk_b hf
        refine g_cBI hI hf (fun v9 h9 e9 l9 l9' => g_rV X hI l9 l9' hRc (As := []) (m_X1_leave X.2.2.2.2.2.2.2.2.2.2.1 e9) ydX1_leave hs rfl rfl q664 q665 q666 q121 q667 rfl (Nat.le_of_ble_eq_true rfl) (Nat.le_of_ble_eq_true rfl) hl.1 rfl (Nat.le_of_ble_eq_true rfl) dL_law_1829) (fun r268 h H locs cells slots hf hI => ?_)
        refine lv_aload_n hx hb dL_law_1832 rfl (lv_at hl 2 rfl) ?_
        obtain ⟨hs, hf⟩ := gCk_b hf
        refine g_cBI hI hf (fun v9 h9 e9 l9 l9' => g_rV X hI l9 l9' hRc (As := []) (m_X8_leave X.2.2.2.2.2.2.2.2.2.2.1 e9) ydX8_leave hs rfl rfl q2001 q2002 q2003 q131 q2004 rfl (Nat.le_of_ble_eq_true rfl) (Nat.le_of_ble_eq_true rfl) hl.1 rfl (Nat.le_of_ble_eq_true rfl) dL_law_1833) (fun r269 h H locs cells slots hf hI => ?_)
        refine lv_icmp_eq (tgt := 2492) hx hb dL_law_1836 (by decide) (fun c1836 => ?_) (fun c1836 => ?_)
        · have hf := g_t c1836 hf
          exact b_L_law_2492 X hRc hq1 hn9 hbs ih _ _ _ _ _ _ _ _ _ _ _ hf hI (lv_sub hl [0, 1, 2, 3, 4] rfl)
        · have hf := g_f c1836 hf
          exact b_L_law_1839 X hRc hq1 hn9 hbs _ _ _ _ _ _ hf hI (lv_sub hl [] rfl)
      have hf := g_f c40_31 hf
      by_cases c40_32 : (v102 &&& (63 : Int32)) = (32 : Int32)
      · have hf := g_t c40_32 hf
        refine g_tsIn (k := (32 : Int32)) (off := 1801) (tgt := 1841) hx hb c40_32 dL_law_40 (by decide) (by decide) rfl (by decide) ?_
        refine lv_aload_n hx hb dL_law_1841 rfl (lv_at hl 1 rfl) ?_
        obtain ⟨hs, hf⟩ := gCk_b hf
        refine g_cBI hI hf (fun v9 h9 e9 l9 l9' => g_rV X hI l9 l9' hRc (As := []) (m_X1_bravest X.2.2.2.2.2.2.2.2.2.2.1 e9) ydX1_bravest hs rfl rfl q722 q723 q724 q121 q725 rfl (Nat.le_of_ble_eq_true rfl) (Nat.le_of_ble_eq_true rfl) hl.1 rfl (Nat.le_of_ble_eq_true rfl) dL_law_1842) (fun r270 h H locs cells slots hf hI => ?_)
        refine lv_aload_n hx hb dL_law_1845 rfl (lv_at hl 2 rfl) ?_
        obtain ⟨hs, hf⟩ := gCk_b hf
        refine g_cBI hI hf (fun v9 h9 e9 l9 l9' => g_rV X hI l9 l9' hRc (As := []) (m_X8_bravest X.2.2.2.2.2.2.2.2.2.2.1 e9) ydX8_bravest hs rfl rfl q1979 q1980 q1981 q131 q1982 rfl (Nat.le_of_ble_eq_true rfl) (Nat.le_of_ble_eq_true rfl) hl.1 rfl (Nat.le_of_ble_eq_true rfl) dL_law_1846) (fun r271 h H locs cells slots hf hI => ?_)
        refine lv_icmp_eq (tgt := 2492) hx hb dL_law_1849 (by decide) (fun c1849 => ?_) (fun c1849 => ?_)
        · have hf := g_t c1849 hf
          exact b_L_law_2492 X hRc hq1 hn9 hbs ih _ _ _ _ _ _ _ _ _ _ _ hf hI (lv_sub hl [0, 1, 2, 3, 4] rfl)
        · have hf := g_f c1849 hf
          exact b_L_law_1852 X hRc hq1 hn9 hbs _ _ _ _ _ _ hf hI (lv_sub hl [] rfl)
      have hf := g_f c40_32 hf
      by_cases c40_33 : (v102 &&& (63 : Int32)) = (33 : Int32)
      · have hf := g_t c40_33 hf
        refine g_tsIn (k := (33 : Int32)) (off := 1814) (tgt := 1854) hx hb c40_33 dL_law_40 (by decide) (by decide) rfl (by decide) ?_
        refine lv_aload_n hx hb dL_law_1854 rfl (lv_at hl 1 rfl) ?_
        obtain ⟨hs, hf⟩ := gCk_b hf
        refine g_cBI hI hf (fun v9 h9 e9 l9 l9' => g_rV X hI l9 l9' hRc (As := []) (m_X1_alike X.2.2.2.2.2.2.2.2.2.2.1 e9) ydX1_alike hs rfl rfl q727 q728 q729 q121 q730 rfl (Nat.le_of_ble_eq_true rfl) (Nat.le_of_ble_eq_true rfl) hl.1 rfl (Nat.le_of_ble_eq_true rfl) dL_law_1855) (fun r272 h H locs cells slots hf hI => ?_)
        refine lv_aload_n hx hb dL_law_1858 rfl (lv_at hl 2 rfl) ?_
        obtain ⟨hs, hf⟩ := gCk_b hf
        refine g_cBI hI hf (fun v9 h9 e9 l9 l9' => g_rV X hI l9 l9' hRc (As := []) (m_X8_alike X.2.2.2.2.2.2.2.2.2.2.1 e9) ydX8_alike hs rfl rfl q2037 q2038 q2039 q131 q2040 rfl (Nat.le_of_ble_eq_true rfl) (Nat.le_of_ble_eq_true rfl) hl.1 rfl (Nat.le_of_ble_eq_true rfl) dL_law_1859) (fun r273 h H locs cells slots hf hI => ?_)
        refine lv_icmp_eq (tgt := 2492) hx hb dL_law_1862 (by decide) (fun c1862 => ?_) (fun c1862 => ?_)
        · have hf := g_t c1862 hf
          exact b_L_law_2492 X hRc hq1 hn9 hbs ih _ _ _ _ _ _ _ _ _ _ _ hf hI (lv_sub hl [0, 1, 2, 3, 4] rfl)
        · have hf := g_f c1862 hf
          exact b_L_law_1865 X hRc hq1 hn9 hbs _ _ _ _ _ _ hf hI (lv_sub hl [] rfl)
      have hf := g_f c40_33 hf
      by_cases c40_34 : (v102 &&& (63 : Int32)) = (34 : Int32)
      · have hf := g_t c40_34 hf
        refine g_tsIn (k := (34 : Int32)) (off := 1827) (tgt := 1867) hx hb c40_34 dL_law_40 (by decide) (by decide) rfl (by decide) ?_
        refine lv_aload_n hx hb dL_law_1867 rfl (lv_at hl 1 rfl) ?_
        refine lv_aload_n hx hb dL_law_1868 rfl (lv_at hl 0 rfl) ?_
        refine lv_iload hx hb dL_law_1869 (lv_at hl 4 rfl) ?_
        refine lv_iconst (v := (1 : Int32)) hx hb dL_law_1871 (by decide) ?_
        refine lv_iadd hx hb dL_law_1872 ?_
        refine g_aiO9 X hI hf dL_law_1873 (fun v274 hf => ?_)
        refine lv_aload_n hx hb dL_law_1874 rfl (lv_at hl 3 rfl) ?_
        refine g_cBI hI hf (fun v9 h9 e9 l9 l9' => g_rSX (b := 0) X hI l9 l9' hRc (As := [.ref a1, .int v274, .ref a3]) (m_X0_usher X.2.2.2.2.2.2.2.2.2.2.1 e9) ydX0_usher q1360 q1361 q120 q1362 rfl (Nat.le_of_ble_eq_true rfl) (Nat.le_of_ble_eq_true rfl) hl.1 rfl (Nat.le_of_ble_eq_true rfl) dL_law_1875) (fun r275 h H locs cells slots hf hI => ?_)
        refine lv_istore (lv' := [(5, .int r275), (0, .ref a0), (1, .ref a1), (2, .ref a2), (3, .ref a3), (4, .int x4)]) hx hb dL_law_1878 hl (by decide) rfl (fun ls hl => ?_)
        refine lv_aload_n hx hb dL_law_1880 rfl (lv_at hl 3 rfl) ?_
        refine lv_aload_n hx hb dL_law_1881 rfl (lv_at hl 1 rfl) ?_
        refine lv_iload hx hb dL_law_1882 (lv_at hl 5 rfl) ?_
        refine lv_iconst (v := (1 : Int32)) hx hb dL_law_1884 (by decide) ?_
        refine lv_iadd hx hb dL_law_1885 ?_
        refine g_aiO9 X hI hf dL_law_1886 (fun v276 hf => ?_)
        obtain ⟨hs, hf⟩ := gCk_b hf
        refine g_cBI hI hf (fun v9 h9 e9 l9 l9' => g_rV X hI l9 l9' hRc (As := [.int v276]) (m_X8_usher X.2.2.2.2.2.2.2.2.2.2.1 e9) ydX8_usher hs rfl rfl q2021 q2022 q2023 q131 q2024 rfl (Nat.le_of_ble_eq_true rfl) (Nat.le_of_ble_eq_true rfl) hl.1 rfl (Nat.le_of_ble_eq_true rfl) dL_law_1887) (fun r277 h H locs cells slots hf hI => ?_)
        refine lv_istore (lv' := [(6, .int r277), (5, .int r275), (0, .ref a0), (1, .ref a1), (2, .ref a2), (3, .ref a3), (4, .int x4)]) hx hb dL_law_1890 hl (by decide) rfl (fun ls hl => ?_)
        refine lv_aload_n hx hb dL_law_1892 rfl (lv_at hl 4 rfl) ?_
        obtain ⟨hs, hf⟩ := gCk_b hf
        refine g_cBI hI hf (fun v9 h9 e9 l9 l9' => g_rV X hI l9 l9' hRc (As := []) (m_X8_thrown X.2.2.2.2.2.2.2.2.2.2.1 e9) ydX8_thrown hs rfl rfl q1434 q1435 q1436 q131 q1437 rfl (Nat.le_of_ble_eq_true rfl) (Nat.le_of_ble_eq_true rfl) hl.1 rfl (Nat.le_of_ble_eq_true rfl) dL_law_1893) (fun r278 h H locs cells slots hf hI => ?_)
        refine lv_iload hx hb dL_law_1896 (lv_at hl 1 rfl) ?_
        refine lv_icmp_eq (tgt := 1903) hx hb dL_law_1898 (by decide) (fun c1898 => ?_) (fun c1898 => ?_)
        · have hf := g_t c1898 hf
          refine lv_iload hx hb dL_law_1903 (lv_at hl 1 rfl) ?_
          refine lv_if_ne (tgt := 1920) hx hb dL_law_1905 (by decide) (fun c1905 => ?_) (fun c1905 => ?_)
          · have hf := g_f c1905 hf
            exact b_L_law_1920 X hRc hq1 hn9 hbs ih _ _ _ _ _ _ _ _ _ _ _ hf hI (lv_sub hl [2, 3, 4, 5, 6] rfl)
          · have hf := g_t c1905 hf
            refine lv_aload_n hx hb dL_law_1908 rfl (lv_at hl 5 rfl) ?_
            refine lv_iconst (v := (0 : Int32)) hx hb dL_law_1909 (by decide) ?_
            refine g_ai2 X hI hf dL_law_1910 (fun v279 hf => ?_)
            refine lv_iload hx hb dL_law_1911 (lv_at hl 0 rfl) ?_
            refine lv_i2l hx hb dL_law_1913 rfl ?_
            refine W.lcmp hx hb dL_law_1914 ?_
            refine lv_if_eq (tgt := 1920) hx hb dL_law_1915 (by decide) (fun c1915 => ?_) (fun c1915 => ?_)
            · have hf := g_t c1915 hf
              exact b_L_law_1920 X hRc hq1 hn9 hbs ih _ _ _ _ _ _ _ _ _ _ _ hf hI (lv_sub hl [2, 3, 4, 5, 6] rfl)
            · have hf := g_f c1915 hf
              exact b_L_law_1918 X hRc hq1 hn9 hbs _ _ _ _ _ _ hf hI (lv_sub hl [] rfl)
        · have hf := g_f c1898 hf
          exact b_L_law_1901 X hRc hq1 hn9 hbs _ _ _ _ _ _ hf hI (lv_sub hl [] rfl)
      have hf := g_f c40_34 hf
      by_cases c40_35 : (v102 &&& (63 : Int32)) = (35 : Int32)
      · have hf := g_t c40_35 hf
        refine g_tsIn (k := (35 : Int32)) (off := 1883) (tgt := 1923) hx hb c40_35 dL_law_40 (by decide) (by decide) rfl (by decide) ?_
        refine lv_aload_n hx hb dL_law_1923 rfl (lv_at hl 1 rfl) ?_
        refine lv_aload_n hx hb dL_law_1924 rfl (lv_at hl 0 rfl) ?_
        refine lv_iload hx hb dL_law_1925 (lv_at hl 4 rfl) ?_
        refine lv_iconst (v := (1 : Int32)) hx hb dL_law_1927 (by decide) ?_
        refine lv_iadd hx hb dL_law_1928 ?_
        refine g_aiO9 X hI hf dL_law_1929 (fun v280 hf => ?_)
        refine lv_aload_n hx hb dL_law_1930 rfl (lv_at hl 0 rfl) ?_
        refine lv_iload hx hb dL_law_1931 (lv_at hl 4 rfl) ?_
        refine lv_iconst (v := (2 : Int32)) hx hb dL_law_1933 (by decide) ?_
        refine lv_iadd hx hb dL_law_1934 ?_
        refine g_aiO9 X hI hf dL_law_1935 (fun v281 hf => ?_)
        refine lv_aload_n hx hb dL_law_1936 rfl (lv_at hl 3 rfl) ?_
        refine g_cBI hI hf (fun v9 h9 e9 l9 l9' => g_rSX (b := 0) X hI l9 l9' hRc (As := [.ref a1, .int v280, .int v281, .ref a3]) (m_X0_lasts X.2.2.2.2.2.2.2.2.2.2.1 e9) ydX0_lasts q1375 q1376 q120 q1377 rfl (Nat.le_of_ble_eq_true rfl) (Nat.le_of_ble_eq_true rfl) hl.1 rfl (Nat.le_of_ble_eq_true rfl) dL_law_1937) (fun r282 h H locs cells slots hf hI => ?_)
        refine lv_istore (lv' := [(5, .int r282), (0, .ref a0), (1, .ref a1), (2, .ref a2), (3, .ref a3), (4, .int x4)]) hx hb dL_law_1940 hl (by decide) rfl (fun ls hl => ?_)
        refine lv_aload_n hx hb dL_law_1942 rfl (lv_at hl 3 rfl) ?_
        refine lv_aload_n hx hb dL_law_1943 rfl (lv_at hl 1 rfl) ?_
        refine lv_iload hx hb dL_law_1944 (lv_at hl 5 rfl) ?_
        refine lv_iconst (v := (1 : Int32)) hx hb dL_law_1946 (by decide) ?_
        refine lv_iadd hx hb dL_law_1947 ?_
        refine g_aiO9 X hI hf dL_law_1948 (fun v283 hf => ?_)
        refine lv_aload_n hx hb dL_law_1949 rfl (lv_at hl 1 rfl) ?_
        refine lv_iload hx hb dL_law_1950 (lv_at hl 5 rfl) ?_
        refine lv_iconst (v := (2 : Int32)) hx hb dL_law_1952 (by decide) ?_
        refine lv_iadd hx hb dL_law_1953 ?_
        refine g_aiO9 X hI hf dL_law_1954 (fun v284 hf => ?_)
        obtain ⟨hs, hf⟩ := gCk_b hf
        refine g_cBI hI hf (fun v9 h9 e9 l9 l9' => g_rV X hI l9 l9' hRc (As := [.int v283, .int v284]) (m_X8_lasts X.2.2.2.2.2.2.2.2.2.2.1 e9) ydX8_lasts hs rfl rfl q1918 q1919 q1920 q131 q1921 rfl (Nat.le_of_ble_eq_true rfl) (Nat.le_of_ble_eq_true rfl) hl.1 rfl (Nat.le_of_ble_eq_true rfl) dL_law_1955) (fun r285 h H locs cells slots hf hI => ?_)
        refine lv_istore (lv' := [(6, .int r285), (5, .int r282), (0, .ref a0), (1, .ref a1), (2, .ref a2), (3, .ref a3), (4, .int x4)]) hx hb dL_law_1958 hl (by decide) rfl (fun ls hl => ?_)
        refine lv_aload_n hx hb dL_law_1960 rfl (lv_at hl 4 rfl) ?_
        obtain ⟨hs, hf⟩ := gCk_b hf
        refine g_cBI hI hf (fun v9 h9 e9 l9 l9' => g_rV X hI l9 l9' hRc (As := []) (m_X8_thrown X.2.2.2.2.2.2.2.2.2.2.1 e9) ydX8_thrown hs rfl rfl q1434 q1435 q1436 q131 q1437 rfl (Nat.le_of_ble_eq_true rfl) (Nat.le_of_ble_eq_true rfl) hl.1 rfl (Nat.le_of_ble_eq_true rfl) dL_law_1961) (fun r286 h H locs cells slots hf hI => ?_)
        refine lv_iload hx hb dL_law_1964 (lv_at hl 1 rfl) ?_
        refine lv_icmp_eq (tgt := 1971) hx hb dL_law_1966 (by decide) (fun c1966 => ?_) (fun c1966 => ?_)
        · have hf := g_t c1966 hf
          refine lv_iload hx hb dL_law_1971 (lv_at hl 1 rfl) ?_
          refine lv_if_ne (tgt := 1988) hx hb dL_law_1973 (by decide) (fun c1973 => ?_) (fun c1973 => ?_)
          · have hf := g_f c1973 hf
            exact b_L_law_1988 X hRc hq1 hn9 hbs ih _ _ _ _ _ _ _ _ _ _ _ hf hI (lv_sub hl [2, 3, 4, 5, 6] rfl)
          · have hf := g_t c1973 hf
            refine lv_aload_n hx hb dL_law_1976 rfl (lv_at hl 5 rfl) ?_
            refine lv_iconst (v := (0 : Int32)) hx hb dL_law_1977 (by decide) ?_
            refine g_ai2 X hI hf dL_law_1978 (fun v287 hf => ?_)
            refine lv_iload hx hb dL_law_1979 (lv_at hl 0 rfl) ?_
            refine lv_i2l hx hb dL_law_1981 rfl ?_
            refine W.lcmp hx hb dL_law_1982 ?_
            refine lv_if_eq (tgt := 1988) hx hb dL_law_1983 (by decide) (fun c1983 => ?_) (fun c1983 => ?_)
            · have hf := g_t c1983 hf
              exact b_L_law_1988 X hRc hq1 hn9 hbs ih _ _ _ _ _ _ _ _ _ _ _ hf hI (lv_sub hl [2, 3, 4, 5, 6] rfl)
            · have hf := g_f c1983 hf
              exact b_L_law_1986 X hRc hq1 hn9 hbs _ _ _ _ _ _ hf hI (lv_sub hl [] rfl)
        · have hf := g_f c1966 hf
          exact b_L_law_1969 X hRc hq1 hn9 hbs _ _ _ _ _ _ hf hI (lv_sub hl [] rfl)
      have hf := g_f c40_35 hf
      by_cases c40_36 : (v102 &&& (63 : Int32)) = (36 : Int32)
      · have hf := g_t c40_36 hf
        refine g_tsIn (k := (36 : Int32)) (off := 1951) (tgt := 1991) hx hb c40_36 dL_law_40 (by decide) (by decide) rfl (by decide) ?_
        refine lv_aload_n hx hb dL_law_1991 rfl (lv_at hl 1 rfl) ?_
        refine lv_aload_n hx hb dL_law_1992 rfl (lv_at hl 0 rfl) ?_
        refine lv_iload hx hb dL_law_1993 (lv_at hl 4 rfl) ?_
        refine lv_iconst (v := (1 : Int32)) hx hb dL_law_1995 (by decide) ?_
        refine lv_iadd hx hb dL_law_1996 ?_
        refine g_aiO9 X hI hf dL_law_1997 (fun v288 hf => ?_)
        refine lv_if_eq (tgt := 2005) hx hb dL_law_1998 (by decide) (fun c1998 => ?_) (fun c1998 => ?_)
        · have hf := g_t c1998 hf
          refine lv_iconst (v := (0 : Int32)) hx hb dL_law_2005 (by decide) ?_
          exact b_L_law_2006 X hRc hq1 hn9 hbs ih _ _ _ _ _ _ _ _ _ _ _ _ _ hf hI (lv_sub hl [0, 1, 2, 3, 4] rfl)
        · have hf := g_f c1998 hf
          refine lv_iconst (v := (1 : Int32)) hx hb dL_law_2001 (by decide) ?_
          refine lv_goto (tgt := 2006) hx hb dL_law_2002 (by decide) ?_
          exact b_L_law_2006 X hRc hq1 hn9 hbs ih _ _ _ _ _ _ _ _ _ _ _ _ _ hf hI (lv_sub hl [0, 1, 2, 3, 4] rfl)
      have hf := g_f c40_36 hf
      by_cases c40_37 : (v102 &&& (63 : Int32)) = (37 : Int32)
      · have hf := g_t c40_37 hf
        refine g_tsIn (k := (37 : Int32)) (off := 1992) (tgt := 2032) hx hb c40_37 dL_law_40 (by decide) (by decide) rfl (by decide) ?_
        refine lv_aload_n hx hb dL_law_2032 rfl (lv_at hl 1 rfl) ?_
        refine lv_aload_n hx hb dL_law_2033 rfl (lv_at hl 0 rfl) ?_
        refine lv_iload hx hb dL_law_2034 (lv_at hl 4 rfl) ?_
        refine lv_iconst (v := (1 : Int32)) hx hb dL_law_2036 (by decide) ?_
        refine lv_iadd hx hb dL_law_2037 ?_
        refine g_aiO9 X hI hf dL_law_2038 (fun v289 hf => ?_)
        refine lv_aload_n hx hb dL_law_2039 rfl (lv_at hl 0 rfl) ?_
        refine lv_iload hx hb dL_law_2040 (lv_at hl 4 rfl) ?_
        refine lv_iconst (v := (2 : Int32)) hx hb dL_law_2042 (by decide) ?_
        refine lv_iadd hx hb dL_law_2043 ?_
        refine g_aiO9 X hI hf dL_law_2044 (fun v290 hf => ?_)
        refine lv_aload_n hx hb dL_law_2045 rfl (lv_at hl 3 rfl) ?_
        refine g_cBI hI hf (fun v9 h9 e9 l9 l9' => g_rSX (b := 0) X hI l9 l9' hRc (As := [.ref a1, .int v289, .int v290, .ref a3]) (m_X0_share X.2.2.2.2.2.2.2.2.2.2.1 e9) ydX0_share q1382 q1383 q120 q1384 rfl (Nat.le_of_ble_eq_true rfl) (Nat.le_of_ble_eq_true rfl) hl.1 rfl (Nat.le_of_ble_eq_true rfl) dL_law_2046) (fun r291 h H locs cells slots hf hI => ?_)
        refine lv_istore (lv' := [(5, .int r291), (0, .ref a0), (1, .ref a1), (2, .ref a2), (3, .ref a3), (4, .int x4)]) hx hb dL_law_2049 hl (by decide) rfl (fun ls hl => ?_)
        refine lv_aload_n hx hb dL_law_2051 rfl (lv_at hl 3 rfl) ?_
        refine lv_aload_n hx hb dL_law_2052 rfl (lv_at hl 1 rfl) ?_
        refine lv_iload hx hb dL_law_2053 (lv_at hl 5 rfl) ?_
        refine lv_iconst (v := (1 : Int32)) hx hb dL_law_2055 (by decide) ?_
        refine lv_iadd hx hb dL_law_2056 ?_
        refine g_aiO9 X hI hf dL_law_2057 (fun v292 hf => ?_)
        refine lv_aload_n hx hb dL_law_2058 rfl (lv_at hl 1 rfl) ?_
        refine lv_iload hx hb dL_law_2059 (lv_at hl 5 rfl) ?_
        refine lv_iconst (v := (2 : Int32)) hx hb dL_law_2061 (by decide) ?_
        refine lv_iadd hx hb dL_law_2062 ?_
        refine g_aiO9 X hI hf dL_law_2063 (fun v293 hf => ?_)
        obtain ⟨hs, hf⟩ := gCk_b hf
        refine g_cBI hI hf (fun v9 h9 e9 l9 l9' => g_rV X hI l9 l9' hRc (As := [.int v292, .int v293]) (m_X8_share X.2.2.2.2.2.2.2.2.2.2.1 e9) ydX8_share hs rfl rfl q1898 q1899 q1900 q131 q1901 rfl (Nat.le_of_ble_eq_true rfl) (Nat.le_of_ble_eq_true rfl) hl.1 rfl (Nat.le_of_ble_eq_true rfl) dL_law_2064) (fun r294 h H locs cells slots hf hI => ?_)
        refine lv_istore (lv' := [(6, .int r294), (5, .int r291), (0, .ref a0), (1, .ref a1), (2, .ref a2), (3, .ref a3), (4, .int x4)]) hx hb dL_law_2067 hl (by decide) rfl (fun ls hl => ?_)
        refine lv_aload_n hx hb dL_law_2069 rfl (lv_at hl 4 rfl) ?_
        obtain ⟨hs, hf⟩ := gCk_b hf
        refine g_cBI hI hf (fun v9 h9 e9 l9 l9' => g_rV X hI l9 l9' hRc (As := []) (m_X8_thrown X.2.2.2.2.2.2.2.2.2.2.1 e9) ydX8_thrown hs rfl rfl q1434 q1435 q1436 q131 q1437 rfl (Nat.le_of_ble_eq_true rfl) (Nat.le_of_ble_eq_true rfl) hl.1 rfl (Nat.le_of_ble_eq_true rfl) dL_law_2070) (fun r295 h H locs cells slots hf hI => ?_)
        refine lv_iload hx hb dL_law_2073 (lv_at hl 1 rfl) ?_
        refine lv_icmp_eq (tgt := 2080) hx hb dL_law_2075 (by decide) (fun c2075 => ?_) (fun c2075 => ?_)
        · have hf := g_t c2075 hf
          refine lv_iload hx hb dL_law_2080 (lv_at hl 1 rfl) ?_
          refine lv_if_ne (tgt := 2097) hx hb dL_law_2082 (by decide) (fun c2082 => ?_) (fun c2082 => ?_)
          · have hf := g_f c2082 hf
            exact b_L_law_2097 X hRc hq1 hn9 hbs ih _ _ _ _ _ _ _ _ _ _ _ hf hI (lv_sub hl [2, 3, 4, 5, 6] rfl)
          · have hf := g_t c2082 hf
            refine lv_aload_n hx hb dL_law_2085 rfl (lv_at hl 5 rfl) ?_
            refine lv_iconst (v := (0 : Int32)) hx hb dL_law_2086 (by decide) ?_
            refine g_ai2 X hI hf dL_law_2087 (fun v296 hf => ?_)
            refine lv_iload hx hb dL_law_2088 (lv_at hl 0 rfl) ?_
            refine lv_i2l hx hb dL_law_2090 rfl ?_
            refine W.lcmp hx hb dL_law_2091 ?_
            refine lv_if_eq (tgt := 2097) hx hb dL_law_2092 (by decide) (fun c2092 => ?_) (fun c2092 => ?_)
            · have hf := g_t c2092 hf
              exact b_L_law_2097 X hRc hq1 hn9 hbs ih _ _ _ _ _ _ _ _ _ _ _ hf hI (lv_sub hl [2, 3, 4, 5, 6] rfl)
            · have hf := g_f c2092 hf
              exact b_L_law_2095 X hRc hq1 hn9 hbs _ _ _ _ _ _ hf hI (lv_sub hl [] rfl)
        · have hf := g_f c2075 hf
          exact b_L_law_2078 X hRc hq1 hn9 hbs _ _ _ _ _ _ hf hI (lv_sub hl [] rfl)
      have hf := g_f c40_37 hf
      by_cases c40_38 : (v102 &&& (63 : Int32)) = (38 : Int32)
      · have hf := g_t c40_38 hf
        refine g_tsIn (k := (38 : Int32)) (off := 2060) (tgt := 2100) hx hb c40_38 dL_law_40 (by decide) (by decide) rfl (by decide) ?_
        refine lv_aload_n hx hb dL_law_2100 rfl (lv_at hl 1 rfl) ?_
        obtain ⟨hs, hf⟩ := gCk_b hf
        refine g_cBI hI hf (fun v9 h9 e9 l9 l9' => g_rV X hI l9 l9' hRc (As := []) (m_X1_loudest X.2.2.2.2.2.2.2.2.2.2.1 e9) ydX1_loudest hs rfl rfl q742 q743 q744 q121 q745 rfl (Nat.le_of_ble_eq_true rfl) (Nat.le_of_ble_eq_true rfl) hl.1 rfl (Nat.le_of_ble_eq_true rfl) dL_law_2101) (fun r297 h H locs cells slots hf hI => ?_)
        refine lv_aload_n hx hb dL_law_2104 rfl (lv_at hl 2 rfl) ?_
        obtain ⟨hs, hf⟩ := gCk_b hf
        refine g_cBI hI hf (fun v9 h9 e9 l9 l9' => g_rV X hI l9 l9' hRc (As := []) (m_X8_loudest X.2.2.2.2.2.2.2.2.2.2.1 e9) ydX8_loudest hs rfl rfl q1984 q1985 q1986 q131 q1987 rfl (Nat.le_of_ble_eq_true rfl) (Nat.le_of_ble_eq_true rfl) hl.1 rfl (Nat.le_of_ble_eq_true rfl) dL_law_2105) (fun r298 h H locs cells slots hf hI => ?_)
        refine lv_icmp_eq (tgt := 2492) hx hb dL_law_2108 (by decide) (fun c2108 => ?_) (fun c2108 => ?_)
        · have hf := g_t c2108 hf
          exact b_L_law_2492 X hRc hq1 hn9 hbs ih _ _ _ _ _ _ _ _ _ _ _ hf hI (lv_sub hl [0, 1, 2, 3, 4] rfl)
        · have hf := g_f c2108 hf
          exact b_L_law_2111 X hRc hq1 hn9 hbs _ _ _ _ _ _ hf hI (lv_sub hl [] rfl)
      have hf := g_f c40_38 hf
      by_cases c40_39 : (v102 &&& (63 : Int32)) = (39 : Int32)
      · have hf := g_t c40_39 hf
        refine g_tsIn (k := (39 : Int32)) (off := 2073) (tgt := 2113) hx hb c40_39 dL_law_40 (by decide) (by decide) rfl (by decide) ?_
        refine lv_aload_n hx hb dL_law_2113 rfl (lv_at hl 1 rfl) ?_
        refine lv_aload_n hx hb dL_law_2114 rfl (lv_at hl 0 rfl) ?_
        refine lv_iload hx hb dL_law_2115 (lv_at hl 4 rfl) ?_
        refine lv_iconst (v := (1 : Int32)) hx hb dL_law_2117 (by decide) ?_
        refine lv_iadd hx hb dL_law_2118 ?_
        refine g_aiO9 X hI hf dL_law_2119 (fun v299 hf => ?_)
        refine lv_aload_n hx hb dL_law_2120 rfl (lv_at hl 3 rfl) ?_
        refine g_cBI hI hf (fun v9 h9 e9 l9 l9' => g_rSX (b := 0) X hI l9 l9' hRc (As := [.ref a1, .int v299, .ref a3]) (m_X0_trial X.2.2.2.2.2.2.2.2.2.2.1 e9) ydX0_trial q1389 q1390 q120 q1391 rfl (Nat.le_of_ble_eq_true rfl) (Nat.le_of_ble_eq_true rfl) hl.1 rfl (Nat.le_of_ble_eq_true rfl) dL_law_2121) (fun r300 h H locs cells slots hf hI => ?_)
        refine lv_istore (lv' := [(5, .int r300), (0, .ref a0), (1, .ref a1), (2, .ref a2), (3, .ref a3), (4, .int x4)]) hx hb dL_law_2124 hl (by decide) rfl (fun ls hl => ?_)
        refine lv_aload_n hx hb dL_law_2126 rfl (lv_at hl 3 rfl) ?_
        refine lv_aload_n hx hb dL_law_2127 rfl (lv_at hl 1 rfl) ?_
        refine lv_iload hx hb dL_law_2128 (lv_at hl 5 rfl) ?_
        refine lv_iconst (v := (1 : Int32)) hx hb dL_law_2130 (by decide) ?_
        refine lv_iadd hx hb dL_law_2131 ?_
        refine g_aiO9 X hI hf dL_law_2132 (fun v301 hf => ?_)
        obtain ⟨hs, hf⟩ := gCk_b hf
        refine g_cBI hI hf (fun v9 h9 e9 l9 l9' => g_rV X hI l9 l9' hRc (As := [.int v301]) (m_X8_trial X.2.2.2.2.2.2.2.2.2.2.1 e9) ydX8_trial hs rfl rfl q2061 q2062 q2063 q131 q2064 rfl (Nat.le_of_ble_eq_true rfl) (Nat.le_of_ble_eq_true rfl) hl.1 rfl (Nat.le_of_ble_eq_true rfl) dL_law_2133) (fun r302 h H locs cells slots hf hI => ?_)
        refine lv_istore (lv' := [(6, .int r302), (5, .int r300), (0, .ref a0), (1, .ref a1), (2, .ref a2), (3, .ref a3), (4, .int x4)]) hx hb dL_law_2136 hl (by decide) rfl (fun ls hl => ?_)
        refine lv_aload_n hx hb dL_law_2138 rfl (lv_at hl 4 rfl) ?_
        obtain ⟨hs, hf⟩ := gCk_b hf
        refine g_cBI hI hf (fun v9 h9 e9 l9 l9' => g_rV X hI l9 l9' hRc (As := []) (m_X8_thrown X.2.2.2.2.2.2.2.2.2.2.1 e9) ydX8_thrown hs rfl rfl q1434 q1435 q1436 q131 q1437 rfl (Nat.le_of_ble_eq_true rfl) (Nat.le_of_ble_eq_true rfl) hl.1 rfl (Nat.le_of_ble_eq_true rfl) dL_law_2139) (fun r303 h H locs cells slots hf hI => ?_)
        refine lv_iload hx hb dL_law_2142 (lv_at hl 1 rfl) ?_
        refine lv_icmp_eq (tgt := 2149) hx hb dL_law_2144 (by decide) (fun c2144 => ?_) (fun c2144 => ?_)
        · have hf := g_t c2144 hf
          refine lv_iload hx hb dL_law_2149 (lv_at hl 1 rfl) ?_
          refine lv_if_ne (tgt := 2166) hx hb dL_law_2151 (by decide) (fun c2151 => ?_) (fun c2151 => ?_)
          · have hf := g_f c2151 hf
            exact b_L_law_2166 X hRc hq1 hn9 hbs ih _ _ _ _ _ _ _ _ _ _ _ hf hI (lv_sub hl [2, 3, 4, 5, 6] rfl)
          · have hf := g_t c2151 hf
            refine lv_aload_n hx hb dL_law_2154 rfl (lv_at hl 5 rfl) ?_
            refine lv_iconst (v := (0 : Int32)) hx hb dL_law_2155 (by decide) ?_
            refine g_ai2 X hI hf dL_law_2156 (fun v304 hf => ?_)
            refine lv_iload hx hb dL_law_2157 (lv_at hl 0 rfl) ?_
            refine lv_i2l hx hb dL_law_2159 rfl ?_
            refine W.lcmp hx hb dL_law_2160 ?_
            refine lv_if_eq (tgt := 2166) hx hb dL_law_2161 (by decide) (fun c2161 => ?_) (fun c2161 => ?_)
            · have hf := g_t c2161 hf
              exact b_L_law_2166 X hRc hq1 hn9 hbs ih _ _ _ _ _ _ _ _ _ _ _ hf hI (lv_sub hl [2, 3, 4, 5, 6] rfl)
            · have hf := g_f c2161 hf
              exact b_L_law_2164 X hRc hq1 hn9 hbs _ _ _ _ _ _ hf hI (lv_sub hl [] rfl)
        · have hf := g_f c2144 hf
          exact b_L_law_2147 X hRc hq1 hn9 hbs _ _ _ _ _ _ hf hI (lv_sub hl [] rfl)
      have hf := g_f c40_39 hf
      by_cases c40_40 : (v102 &&& (63 : Int32)) = (40 : Int32)
      · have hf := g_t c40_40 hf
        refine g_tsIn (k := (40 : Int32)) (off := 2129) (tgt := 2169) hx hb c40_40 dL_law_40 (by decide) (by decide) rfl (by decide) ?_
        refine lv_aload_n hx hb dL_law_2169 rfl (lv_at hl 1 rfl) ?_
        refine lv_aload_n hx hb dL_law_2170 rfl (lv_at hl 0 rfl) ?_
        refine lv_iload hx hb dL_law_2171 (lv_at hl 4 rfl) ?_
        refine lv_iconst (v := (1 : Int32)) hx hb dL_law_2173 (by decide) ?_
        refine lv_iadd hx hb dL_law_2174 ?_
        refine g_aiO9 X hI hf dL_law_2175 (fun v305 hf => ?_)
        refine lv_aload_n hx hb dL_law_2176 rfl (lv_at hl 0 rfl) ?_
        refine lv_iload hx hb dL_law_2177 (lv_at hl 4 rfl) ?_
        refine lv_iconst (v := (2 : Int32)) hx hb dL_law_2179 (by decide) ?_
        refine lv_iadd hx hb dL_law_2180 ?_
        refine g_aiO9 X hI hf dL_law_2181 (fun v306 hf => ?_)
        refine lv_if_eq (tgt := 2189) hx hb dL_law_2182 (by decide) (fun c2182 => ?_) (fun c2182 => ?_)
        · have hf := g_t c2182 hf
          refine lv_iconst (v := (0 : Int32)) hx hb dL_law_2189 (by decide) ?_
          exact b_L_law_2190 X hRc hq1 hn9 hbs ih _ _ _ _ _ _ _ _ _ _ _ _ _ _ hf hI (lv_sub hl [0, 1, 2, 3, 4] rfl)
        · have hf := g_f c2182 hf
          refine lv_iconst (v := (1 : Int32)) hx hb dL_law_2185 (by decide) ?_
          refine lv_goto (tgt := 2190) hx hb dL_law_2186 (by decide) ?_
          exact b_L_law_2190 X hRc hq1 hn9 hbs ih _ _ _ _ _ _ _ _ _ _ _ _ _ _ hf hI (lv_sub hl [0, 1, 2, 3, 4] rfl)
      have hf := g_f c40_40 hf
      by_cases c40_41 : (v102 &&& (63 : Int32)) = (41 : Int32)
      · have hf := g_t c40_41 hf
        refine g_tsIn (k := (41 : Int32)) (off := 2213) (tgt := 2253) hx hb c40_41 dL_law_40 (by decide) (by decide) rfl (by decide) ?_
        refine lv_aload_n hx hb dL_law_2253 rfl (lv_at hl 1 rfl) ?_
        refine lv_aload_n hx hb dL_law_2254 rfl (lv_at hl 0 rfl) ?_
        refine lv_iload hx hb dL_law_2255 (lv_at hl 4 rfl) ?_
        refine lv_iconst (v := (1 : Int32)) hx hb dL_law_2257 (by decide) ?_
        refine lv_iadd hx hb dL_law_2258 ?_
        refine g_aiO9 X hI hf dL_law_2259 (fun v307 hf => ?_)
        refine lv_aload_n hx hb dL_law_2260 rfl (lv_at hl 0 rfl) ?_
        refine lv_iload hx hb dL_law_2261 (lv_at hl 4 rfl) ?_
        refine lv_iconst (v := (2 : Int32)) hx hb dL_law_2263 (by decide) ?_
        refine lv_iadd hx hb dL_law_2264 ?_
        refine g_aiO9 X hI hf dL_law_2265 (fun v308 hf => ?_)
        refine lv_if_eq (tgt := 2273) hx hb dL_law_2266 (by decide) (fun c2266 => ?_) (fun c2266 => ?_)
        · have hf := g_t c2266 hf
          refine lv_iconst (v := (0 : Int32)) hx hb dL_law_2273 (by decide) ?_
          exact b_L_law_2274 X hRc hq1 hn9 hbs ih _ _ _ _ _ _ _ _ _ _ _ _ _ _ hf hI (lv_sub hl [0, 1, 2, 3, 4] rfl)
        · have hf := g_f c2266 hf
          refine lv_iconst (v := (1 : Int32)) hx hb dL_law_2269 (by decide) ?_
          refine lv_goto (tgt := 2274) hx hb dL_law_2270 (by decide) ?_
          exact b_L_law_2274 X hRc hq1 hn9 hbs ih _ _ _ _ _ _ _ _ _ _ _ _ _ _ hf hI (lv_sub hl [0, 1, 2, 3, 4] rfl)
      have hf := g_f c40_41 hf
      by_cases c40_42 : (v102 &&& (63 : Int32)) = (42 : Int32)
      · have hf := g_t c40_42 hf
        refine g_tsIn (k := (42 : Int32)) (off := 2297) (tgt := 2337) hx hb c40_42 dL_law_40 (by decide) (by decide) rfl (by decide) ?_
        refine lv_aload_n hx hb dL_law_2337 rfl (lv_at hl 1 rfl) ?_
        refine lv_aload_n hx hb dL_law_2338 rfl (lv_at hl 0 rfl) ?_
        refine lv_iload hx hb dL_law_2339 (lv_at hl 4 rfl) ?_
        refine lv_iconst (v := (1 : Int32)) hx hb dL_law_2341 (by decide) ?_
        refine lv_iadd hx hb dL_law_2342 ?_
        refine g_aiO9 X hI hf dL_law_2343 (fun v309 hf => ?_)
        refine lv_aload_n hx hb dL_law_2344 rfl (lv_at hl 0 rfl) ?_
        refine lv_iload hx hb dL_law_2345 (lv_at hl 4 rfl) ?_
        refine lv_iconst (v := (2 : Int32)) hx hb dL_law_2347 (by decide) ?_
        refine lv_iadd hx hb dL_law_2348 ?_
        refine g_aiO9 X hI hf dL_law_2349 (fun v310 hf => ?_)
        refine lv_aload_n hx hb dL_law_2350 rfl (lv_at hl 3 rfl) ?_
        refine g_cBI hI hf (fun v9 h9 e9 l9 l9' => g_rSX (b := 0) X hI l9 l9' hRc (As := [.ref a1, .int v309, .int v310, .ref a3]) (m_X0_log X.2.2.2.2.2.2.2.2.2.2.1 e9) ydX0_log q1424 q1425 q120 q1426 rfl (Nat.le_of_ble_eq_true rfl) (Nat.le_of_ble_eq_true rfl) hl.1 rfl (Nat.le_of_ble_eq_true rfl) dL_law_2351) (fun r311 h H locs cells slots hf hI => ?_)
        refine lv_istore (lv' := [(5, .int r311), (0, .ref a0), (1, .ref a1), (2, .ref a2), (3, .ref a3), (4, .int x4)]) hx hb dL_law_2354 hl (by decide) rfl (fun ls hl => ?_)
        refine lv_aload_n hx hb dL_law_2356 rfl (lv_at hl 3 rfl) ?_
        refine lv_aload_n hx hb dL_law_2357 rfl (lv_at hl 1 rfl) ?_
        refine lv_iload hx hb dL_law_2358 (lv_at hl 5 rfl) ?_
        refine lv_iconst (v := (1 : Int32)) hx hb dL_law_2360 (by decide) ?_
        refine lv_iadd hx hb dL_law_2361 ?_
        refine g_aiO9 X hI hf dL_law_2362 (fun v312 hf => ?_)
        refine lv_aload_n hx hb dL_law_2363 rfl (lv_at hl 1 rfl) ?_
        refine lv_iload hx hb dL_law_2364 (lv_at hl 5 rfl) ?_
        refine lv_iconst (v := (2 : Int32)) hx hb dL_law_2366 (by decide) ?_
        refine lv_iadd hx hb dL_law_2367 ?_
        refine g_aiO9 X hI hf dL_law_2368 (fun v313 hf => ?_)
        obtain ⟨hs, hf⟩ := gCk_b hf
        refine g_cBI hI hf (fun v9 h9 e9 l9 l9' => g_rV X hI l9 l9' hRc (As := [.int v312, .int v313]) (m_X8_log X.2.2.2.2.2.2.2.2.2.2.1 e9) ydX8_log hs rfl rfl q2081 q2082 q2083 q131 q2084 rfl (Nat.le_of_ble_eq_true rfl) (Nat.le_of_ble_eq_true rfl) hl.1 rfl (Nat.le_of_ble_eq_true rfl) dL_law_2369) (fun r314 h H locs cells slots hf hI => ?_)
        refine lv_istore (lv' := [(6, .int r314), (5, .int r311), (0, .ref a0), (1, .ref a1), (2, .ref a2), (3, .ref a3), (4, .int x4)]) hx hb dL_law_2372 hl (by decide) rfl (fun ls hl => ?_)
        refine lv_aload_n hx hb dL_law_2374 rfl (lv_at hl 4 rfl) ?_
        obtain ⟨hs, hf⟩ := gCk_b hf
        refine g_cBI hI hf (fun v9 h9 e9 l9 l9' => g_rV X hI l9 l9' hRc (As := []) (m_X8_thrown X.2.2.2.2.2.2.2.2.2.2.1 e9) ydX8_thrown hs rfl rfl q1434 q1435 q1436 q131 q1437 rfl (Nat.le_of_ble_eq_true rfl) (Nat.le_of_ble_eq_true rfl) hl.1 rfl (Nat.le_of_ble_eq_true rfl) dL_law_2375) (fun r315 h H locs cells slots hf hI => ?_)
        refine lv_iload hx hb dL_law_2378 (lv_at hl 1 rfl) ?_
        refine lv_icmp_eq (tgt := 2385) hx hb dL_law_2380 (by decide) (fun c2380 => ?_) (fun c2380 => ?_)
        · have hf := g_t c2380 hf
          refine lv_iload hx hb dL_law_2385 (lv_at hl 1 rfl) ?_
          refine lv_if_ne (tgt := 2402) hx hb dL_law_2387 (by decide) (fun c2387 => ?_) (fun c2387 => ?_)
          · have hf := g_f c2387 hf
            exact b_L_law_2402 X hRc hq1 hn9 hbs ih _ _ _ _ _ _ _ _ _ _ _ hf hI (lv_sub hl [2, 3, 4, 5, 6] rfl)
          · have hf := g_t c2387 hf
            refine lv_aload_n hx hb dL_law_2390 rfl (lv_at hl 5 rfl) ?_
            refine lv_iconst (v := (0 : Int32)) hx hb dL_law_2391 (by decide) ?_
            refine g_ai2 X hI hf dL_law_2392 (fun v316 hf => ?_)
            refine lv_iload hx hb dL_law_2393 (lv_at hl 0 rfl) ?_
            refine lv_i2l hx hb dL_law_2395 rfl ?_
            refine W.lcmp hx hb dL_law_2396 ?_
            refine lv_if_eq (tgt := 2402) hx hb dL_law_2397 (by decide) (fun c2397 => ?_) (fun c2397 => ?_)
            · have hf := g_t c2397 hf
              exact b_L_law_2402 X hRc hq1 hn9 hbs ih _ _ _ _ _ _ _ _ _ _ _ hf hI (lv_sub hl [2, 3, 4, 5, 6] rfl)
            · have hf := g_f c2397 hf
              exact b_L_law_2400 X hRc hq1 hn9 hbs _ _ _ _ _ _ hf hI (lv_sub hl [] rfl)
        · have hf := g_f c2380 hf
          exact b_L_law_2383 X hRc hq1 hn9 hbs _ _ _ _ _ _ hf hI (lv_sub hl [] rfl)
      have hf := g_f c40_42 hf
      by_cases c40_43 : (v102 &&& (63 : Int32)) = (43 : Int32)
      · have hf := g_t c40_43 hf
        refine g_tsIn (k := (43 : Int32)) (off := 2365) (tgt := 2405) hx hb c40_43 dL_law_40 (by decide) (by decide) rfl (by decide) ?_
        refine lv_aload_n hx hb dL_law_2405 rfl (lv_at hl 1 rfl) ?_
        refine lv_aload_n hx hb dL_law_2406 rfl (lv_at hl 0 rfl) ?_
        refine lv_iload hx hb dL_law_2407 (lv_at hl 4 rfl) ?_
        refine lv_iconst (v := (1 : Int32)) hx hb dL_law_2409 (by decide) ?_
        refine lv_iadd hx hb dL_law_2410 ?_
        refine g_aiO9 X hI hf dL_law_2411 (fun v317 hf => ?_)
        obtain ⟨hs, hf⟩ := gCk_b hf
        refine g_cBI hI hf (fun v9 h9 e9 l9 l9' => g_rV X hI l9 l9' hRc (As := [.int v317]) (m_X1_seed X.2.2.2.2.2.2.2.2.2.2.1 e9) ydX1_seed hs rfl rfl q750 q751 q752 q121 q753 rfl (Nat.le_of_ble_eq_true rfl) (Nat.le_of_ble_eq_true rfl) hl.1 rfl (Nat.le_of_ble_eq_true rfl) dL_law_2412) (fun r318 h H locs cells slots hf hI => ?_)
        refine lv_aload_n hx hb dL_law_2415 rfl (lv_at hl 2 rfl) ?_
        refine lv_aload_n hx hb dL_law_2416 rfl (lv_at hl 0 rfl) ?_
        refine lv_iload hx hb dL_law_2417 (lv_at hl 4 rfl) ?_
        refine lv_iconst (v := (1 : Int32)) hx hb dL_law_2419 (by decide) ?_
        refine lv_iadd hx hb dL_law_2420 ?_
        refine g_aiO9 X hI hf dL_law_2421 (fun v319 hf => ?_)
        obtain ⟨hs, hf⟩ := gCk_b hf
        refine g_cBI hI hf (fun v9 h9 e9 l9 l9' => g_rV X hI l9 l9' hRc (As := [.int v319]) (m_X8_seed X.2.2.2.2.2.2.2.2.2.2.1 e9) ydX8_seed hs rfl rfl q2085 q2086 q2087 q131 q2088 rfl (Nat.le_of_ble_eq_true rfl) (Nat.le_of_ble_eq_true rfl) hl.1 rfl (Nat.le_of_ble_eq_true rfl) dL_law_2422) (fun r320 h H locs cells slots hf hI => ?_)
        refine lv_icmp_eq (tgt := 2492) hx hb dL_law_2425 (by decide) (fun c2425 => ?_) (fun c2425 => ?_)
        · have hf := g_t c2425 hf
          exact b_L_law_2492 X hRc hq1 hn9 hbs ih _ _ _ _ _ _ _ _ _ _ _ hf hI (lv_sub hl [0, 1, 2, 3, 4] rfl)
        · have hf := g_f c2425 hf
          exact b_L_law_2428 X hRc hq1 hn9 hbs _ _ _ _ _ _ hf hI (lv_sub hl [] rfl)
      have hf := g_f c40_43 hf
      by_cases c40_44 : (v102 &&& (63 : Int32)) = (44 : Int32)
      · have hf := g_t c40_44 hf
        refine g_tsIn (k := (44 : Int32)) (off := 2390) (tgt := 2430) hx hb c40_44 dL_law_40 (by decide) (by decide) rfl (by decide) ?_
        refine lv_aload_n hx hb dL_law_2430 rfl (lv_at hl 1 rfl) ?_
        obtain ⟨hs, hf⟩ := gCk_b hf
        refine g_cBI hI hf (fun v9 h9 e9 l9 l9' => g_rV X hI l9 l9' hRc (As := []) (m_X1_undo X.2.2.2.2.2.2.2.2.2.2.1 e9) ydX1_undo hs rfl rfl q754 q755 q756 q121 q757 rfl (Nat.le_of_ble_eq_true rfl) (Nat.le_of_ble_eq_true rfl) hl.1 rfl (Nat.le_of_ble_eq_true rfl) dL_law_2431) (fun r321 h H locs cells slots hf hI => ?_)
        refine lv_aload_n hx hb dL_law_2434 rfl (lv_at hl 2 rfl) ?_
        obtain ⟨hs, hf⟩ := gCk_b hf
        refine g_cBI hI hf (fun v9 h9 e9 l9 l9' => g_rV X hI l9 l9' hRc (As := []) (m_X8_undo X.2.2.2.2.2.2.2.2.2.2.1 e9) ydX8_undo hs rfl rfl q1567 q1568 q1569 q131 q1570 rfl (Nat.le_of_ble_eq_true rfl) (Nat.le_of_ble_eq_true rfl) hl.1 rfl (Nat.le_of_ble_eq_true rfl) dL_law_2435) (fun r322 h H locs cells slots hf hI => ?_)
        refine lv_icmp_eq (tgt := 2492) hx hb dL_law_2438 (by decide) (fun c2438 => ?_) (fun c2438 => ?_)
        · have hf := g_t c2438 hf
          exact b_L_law_2492 X hRc hq1 hn9 hbs ih _ _ _ _ _ _ _ _ _ _ _ hf hI (lv_sub hl [0, 1, 2, 3, 4] rfl)
        · have hf := g_f c2438 hf
          exact b_L_law_2441 X hRc hq1 hn9 hbs _ _ _ _ _ _ hf hI (lv_sub hl [] rfl)
      have hf := g_f c40_44 hf
      by_cases c40_45 : (v102 &&& (63 : Int32)) = (45 : Int32)
      · have hf := g_t c40_45 hf
        refine g_tsIn (k := (45 : Int32)) (off := 2403) (tgt := 2443) hx hb c40_45 dL_law_40 (by decide) (by decide) rfl (by decide) ?_
        refine lv_aload_n hx hb dL_law_2443 rfl (lv_at hl 1 rfl) ?_
        obtain ⟨hs, hf⟩ := gCk_b hf
        refine g_cBU hI hf (fun v9 h9 e9 l9 l9' => g_rV X hI l9 l9' hRc (As := []) (m_X1_image X.2.2.2.2.2.2.2.2.2.2.1 e9) ydX1_image hs rfl rfl q758 q759 q760 q121 q761 rfl (Nat.le_of_ble_eq_true rfl) (Nat.le_of_ble_eq_true rfl) hl.1 rfl (Nat.le_of_ble_eq_true rfl) dL_law_2444) (fun r323 h H locs cells slots hf hI => ?_)
        refine lv_aload_n hx hb dL_law_2447 rfl (lv_at hl 2 rfl) ?_
        obtain ⟨hs, hf⟩ := gCk_b hf
        refine g_cBU hI hf (fun v9 h9 e9 l9 l9' => g_rV X hI l9 l9' hRc (As := []) (m_X8_image X.2.2.2.2.2.2.2.2.2.2.1 e9) ydX8_image hs rfl rfl q1559 q1560 q1561 q131 q1562 rfl (Nat.le_of_ble_eq_true rfl) (Nat.le_of_ble_eq_true rfl) hl.1 rfl (Nat.le_of_ble_eq_true rfl) dL_law_2448) (fun r324 h H locs cells slots hf hI => ?_)
        refine lv_goto (tgt := 2492) hx hb dL_law_2451 (by decide) ?_
        exact b_L_law_2492 X hRc hq1 hn9 hbs ih _ _ _ _ _ _ _ _ _ _ _ hf hI (lv_sub hl [0, 1, 2, 3, 4] rfl)
      have hf := g_f c40_45 hf
      by_cases c40_46 : (v102 &&& (63 : Int32)) = (46 : Int32)
      · have hf := g_t c40_46 hf
        refine g_tsIn (k := (46 : Int32)) (off := 2414) (tgt := 2454) hx hb c40_46 dL_law_40 (by decide) (by decide) rfl (by decide) ?_
        refine lv_aload_n hx hb dL_law_2454 rfl (lv_at hl 1 rfl) ?_
        obtain ⟨hs, hf⟩ := gCk_b hf
        refine g_cBI hI hf (fun v9 h9 e9 l9 l9' => g_rV X hI l9 l9' hRc (As := []) (m_X1_back X.2.2.2.2.2.2.2.2.2.2.1 e9) ydX1_back hs rfl rfl q762 q763 q764 q121 q765 rfl (Nat.le_of_ble_eq_true rfl) (Nat.le_of_ble_eq_true rfl) hl.1 rfl (Nat.le_of_ble_eq_true rfl) dL_law_2455) (fun r325 h H locs cells slots hf hI => ?_)
        refine lv_aload_n hx hb dL_law_2458 rfl (lv_at hl 2 rfl) ?_
        obtain ⟨hs, hf⟩ := gCk_b hf
        refine g_cBI hI hf (fun v9 h9 e9 l9 l9' => g_rV X hI l9 l9' hRc (As := []) (m_X8_back X.2.2.2.2.2.2.2.2.2.2.1 e9) ydX8_back hs rfl rfl q1563 q1564 q1565 q131 q1566 rfl (Nat.le_of_ble_eq_true rfl) (Nat.le_of_ble_eq_true rfl) hl.1 rfl (Nat.le_of_ble_eq_true rfl) dL_law_2459) (fun r326 h H locs cells slots hf hI => ?_)
        refine lv_icmp_eq (tgt := 2492) hx hb dL_law_2462 (by decide) (fun c2462 => ?_) (fun c2462 => ?_)
        · have hf := g_t c2462 hf
          exact b_L_law_2492 X hRc hq1 hn9 hbs ih _ _ _ _ _ _ _ _ _ _ _ hf hI (lv_sub hl [0, 1, 2, 3, 4] rfl)
        · have hf := g_f c2462 hf
          exact b_L_law_2465 X hRc hq1 hn9 hbs _ _ _ _ _ _ hf hI (lv_sub hl [] rfl)
      have hf := g_f c40_46 hf
      by_cases c40_47 : (v102 &&& (63 : Int32)) = (47 : Int32)
      · have hf := g_t c40_47 hf
        refine g_tsIn (k := (47 : Int32)) (off := 2427) (tgt := 2467) hx hb c40_47 dL_law_40 (by decide) (by decide) rfl (by decide) ?_
        refine lv_aload_n hx hb dL_law_2467 rfl (lv_at hl 1 rfl) ?_
        refine lv_aload_n hx hb dL_law_2468 rfl (lv_at hl 0 rfl) ?_
        refine lv_iload hx hb dL_law_2469 (lv_at hl 4 rfl) ?_
        refine lv_iconst (v := (1 : Int32)) hx hb dL_law_2471 (by decide) ?_
        refine lv_iadd hx hb dL_law_2472 ?_
        refine g_aiO9 X hI hf dL_law_2473 (fun v327 hf => ?_)
        obtain ⟨hs, hf⟩ := gCk_b hf
        refine g_cBI hI hf (fun v9 h9 e9 l9 l9' => g_rV X hI l9 l9' hRc (As := [.int v327]) (m_X1_count X.2.2.2.2.2.2.2.2.2.2.1 e9) ydX1_count hs rfl rfl q766 q767 q768 q121 q769 rfl (Nat.le_of_ble_eq_true rfl) (Nat.le_of_ble_eq_true rfl) hl.1 rfl (Nat.le_of_ble_eq_true rfl) dL_law_2474) (fun r328 h H locs cells slots hf hI => ?_)
        refine lv_aload_n hx hb dL_law_2477 rfl (lv_at hl 2 rfl) ?_
        refine lv_aload_n hx hb dL_law_2478 rfl (lv_at hl 0 rfl) ?_
        refine lv_iload hx hb dL_law_2479 (lv_at hl 4 rfl) ?_
        refine lv_iconst (v := (1 : Int32)) hx hb dL_law_2481 (by decide) ?_
        refine lv_iadd hx hb dL_law_2482 ?_
        refine g_aiO9 X hI hf dL_law_2483 (fun v329 hf => ?_)
        obtain ⟨hs, hf⟩ := gCk_b hf
        refine g_cBI hI hf (fun v9 h9 e9 l9 l9' => g_rV X hI l9 l9' hRc (As := [.int v329]) (m_X8_count X.2.2.2.2.2.2.2.2.2.2.1 e9) ydX8_count hs rfl rfl q2089 q2090 q2091 q131 q2092 rfl (Nat.le_of_ble_eq_true rfl) (Nat.le_of_ble_eq_true rfl) hl.1 rfl (Nat.le_of_ble_eq_true rfl) dL_law_2484) (fun r330 h H locs cells slots hf hI => ?_)
        refine lv_icmp_eq (tgt := 2492) hx hb dL_law_2487 (by decide) (fun c2487 => ?_) (fun c2487 => ?_)
        · have hf := g_t c2487 hf
          exact b_L_law_2492 X hRc hq1 hn9 hbs ih _ _ _ _ _ _ _ _ _ _ _ hf hI (lv_sub hl [0, 1, 2, 3, 4] rfl)
        · have hf := g_f c2487 hf
          exact b_L_law_2490 X hRc hq1 hn9 hbs _ _ _ _ _ _ hf hI (lv_sub hl [] rfl)
      have hf := g_f c40_47 hf
      refine lv_tableOut (tgt := 2492) hx hb dL_law_40 (by have := lv_neT c40_0 (a := 0) rfl; have := lv_neT c40_1 (a := 1) rfl; have := lv_neT c40_2 (a := 2) rfl; have := lv_neT c40_3 (a := 3) rfl; have := lv_neT c40_4 (a := 4) rfl; have := lv_neT c40_5 (a := 5) rfl; have := lv_neT c40_6 (a := 6) rfl; have := lv_neT c40_7 (a := 7) rfl; have := lv_neT c40_8 (a := 8) rfl; have := lv_neT c40_9 (a := 9) rfl; have := lv_neT c40_10 (a := 10) rfl; have := lv_neT c40_11 (a := 11) rfl; have := lv_neT c40_12 (a := 12) rfl; have := lv_neT c40_13 (a := 13) rfl; have := lv_neT c40_14 (a := 14) rfl; have := lv_neT c40_15 (a := 15) rfl; have := lv_neT c40_16 (a := 16) rfl; have := lv_neT c40_17 (a := 17) rfl; have := lv_neT c40_18 (a := 18) rfl; have := lv_neT c40_19 (a := 19) rfl; have := lv_neT c40_20 (a := 20) rfl; have := lv_neT c40_21 (a := 21) rfl; have := lv_neT c40_22 (a := 22) rfl; have := lv_neT c40_23 (a := 23) rfl; have := lv_neT c40_24 (a := 24) rfl; have := lv_neT c40_25 (a := 25) rfl; have := lv_neT c40_26 (a := 26) rfl; have := lv_neT c40_27 (a := 27) rfl; have := lv_neT c40_28 (a := 28) rfl; have := lv_neT c40_29 (a := 29) rfl; have := lv_neT c40_30 (a := 30) rfl; have := lv_neT c40_31 (a := 31) rfl; have := lv_neT c40_32 (a := 32) rfl; have := lv_neT c40_33 (a := 33) rfl; have := lv_neT c40_34 (a := 34) rfl; have := lv_neT c40_35 (a := 35) rfl; have := lv_neT c40_36 (a := 36) rfl; have := lv_neT c40_37 (a := 37) rfl; have := lv_neT c40_38 (a := 38) rfl; have := lv_neT c40_39 (a := 39) rfl; have := lv_neT c40_40 (a := 40) rfl; have := lv_neT c40_41 (a := 41) rfl; have := lv_neT c40_42 (a := 42) rfl; have := lv_neT c40_43 (a := 43) rfl; have := lv_neT c40_44 (a := 44) rfl; have := lv_neT c40_45 (a := 45) rfl; have := lv_neT c40_46 (a := 46) rfl; have := lv_neT c40_47 (a := 47) rfl; omega) (by decide) ?_
      exact b_L_law_2492 X hRc hq1 hn9 hbs ih _ _ _ _ _ _ _ _ _ _ _ hf hI (lv_sub hl [0, 1, 2, 3, 4] rfl)
def f_L_law (a0 : Nat) : gM Int32 :=
    gB (gNew 0 19) fun a1 =>
    gB (f_X1_init a1) fun _ =>
    gB (gNew 7 38) fun a3 =>
    gB (f_X8_init a3) fun _ =>
    gB (gNwA 2 (1 : Int32)) fun a5 =>
    f_L_law_23 gN a0 a1 a3 a5 (0 : Int32)
set_option maxHeartbeats 4000000 in
set_option maxRecDepth 100000 in
theorem b_L_law {G : gG} {l : Launch} {p : Program} {e : Env} {s : State} {m : MethodId} {args : Array Value} {below : List Frame} {meth : Method} {c : Code} {h0 : g_H} {r : Int32} {h' : g_H} (X : gX G l "GhostAssizeLaw" cL_law 7 (some .boolean) [] "law" p s m args meth c) (hRc : g_nx h' - g_nx h0 ≤ room_1.cells ∧ g_us h' - g_us h0 ≤ room_1.slots) (hq1 : r = 1) (hn9 : g_nx h' - g_nx h0 ≤ 603072 ∧ g_us h' - g_us h0 ≤ 7190634) (hbs : G.2.2.1.size = s.heap.size ∧ ∃ b9 : Nat, args = #[Value.ref b9]) : ∀ (a0 : Nat) (h : g_H) (H : Heap) (locs : List Loc) (cells slots : Nat) (ls : Array Slot), (f_L_law a0).1 h = some (r, h') → gI G h0 h H locs cells slots → lv_has ls 7 [(0, .ref a0)] → W p l e room_1 s m args below meth c H locs cells slots (lw_Z below args s) (F0 m 0 ls []) := by
  have hx := X.1
  have hb := X.2.1
  have hown := X.2.2.2.1
  have hts := X.2.2.2.2.1
  intro a0 h H locs cells slots ls hf hI hl
  unfold f_L_law at hf
  refine g_new X hI hf hRc cX1 q153 dL_law_0 (fun a1 h H cells slots hf hI => ?_)
  refine lv_dup hx hb dL_law_3 rfl ?_
  refine g_cBU hI hf (fun v9 h9 e9 l9 l9' => g_rI X hI l9 l9' hRc (As := []) (m_X1_init X.2.2.2.2.2.2.2.2.2.2.1 e9) ydX1_init rfl rfl q155 q156 q121 q157 rfl (Nat.le_of_ble_eq_true rfl) (Nat.le_of_ble_eq_true rfl) hl.1 rfl (Nat.le_of_ble_eq_true rfl) dL_law_4) (fun r2 h H locs cells slots hf hI => ?_)
  refine lv_astore_n (lv' := [(1, .ref a1), (0, .ref a0)]) hx hb dL_law_7 rfl hl (by decide) rfl (fun ls hl => ?_)
  refine g_new X hI hf hRc cX8 q1438 dL_law_8 (fun a3 h H cells slots hf hI => ?_)
  refine lv_dup hx hb dL_law_11 rfl ?_
  refine g_cBU hI hf (fun v9 h9 e9 l9 l9' => g_rI X hI l9 l9' hRc (As := []) (m_X8_init X.2.2.2.2.2.2.2.2.2.2.1 e9) ydX8_init rfl rfl q1440 q1441 q131 q1442 rfl (Nat.le_of_ble_eq_true rfl) (Nat.le_of_ble_eq_true rfl) hl.1 rfl (Nat.le_of_ble_eq_true rfl) dL_law_12) (fun r4 h H locs cells slots hf hI => ?_)
  refine lv_astore_n (lv' := [(2, .ref a3), (1, .ref a1), (0, .ref a0)]) hx hb dL_law_15 rfl hl (by decide) rfl (fun ls hl => ?_)
  refine lv_iconst (v := (1 : Int32)) hx hb dL_law_16 (by decide) ?_
  refine g_newa2 X hI hf hRc dL_law_17 (fun a5 h H cells slots hf hI => ?_)
  refine lv_astore_n (lv' := [(3, .ref a5), (2, .ref a3), (1, .ref a1), (0, .ref a0)]) hx hb dL_law_19 rfl hl (by decide) rfl (fun ls hl => ?_)
  refine lv_iconst (v := (0 : Int32)) hx hb dL_law_20 (by decide) ?_
  refine lv_istore (lv' := [(4, .int (0 : Int32)), (3, .ref a5), (2, .ref a3), (1, .ref a1), (0, .ref a0)]) hx hb dL_law_21 hl (by decide) rfl (fun ls hl => ?_)
  exact b_L_law_23 X hRc hq1 hn9 hbs gN _ _ _ _ _ _ _ _ _ _ _ hf hI (lv_sub hl [4, 3, 2, 1, 0] rfl)
end
