noncomputable section
/-! X8_deedsTold -/
abbrev w_X8_deedsTold_89 (G : gG) (l : Launch) (p : Program) (e : Env) (s : State) (m : MethodId) (args : Array Value) (below : List Frame) (meth : Method) (c : Code) (h0 : g_H) (r : Int32) (h' : g_H) (k : Nat → Int32 → Int32 → Int32 → Int32 → gM Int32) : Prop := ∀ (a0 : Nat) (x2 : Int32) (x3 : Int32) (u0 : Int32) (u1 : Int32) (h : g_H) (H : Heap) (locs : List Loc) (cells slots : Nat) (ls : Array Slot), (k a0 x2 x3 u0 u1).1 h = some (r, h') → gI G h0 h H locs cells slots → lv_has ls 5 [(0, .ref a0), (2, .int x2), (3, .int x3)] → W p l e (g_rm 4 82 h0 h') s m args below meth c H locs cells slots (gQ G below args s h0 h' (.inl (g_wI r))) (F0 m 89 ls [.int u1, .int u0])
abbrev w_X8_deedsTold_75 (G : gG) (l : Launch) (p : Program) (e : Env) (s : State) (m : MethodId) (args : Array Value) (below : List Frame) (meth : Method) (c : Code) (h0 : g_H) (r : Int32) (h' : g_H) (k : Nat → Int32 → Int32 → Int32 → Int32 → gM Int32) : Prop := ∀ (a0 : Nat) (x1 : Int32) (x3 : Int32) (x4 : Int32) (u0 : Int32) (h : g_H) (H : Heap) (locs : List Loc) (cells slots : Nat) (ls : Array Slot), (k a0 x1 x3 x4 u0).1 h = some (r, h') → gI G h0 h H locs cells slots → lv_has ls 5 [(0, .ref a0), (1, .int x1), (3, .int x3), (4, .int x4)] → W p l e (g_rm 4 82 h0 h') s m args below meth c H locs cells slots (gQ G below args s h0 h' (.inl (g_wI r))) (F0 m 75 ls [.int u0])
abbrev w_X8_deedsTold_74 (G : gG) (l : Launch) (p : Program) (e : Env) (s : State) (m : MethodId) (args : Array Value) (below : List Frame) (meth : Method) (c : Code) (h0 : g_H) (r : Int32) (h' : g_H) (k : Nat → Int32 → Int32 → Int32 → gM Int32) : Prop := ∀ (a0 : Nat) (x1 : Int32) (x3 : Int32) (x4 : Int32) (h : g_H) (H : Heap) (locs : List Loc) (cells slots : Nat) (ls : Array Slot), (k a0 x1 x3 x4).1 h = some (r, h') → gI G h0 h H locs cells slots → lv_has ls 5 [(0, .ref a0), (1, .int x1), (3, .int x3), (4, .int x4)] → W p l e (g_rm 4 82 h0 h') s m args below meth c H locs cells slots (gQ G below args s h0 h' (.inl (g_wI r))) (F0 m 74 ls [])
abbrev w_X8_deedsTold_106 (G : gG) (l : Launch) (p : Program) (e : Env) (s : State) (m : MethodId) (args : Array Value) (below : List Frame) (meth : Method) (c : Code) (h0 : g_H) (r : Int32) (h' : g_H) (k : Int32 → gM Int32) : Prop := ∀ (u0 : Int32) (h : g_H) (H : Heap) (locs : List Loc) (cells slots : Nat) (ls : Array Slot), (k u0).1 h = some (r, h') → gI G h0 h H locs cells slots → lv_has ls 5 [] → W p l e (g_rm 4 82 h0 h') s m args below meth c H locs cells slots (gQ G below args s h0 h' (.inl (g_wI r))) (F0 m 106 ls [.int u0])
abbrev w_X8_deedsTold_97 (G : gG) (l : Launch) (p : Program) (e : Env) (s : State) (m : MethodId) (args : Array Value) (below : List Frame) (meth : Method) (c : Code) (h0 : g_H) (r : Int32) (h' : g_H) (k : Int32 → Int32 → gM Int32) : Prop := ∀ (x1 : Int32) (x2 : Int32) (h : g_H) (H : Heap) (locs : List Loc) (cells slots : Nat) (ls : Array Slot), (k x1 x2).1 h = some (r, h') → gI G h0 h H locs cells slots → lv_has ls 5 [(1, .int x1), (2, .int x2)] → W p l e (g_rm 4 82 h0 h') s m args below meth c H locs cells slots (gQ G below args s h0 h' (.inl (g_wI r))) (F0 m 97 ls [])
abbrev w_X8_deedsTold_28 (G : gG) (l : Launch) (p : Program) (e : Env) (s : State) (m : MethodId) (args : Array Value) (below : List Frame) (meth : Method) (c : Code) (h0 : g_H) (r : Int32) (h' : g_H) (k : Nat → Int32 → Int32 → Int32 → gM Int32) : Prop := ∀ (a0 : Nat) (x1 : Int32) (x2 : Int32) (x3 : Int32) (h : g_H) (H : Heap) (locs : List Loc) (cells slots : Nat) (ls : Array Slot), (k a0 x1 x2 x3).1 h = some (r, h') → gI G h0 h H locs cells slots → lv_has ls 5 [(0, .ref a0), (1, .int x1), (2, .int x2), (3, .int x3)] → W p l e (g_rm 4 82 h0 h') s m args below meth c H locs cells slots (gQ G below args s h0 h' (.inl (g_wI r))) (F0 m 28 ls [])
abbrev w_X8_deedsTold_22 (G : gG) (l : Launch) (p : Program) (e : Env) (s : State) (m : MethodId) (args : Array Value) (below : List Frame) (meth : Method) (c : Code) (h0 : g_H) (r : Int32) (h' : g_H) (k : Nat → Int32 → Int32 → gM Int32) : Prop := ∀ (a0 : Nat) (x1 : Int32) (u0 : Int32) (h : g_H) (H : Heap) (locs : List Loc) (cells slots : Nat) (ls : Array Slot), (k a0 x1 u0).1 h = some (r, h') → gI G h0 h H locs cells slots → lv_has ls 5 [(0, .ref a0), (1, .int x1)] → W p l e (g_rm 4 82 h0 h') s m args below meth c H locs cells slots (gQ G below args s h0 h' (.inl (g_wI r))) (F0 m 22 ls [.int u0])
def f_X8_deedsTold_89 (k28 : Nat → Int32 → Int32 → Int32 → gM Int32) (a0 : Nat) (x2 : Int32) (x3 : Int32) (u0 : Int32) (u1 : Int32) : gM Int32 :=
    k28 a0 (u0 ||| u1) x2 (x3 + (1 : Int32))
set_option maxHeartbeats 4000000 in
set_option maxRecDepth 100000 in
theorem b_X8_deedsTold_89 {G : gG} {l : Launch} {p : Program} {e : Env} {s : State} {m : MethodId} {args : Array Value} {below : List Frame} {meth : Method} {c : Code} {h0 : g_H} {r : Int32} {h' : g_H} (X : gX G l yX8_deedsTold.cls cX8_deedsTold 5 (some .int) [] yX8_deedsTold.name p s m args meth c) {k28 : Nat → Int32 → Int32 → Int32 → gM Int32} (K28 : w_X8_deedsTold_28 G l p e s m args below meth c h0 r h' k28) : w_X8_deedsTold_89 G l p e s m args below meth c h0 r h' (f_X8_deedsTold_89 k28) := by
  have hx := X.1
  have hb := X.2.1
  have hown := X.2.2.2.1
  have hts := X.2.2.2.2.1
  intro a0 x2 x3 u0 u1 h H locs cells slots ls hf hI hl
  unfold f_X8_deedsTold_89 at hf
  refine lv_ior hx hb dX8_deedsTold_89 ?_
  refine lv_istore_n (lv' := [(1, .int (u0 ||| u1)), (0, .ref a0), (2, .int x2), (3, .int x3)]) hx hb dX8_deedsTold_90 rfl hl (by decide) rfl (fun ls hl => ?_)
  refine lv_iinc (v := (x3 + (1 : Int32))) (lv' := [(3, .int (x3 + (1 : Int32))), (1, .int (u0 ||| u1)), (0, .ref a0), (2, .int x2)]) hx hb dX8_deedsTold_91 hl (k := 3) rfl rfl (by decide) rfl (fun ls hl => ?_)
  refine lv_goto (tgt := 28) hx hb dX8_deedsTold_94 (by decide) ?_
  exact K28 _ _ _ _ _ _ _ _ _ _ hf hI (lv_sub hl [2, 1, 3, 0] rfl)
def f_X8_deedsTold_75 (k28 : Nat → Int32 → Int32 → Int32 → gM Int32) (a0 : Nat) (x1 : Int32) (x3 : Int32) (x4 : Int32) (u0 : Int32) : gM Int32 :=
    gIf (u0 = 0)
    (f_X8_deedsTold_89 k28 a0 u0 x3 x1 (0 : Int32))
    (f_X8_deedsTold_89 k28 a0 u0 x3 x1 ((1 : Int32) <<< (x4 &&& 31)))
set_option maxHeartbeats 4000000 in
set_option maxRecDepth 100000 in
theorem b_X8_deedsTold_75 {G : gG} {l : Launch} {p : Program} {e : Env} {s : State} {m : MethodId} {args : Array Value} {below : List Frame} {meth : Method} {c : Code} {h0 : g_H} {r : Int32} {h' : g_H} (X : gX G l yX8_deedsTold.cls cX8_deedsTold 5 (some .int) [] yX8_deedsTold.name p s m args meth c) {k28 : Nat → Int32 → Int32 → Int32 → gM Int32} (K28 : w_X8_deedsTold_28 G l p e s m args below meth c h0 r h' k28) : w_X8_deedsTold_75 G l p e s m args below meth c h0 r h' (f_X8_deedsTold_75 k28) := by
  have hx := X.1
  have hb := X.2.1
  have hown := X.2.2.2.1
  have hts := X.2.2.2.2.1
  intro a0 x1 x3 x4 u0 h H locs cells slots ls hf hI hl
  unfold f_X8_deedsTold_75 at hf
  refine lv_istore_n (lv' := [(2, .int u0), (0, .ref a0), (1, .int x1), (3, .int x3), (4, .int x4)]) hx hb dX8_deedsTold_75 rfl hl (by decide) rfl (fun ls hl => ?_)
  refine lv_iload_n hx hb dX8_deedsTold_76 rfl (lv_at hl 2 rfl) ?_
  refine lv_iload_n hx hb dX8_deedsTold_77 rfl (lv_at hl 0 rfl) ?_
  refine lv_if_eq (tgt := 88) hx hb dX8_deedsTold_78 (by decide) (fun c78 => ?_) (fun c78 => ?_)
  · have hf := g_t c78 hf
    refine lv_iconst (v := (0 : Int32)) hx hb dX8_deedsTold_88 (by decide) ?_
    exact b_X8_deedsTold_89 X K28 _ _ _ _ _ _ _ _ _ _ _ hf hI (lv_sub hl [1, 0, 3] rfl)
  · have hf := g_f c78 hf
    refine lv_iconst (v := (1 : Int32)) hx hb dX8_deedsTold_81 (by decide) ?_
    refine lv_iload hx hb dX8_deedsTold_82 (lv_at hl 4 rfl) ?_
    refine lv_ishl hx hb dX8_deedsTold_84 ?_
    refine lv_goto (tgt := 89) hx hb dX8_deedsTold_85 (by decide) ?_
    exact b_X8_deedsTold_89 X K28 _ _ _ _ _ _ _ _ _ _ _ hf hI (lv_sub hl [1, 0, 3] rfl)
def f_X8_deedsTold_74 (k28 : Nat → Int32 → Int32 → Int32 → gM Int32) (a0 : Nat) (x1 : Int32) (x3 : Int32) (x4 : Int32) : gM Int32 :=
    f_X8_deedsTold_75 k28 a0 x1 x3 x4 (0 : Int32)
set_option maxHeartbeats 4000000 in
set_option maxRecDepth 100000 in
theorem b_X8_deedsTold_74 {G : gG} {l : Launch} {p : Program} {e : Env} {s : State} {m : MethodId} {args : Array Value} {below : List Frame} {meth : Method} {c : Code} {h0 : g_H} {r : Int32} {h' : g_H} (X : gX G l yX8_deedsTold.cls cX8_deedsTold 5 (some .int) [] yX8_deedsTold.name p s m args meth c) {k28 : Nat → Int32 → Int32 → Int32 → gM Int32} (K28 : w_X8_deedsTold_28 G l p e s m args below meth c h0 r h' k28) : w_X8_deedsTold_74 G l p e s m args below meth c h0 r h' (f_X8_deedsTold_74 k28) := by
  have hx := X.1
  have hb := X.2.1
  have hown := X.2.2.2.1
  have hts := X.2.2.2.2.1
  intro a0 x1 x3 x4 h H locs cells slots ls hf hI hl
  unfold f_X8_deedsTold_74 at hf
  refine lv_iconst (v := (0 : Int32)) hx hb dX8_deedsTold_74 (by decide) ?_
  exact b_X8_deedsTold_75 X K28 _ _ _ _ _ _ _ _ _ _ _ hf hI (lv_sub hl [0, 1, 2, 3] rfl)
def f_X8_deedsTold_106 (u0 : Int32) : gM Int32 :=
    (gRet u0)
set_option maxHeartbeats 4000000 in
set_option maxRecDepth 100000 in
theorem b_X8_deedsTold_106 {G : gG} {l : Launch} {p : Program} {e : Env} {s : State} {m : MethodId} {args : Array Value} {below : List Frame} {meth : Method} {c : Code} {h0 : g_H} {r : Int32} {h' : g_H} (X : gX G l yX8_deedsTold.cls cX8_deedsTold 5 (some .int) [] yX8_deedsTold.name p s m args meth c) : w_X8_deedsTold_106 G l p e s m args below meth c h0 r h' (f_X8_deedsTold_106) := by
  have hx := X.1
  have hb := X.2.1
  have hown := X.2.2.2.1
  have hts := X.2.2.2.2.1
  intro u0 h H locs cells slots ls hf hI hl
  unfold f_X8_deedsTold_106 at hf
  cases gRet_e hf
  exact g_retI X hI rfl dX8_deedsTold_106
def f_X8_deedsTold_97 (x1 : Int32) (x2 : Int32) : gM Int32 :=
    gIf (x2 = 0)
    (f_X8_deedsTold_106 (-1 : Int32))
    (f_X8_deedsTold_106 x1)
set_option maxHeartbeats 4000000 in
set_option maxRecDepth 100000 in
theorem b_X8_deedsTold_97 {G : gG} {l : Launch} {p : Program} {e : Env} {s : State} {m : MethodId} {args : Array Value} {below : List Frame} {meth : Method} {c : Code} {h0 : g_H} {r : Int32} {h' : g_H} (X : gX G l yX8_deedsTold.cls cX8_deedsTold 5 (some .int) [] yX8_deedsTold.name p s m args meth c) : w_X8_deedsTold_97 G l p e s m args below meth c h0 r h' (f_X8_deedsTold_97) := by
  have hx := X.1
  have hb := X.2.1
  have hown := X.2.2.2.1
  have hts := X.2.2.2.2.1
  intro x1 x2 h H locs cells slots ls hf hI hl
  unfold f_X8_deedsTold_97 at hf
  refine lv_iload_n hx hb dX8_deedsTold_97 rfl (lv_at hl 1 rfl) ?_
  refine lv_if_eq (tgt := 105) hx hb dX8_deedsTold_98 (by decide) (fun c98 => ?_) (fun c98 => ?_)
  · have hf := g_t c98 hf
    refine lv_iconst (v := (-1 : Int32)) hx hb dX8_deedsTold_105 (by decide) ?_
    exact b_X8_deedsTold_106 X _ _ _ _ _ _ _ hf hI (lv_sub hl [] rfl)
  · have hf := g_f c98 hf
    refine lv_iload_n hx hb dX8_deedsTold_101 rfl (lv_at hl 0 rfl) ?_
    refine lv_goto (tgt := 106) hx hb dX8_deedsTold_102 (by decide) ?_
    exact b_X8_deedsTold_106 X _ _ _ _ _ _ _ hf hI (lv_sub hl [] rfl)
def f_X8_deedsTold_28 : Nat → Nat → Int32 → Int32 → Int32 → gM Int32
  | 0, _, _, _, _ => gFail
  | n + 1, a0, x1, x2, x3 =>
    gB (gFI a0 7 10) fun v101 =>
    gIf (v101 ≤ x3)
    (f_X8_deedsTold_97 x1 x2)
    (gIf (x2 = 0)
    (f_X8_deedsTold_97 x1 x2)
    (gB (gFR a0 7 8) fun v102 =>
    gB (gAI v102 1 x3) fun v103 =>
    gB (f_X8_in (v103 - (97 : Int32)) (0 : Int32) (5 : Int32)) fun r104 =>
    gIf (r104 = 0)
    (f_X8_deedsTold_74 (f_X8_deedsTold_28 n) a0 x1 x3 (v103 - (97 : Int32)))
    (gB (f_X8_has x1 (v103 - (97 : Int32))) fun r105 =>
    gIf (r105 = 0)
    (f_X8_deedsTold_75 (f_X8_deedsTold_28 n) a0 x1 x3 (v103 - (97 : Int32)) (1 : Int32))
    (f_X8_deedsTold_74 (f_X8_deedsTold_28 n) a0 x1 x3 (v103 - (97 : Int32))))))
set_option maxHeartbeats 4000000 in
set_option maxRecDepth 100000 in
theorem b_X8_deedsTold_28 {G : gG} {l : Launch} {p : Program} {e : Env} {s : State} {m : MethodId} {args : Array Value} {below : List Frame} {meth : Method} {c : Code} {h0 : g_H} {r : Int32} {h' : g_H} (X : gX G l yX8_deedsTold.cls cX8_deedsTold 5 (some .int) [] yX8_deedsTold.name p s m args meth c) : ∀ n : Nat, w_X8_deedsTold_28 G l p e s m args below meth c h0 r h' (f_X8_deedsTold_28 n) := by
  have hx := X.1
  have hb := X.2.1
  have hown := X.2.2.2.1
  have hts := X.2.2.2.2.1
  intro n
  induction n with
  | zero =>
    intro a0 x1 x2 x3 h H locs cells slots ls hf hI hl
    exact (gFail_f hf).elim
  | succ n ih =>
    intro a0 x1 x2 x3 h H locs cells slots ls hf hI hl
    rw [f_X8_deedsTold_28] at hf
    refine lv_iload_n hx hb dX8_deedsTold_28 rfl (lv_at hl 3 rfl) ?_
    refine lv_aload_n hx hb dX8_deedsTold_29 rfl (lv_at hl 0 rfl) ?_
    refine g_fi X hI hf fX8_10 q1454 rfl rfl dX8_deedsTold_30 (fun v101 hf => ?_)
    refine lv_icmp_ge (tgt := 97) hx hb dX8_deedsTold_33 (by decide) (fun c33 => ?_) (fun c33 => ?_)
    · have hf := g_t c33 hf
      exact b_X8_deedsTold_97 X _ _ _ _ _ _ _ _ hf hI (lv_sub hl [1, 2] rfl)
    · have hf := g_f c33 hf
      refine lv_iload_n hx hb dX8_deedsTold_36 rfl (lv_at hl 2 rfl) ?_
      refine lv_if_eq (tgt := 97) hx hb dX8_deedsTold_37 (by decide) (fun c37 => ?_) (fun c37 => ?_)
      · have hf := g_t c37 hf
        exact b_X8_deedsTold_97 X _ _ _ _ _ _ _ _ hf hI (lv_sub hl [1, 2] rfl)
      · have hf := g_f c37 hf
        refine lv_aload_n hx hb dX8_deedsTold_40 rfl (lv_at hl 0 rfl) ?_
        refine g_fr X hI hf fX8_8 q1452 rfl rfl dX8_deedsTold_41 (fun v102 hf => ?_)
        refine lv_iload_n hx hb dX8_deedsTold_44 rfl (lv_at hl 3 rfl) ?_
        refine g_ai1 X hI hf dX8_deedsTold_45 (fun v103 hf => ?_)
        refine lv_bipush (v := (97 : Int32)) hx hb dX8_deedsTold_46 (by decide) ?_
        refine lv_isub hx hb dX8_deedsTold_48 ?_
        refine lv_istore (lv' := [(4, .int (v103 - (97 : Int32))), (0, .ref a0), (1, .int x1), (2, .int x2), (3, .int x3)]) hx hb dX8_deedsTold_49 hl (by decide) rfl (fun ls hl => ?_)
        refine lv_iload hx hb dX8_deedsTold_51 (lv_at hl 0 rfl) ?_
        refine lv_iconst (v := (0 : Int32)) hx hb dX8_deedsTold_53 (by decide) ?_
        refine lv_iconst (v := (5 : Int32)) hx hb dX8_deedsTold_54 (by decide) ?_
        refine g_cBI hI hf (fun v9 h9 e9 l9 l9' => g_rS (b := 0) X hI l9 l9' ⟨Nat.le_refl _, Nat.le_refl _⟩ (As := [.int (v103 - (97 : Int32)), .int (0 : Int32), .int (5 : Int32)]) (m_X8_in X.2.2.2.2.2.2.2.2.2.2.1 e9) ydX8_in q1634 q1635 q131 q1636 rfl (Nat.le_of_ble_eq_true rfl) (Nat.le_of_ble_eq_true rfl) hl.1 rfl (Nat.le_of_ble_eq_true rfl) dX8_deedsTold_55) (fun r104 h H locs cells slots hf hI => ?_)
        refine lv_if_eq (tgt := 74) hx hb dX8_deedsTold_58 (by decide) (fun c58 => ?_) (fun c58 => ?_)
        · have hf := g_t c58 hf
          exact b_X8_deedsTold_74 X ih _ _ _ _ _ _ _ _ _ _ hf hI (lv_sub hl [1, 2, 4, 0] rfl)
        · have hf := g_f c58 hf
          refine lv_iload_n hx hb dX8_deedsTold_61 rfl (lv_at hl 2 rfl) ?_
          refine lv_iload hx hb dX8_deedsTold_62 (lv_at hl 0 rfl) ?_
          refine g_cBI hI hf (fun v9 h9 e9 l9 l9' => g_rS (b := 0) X hI l9 l9' ⟨Nat.le_refl _, Nat.le_refl _⟩ (As := [.int x1, .int (v103 - (97 : Int32))]) (m_X8_has X.2.2.2.2.2.2.2.2.2.2.1 e9) ydX8_has q1637 q1638 q131 q1639 rfl (Nat.le_of_ble_eq_true rfl) (Nat.le_of_ble_eq_true rfl) hl.1 rfl (Nat.le_of_ble_eq_true rfl) dX8_deedsTold_64) (fun r105 h H locs cells slots hf hI => ?_)
          refine lv_if_ne (tgt := 74) hx hb dX8_deedsTold_67 (by decide) (fun c67 => ?_) (fun c67 => ?_)
          · have hf := g_f c67 hf
            exact b_X8_deedsTold_74 X ih _ _ _ _ _ _ _ _ _ _ hf hI (lv_sub hl [1, 2, 4, 0] rfl)
          · have hf := g_t c67 hf
            refine lv_iconst (v := (1 : Int32)) hx hb dX8_deedsTold_70 (by decide) ?_
            refine lv_goto (tgt := 75) hx hb dX8_deedsTold_71 (by decide) ?_
            exact b_X8_deedsTold_75 X ih _ _ _ _ _ _ _ _ _ _ _ hf hI (lv_sub hl [1, 2, 4, 0] rfl)
def f_X8_deedsTold_22 (a0 : Nat) (x1 : Int32) (u0 : Int32) : gM Int32 :=
    gB (gFI a0 7 12) fun v101 =>
    f_X8_deedsTold_28 gN a0 x1 u0 v101
set_option maxHeartbeats 4000000 in
set_option maxRecDepth 100000 in
theorem b_X8_deedsTold_22 {G : gG} {l : Launch} {p : Program} {e : Env} {s : State} {m : MethodId} {args : Array Value} {below : List Frame} {meth : Method} {c : Code} {h0 : g_H} {r : Int32} {h' : g_H} (X : gX G l yX8_deedsTold.cls cX8_deedsTold 5 (some .int) [] yX8_deedsTold.name p s m args meth c) : w_X8_deedsTold_22 G l p e s m args below meth c h0 r h' (f_X8_deedsTold_22) := by
  have hx := X.1
  have hb := X.2.1
  have hown := X.2.2.2.1
  have hts := X.2.2.2.2.1
  intro a0 x1 u0 h H locs cells slots ls hf hI hl
  unfold f_X8_deedsTold_22 at hf
  refine lv_istore_n (lv' := [(2, .int u0), (0, .ref a0), (1, .int x1)]) hx hb dX8_deedsTold_22 rfl hl (by decide) rfl (fun ls hl => ?_)
  refine lv_aload_n hx hb dX8_deedsTold_23 rfl (lv_at hl 1 rfl) ?_
  refine g_fi X hI hf fX8_12 q1456 rfl rfl dX8_deedsTold_24 (fun v101 hf => ?_)
  refine lv_istore_n (lv' := [(3, .int v101), (2, .int u0), (0, .ref a0), (1, .int x1)]) hx hb dX8_deedsTold_27 rfl hl (by decide) rfl (fun ls hl => ?_)
  exact b_X8_deedsTold_28 X gN _ _ _ _ _ _ _ _ _ _ hf hI (lv_sub hl [2, 3, 1, 0] rfl)
def f_X8_deedsTold (a0 : Nat) : gM Int32 :=
    gB (gCk a0 7) fun _ =>
    gB (f_X8_letters a0) fun _ =>
    gB (gFI a0 7 10) fun v2 =>
    gB (gFI a0 7 12) fun v3 =>
    gIf (v2 ≤ v3)
    (f_X8_deedsTold_22 a0 (0 : Int32) (0 : Int32))
    (f_X8_deedsTold_22 a0 (0 : Int32) (1 : Int32))
set_option maxHeartbeats 4000000 in
set_option maxRecDepth 100000 in
theorem m_X8_deedsTold {G : gG} {l : Launch} (hfl : l.stackTraces = false) {a0 : Nat} {h h' : g_H} {r : Int32} (hf : (f_X8_deedsTold a0).1 h = some (r, h')) : gMet G l yX8_deedsTold (Cond.code yX8_deedsTold cX8_deedsTold 5 (some .int)) 4 82 [.ref a0] h (.inl (g_wI r)) h' := by
  refine g_head hfl ((f_X8_deedsTold a0).2 h r h' hf) (plainFor_of_name (by decide)) (Nat.le_of_ble_eq_true rfl) (fun p e s m below meth c H locs cells slots ls X hI hl9 => ?_)
  have hl : lv_has ls 5 [(0, .ref a0)] := hl9
  have hx := X.1
  have hb := X.2.1
  have hown := X.2.2.2.1
  have hts := X.2.2.2.2.1
  unfold f_X8_deedsTold at hf
  refine lv_aload_n hx hb dX8_deedsTold_0 rfl (lv_at hl 0 rfl) ?_
  obtain ⟨hs, hf⟩ := gCk_b hf
  refine g_cBU hI hf (fun v9 h9 e9 l9 l9' => g_rV X hI l9 l9' ⟨Nat.le_refl _, Nat.le_refl _⟩ (As := []) (m_X8_letters X.2.2.2.2.2.2.2.2.2.2.1 e9) ydX8_letters hs rfl rfl q1607 q1609 qs49 q131 q1610 rfl (Nat.le_of_ble_eq_true rfl) (Nat.le_of_ble_eq_true rfl) hl.1 rfl (Nat.le_of_ble_eq_true rfl) dX8_deedsTold_1) (fun r1 h H locs cells slots hf hI => ?_)
  refine lv_iconst (v := (0 : Int32)) hx hb dX8_deedsTold_4 (by decide) ?_
  refine lv_istore_n (lv' := [(1, .int (0 : Int32)), (0, .ref a0)]) hx hb dX8_deedsTold_5 rfl hl (by decide) rfl (fun ls hl => ?_)
  refine lv_aload_n hx hb dX8_deedsTold_6 rfl (lv_at hl 1 rfl) ?_
  refine g_fi X hI hf fX8_10 q1454 rfl rfl dX8_deedsTold_7 (fun v2 hf => ?_)
  refine lv_aload_n hx hb dX8_deedsTold_10 rfl (lv_at hl 1 rfl) ?_
  refine g_fi X hI hf fX8_12 q1456 rfl rfl dX8_deedsTold_11 (fun v3 hf => ?_)
  refine lv_icmp_le (tgt := 21) hx hb dX8_deedsTold_14 (by decide) (fun c14 => ?_) (fun c14 => ?_)
  · have hf := g_t c14 hf
    refine lv_iconst (v := (0 : Int32)) hx hb dX8_deedsTold_21 (by decide) ?_
    exact b_X8_deedsTold_22 X _ _ _ _ _ _ _ _ _ hf hI (lv_sub hl [1, 0] rfl)
  · have hf := g_f c14 hf
    refine lv_iconst (v := (1 : Int32)) hx hb dX8_deedsTold_17 (by decide) ?_
    refine lv_goto (tgt := 22) hx hb dX8_deedsTold_18 (by decide) ?_
    exact b_X8_deedsTold_22 X _ _ _ _ _ _ _ _ _ hf hI (lv_sub hl [1, 0] rfl)
/-! X8_number -/
abbrev w_X8_number_51 (G : gG) (l : Launch) (p : Program) (e : Env) (s : State) (m : MethodId) (args : Array Value) (below : List Frame) (meth : Method) (c : Code) (h0 : g_H) (r : Int32) (h' : g_H) (k : Nat → Int32 → Int32 → Int32 → gM Int32) : Prop := ∀ (a0 : Nat) (x1 : Int32) (x2 : Int32) (u0 : Int32) (h : g_H) (H : Heap) (locs : List Loc) (cells slots : Nat) (ls : Array Slot), (k a0 x1 x2 u0).1 h = some (r, h') → gI G h0 h H locs cells slots → lv_has ls 4 [(0, .ref a0), (1, .int x1), (2, .int x2)] → W p l e (g_rm 3 62 h0 h') s m args below meth c H locs cells slots (gQ G below args s h0 h' (.inl (g_wI r))) (F0 m 51 ls [.int u0])
abbrev w_X8_number_104 (G : gG) (l : Launch) (p : Program) (e : Env) (s : State) (m : MethodId) (args : Array Value) (below : List Frame) (meth : Method) (c : Code) (h0 : g_H) (r : Int32) (h' : g_H) (k : Int32 → gM Int32) : Prop := ∀ (u0 : Int32) (h : g_H) (H : Heap) (locs : List Loc) (cells slots : Nat) (ls : Array Slot), (k u0).1 h = some (r, h') → gI G h0 h H locs cells slots → lv_has ls 4 [] → W p l e (g_rm 3 62 h0 h') s m args below meth c H locs cells slots (gQ G below args s h0 h' (.inl (g_wI r))) (F0 m 104 ls [.int u0])
abbrev w_X8_number_99 (G : gG) (l : Launch) (p : Program) (e : Env) (s : State) (m : MethodId) (args : Array Value) (below : List Frame) (meth : Method) (c : Code) (h0 : g_H) (r : Int32) (h' : g_H) (k : gM Int32) : Prop := ∀ (h : g_H) (H : Heap) (locs : List Loc) (cells slots : Nat) (ls : Array Slot), (k).1 h = some (r, h') → gI G h0 h H locs cells slots → lv_has ls 4 [] → W p l e (g_rm 3 62 h0 h') s m args below meth c H locs cells slots (gQ G below args s h0 h' (.inl (g_wI r))) (F0 m 99 ls [])
abbrev w_X8_number_65 (G : gG) (l : Launch) (p : Program) (e : Env) (s : State) (m : MethodId) (args : Array Value) (below : List Frame) (meth : Method) (c : Code) (h0 : g_H) (r : Int32) (h' : g_H) (k : Nat → Int32 → Int32 → Int32 → gM Int32) : Prop := ∀ (a0 : Nat) (x1 : Int32) (x2 : Int32) (x3 : Int32) (h : g_H) (H : Heap) (locs : List Loc) (cells slots : Nat) (ls : Array Slot), (k a0 x1 x2 x3).1 h = some (r, h') → gI G h0 h H locs cells slots → lv_has ls 4 [(0, .ref a0), (1, .int x1), (2, .int x2), (3, .int x3)] → W p l e (g_rm 3 62 h0 h') s m args below meth c H locs cells slots (gQ G below args s h0 h' (.inl (g_wI r))) (F0 m 65 ls [])
abbrev w_X8_number_6 (G : gG) (l : Launch) (p : Program) (e : Env) (s : State) (m : MethodId) (args : Array Value) (below : List Frame) (meth : Method) (c : Code) (h0 : g_H) (r : Int32) (h' : g_H) (k : Nat → Int32 → Int32 → Int32 → gM Int32) : Prop := ∀ (a0 : Nat) (x1 : Int32) (x2 : Int32) (x3 : Int32) (h : g_H) (H : Heap) (locs : List Loc) (cells slots : Nat) (ls : Array Slot), (k a0 x1 x2 x3).1 h = some (r, h') → gI G h0 h H locs cells slots → lv_has ls 4 [(0, .ref a0), (1, .int x1), (2, .int x2), (3, .int x3)] → W p l e (g_rm 3 62 h0 h') s m args below meth c H locs cells slots (gQ G below args s h0 h' (.inl (g_wI r))) (F0 m 6 ls [])
def f_X8_number_51 (k6 : Nat → Int32 → Int32 → Int32 → gM Int32) (a0 : Nat) (x1 : Int32) (x2 : Int32) (u0 : Int32) : gM Int32 :=
    gB (gFI a0 7 10) fun v101 =>
    gB (gPI a0 7 10 (v101 + (1 : Int32))) fun _ =>
    k6 a0 x1 x2 u0
set_option maxHeartbeats 4000000 in
set_option maxRecDepth 100000 in
theorem b_X8_number_51 {G : gG} {l : Launch} {p : Program} {e : Env} {s : State} {m : MethodId} {args : Array Value} {below : List Frame} {meth : Method} {c : Code} {h0 : g_H} {r : Int32} {h' : g_H} (X : gX G l yX8_number.cls cX8_number 4 (some .int) [] yX8_number.name p s m args meth c) {k6 : Nat → Int32 → Int32 → Int32 → gM Int32} (K6 : w_X8_number_6 G l p e s m args below meth c h0 r h' k6) : w_X8_number_51 G l p e s m args below meth c h0 r h' (f_X8_number_51 k6) := by
  have hx := X.1
  have hb := X.2.1
  have hown := X.2.2.2.1
  have hts := X.2.2.2.2.1
  intro a0 x1 x2 u0 h H locs cells slots ls hf hI hl
  unfold f_X8_number_51 at hf
  refine lv_istore_n (lv' := [(3, .int u0), (0, .ref a0), (1, .int x1), (2, .int x2)]) hx hb dX8_number_51 rfl hl (by decide) rfl (fun ls hl => ?_)
  refine lv_aload_n hx hb dX8_number_52 rfl (lv_at hl 1 rfl) ?_
  refine lv_dup hx hb dX8_number_53 rfl ?_
  refine g_fi X hI hf fX8_10 q1454 rfl rfl dX8_number_54 (fun v101 hf => ?_)
  refine lv_iconst (v := (1 : Int32)) hx hb dX8_number_57 (by decide) ?_
  refine lv_iadd hx hb dX8_number_58 ?_
  refine g_pi X hI hf fX8_10 q1454 rfl dX8_number_59 (fun h H locs hf hI => ?_)
  refine lv_goto (tgt := 6) hx hb dX8_number_62 (by decide) ?_
  exact K6 _ _ _ _ _ _ _ _ _ _ hf hI (lv_sub hl [1, 2, 3, 0] rfl)
def f_X8_number_104 (u0 : Int32) : gM Int32 :=
    (gRet u0)
set_option maxHeartbeats 4000000 in
set_option maxRecDepth 100000 in
theorem b_X8_number_104 {G : gG} {l : Launch} {p : Program} {e : Env} {s : State} {m : MethodId} {args : Array Value} {below : List Frame} {meth : Method} {c : Code} {h0 : g_H} {r : Int32} {h' : g_H} (X : gX G l yX8_number.cls cX8_number 4 (some .int) [] yX8_number.name p s m args meth c) : w_X8_number_104 G l p e s m args below meth c h0 r h' (f_X8_number_104) := by
  have hx := X.1
  have hb := X.2.1
  have hown := X.2.2.2.1
  have hts := X.2.2.2.2.1
  intro u0 h H locs cells slots ls hf hI hl
  unfold f_X8_number_104 at hf
  cases gRet_e hf
  exact g_retI X hI rfl dX8_number_104
def f_X8_number_99 : gM Int32 :=
    f_X8_number_104 (-1 : Int32)
set_option maxHeartbeats 4000000 in
set_option maxRecDepth 100000 in
theorem b_X8_number_99 {G : gG} {l : Launch} {p : Program} {e : Env} {s : State} {m : MethodId} {args : Array Value} {below : List Frame} {meth : Method} {c : Code} {h0 : g_H} {r : Int32} {h' : g_H} (X : gX G l yX8_number.cls cX8_number 4 (some .int) [] yX8_number.name p s m args meth c) : w_X8_number_99 G l p e s m args below meth c h0 r h' (f_X8_number_99) := by
  have hx := X.1
  have hb := X.2.1
  have hown := X.2.2.2.1
  have hts := X.2.2.2.2.1
  intro h H locs cells slots ls hf hI hl
  unfold f_X8_number_99 at hf
  refine lv_iconst (v := (-1 : Int32)) hx hb dX8_number_99 (by decide) ?_
  refine lv_goto (tgt := 104) hx hb dX8_number_100 (by decide) ?_
  exact b_X8_number_104 X _ _ _ _ _ _ _ hf hI (lv_sub hl [] rfl)
def f_X8_number_65 (a0 : Nat) (x1 : Int32) (x2 : Int32) (x3 : Int32) : gM Int32 :=
    gB (gFI a0 7 10) fun v101 =>
    gB (gFI a0 7 12) fun v102 =>
    gIf (v101 = v102)
    (f_X8_number_99)
    (gB (gFI a0 7 10) fun v103 =>
    gB (gFI a0 7 12) fun v104 =>
    gIf ((3 : Int32) < (v103 - v104))
    (f_X8_number_99)
    (gIf (x3 < x1)
    (f_X8_number_99)
    (gIf (x3 ≤ x2)
    (f_X8_number_104 x3)
    (f_X8_number_99))))
set_option maxHeartbeats 4000000 in
set_option maxRecDepth 100000 in
theorem b_X8_number_65 {G : gG} {l : Launch} {p : Program} {e : Env} {s : State} {m : MethodId} {args : Array Value} {below : List Frame} {meth : Method} {c : Code} {h0 : g_H} {r : Int32} {h' : g_H} (X : gX G l yX8_number.cls cX8_number 4 (some .int) [] yX8_number.name p s m args meth c) : w_X8_number_65 G l p e s m args below meth c h0 r h' (f_X8_number_65) := by
  have hx := X.1
  have hb := X.2.1
  have hown := X.2.2.2.1
  have hts := X.2.2.2.2.1
  intro a0 x1 x2 x3 h H locs cells slots ls hf hI hl
  unfold f_X8_number_65 at hf
  refine lv_aload_n hx hb dX8_number_65 rfl (lv_at hl 0 rfl) ?_
  refine g_fi X hI hf fX8_10 q1454 rfl rfl dX8_number_66 (fun v101 hf => ?_)
  refine lv_aload_n hx hb dX8_number_69 rfl (lv_at hl 0 rfl) ?_
  refine g_fi X hI hf fX8_12 q1456 rfl rfl dX8_number_70 (fun v102 hf => ?_)
  refine lv_icmp_eq (tgt := 99) hx hb dX8_number_73 (by decide) (fun c73 => ?_) (fun c73 => ?_)
  · have hf := g_t c73 hf
    exact b_X8_number_99 X _ _ _ _ _ _ hf hI (lv_sub hl [] rfl)
  · have hf := g_f c73 hf
    refine lv_aload_n hx hb dX8_number_76 rfl (lv_at hl 0 rfl) ?_
    refine g_fi X hI hf fX8_10 q1454 rfl rfl dX8_number_77 (fun v103 hf => ?_)
    refine lv_aload_n hx hb dX8_number_80 rfl (lv_at hl 0 rfl) ?_
    refine g_fi X hI hf fX8_12 q1456 rfl rfl dX8_number_81 (fun v104 hf => ?_)
    refine lv_isub hx hb dX8_number_84 ?_
    refine lv_iconst (v := (3 : Int32)) hx hb dX8_number_85 (by decide) ?_
    refine lv_icmp_gt (tgt := 99) hx hb dX8_number_86 (by decide) (fun c86 => ?_) (fun c86 => ?_)
    · have hf := g_t c86 hf
      exact b_X8_number_99 X _ _ _ _ _ _ hf hI (lv_sub hl [] rfl)
    · have hf := g_f c86 hf
      refine lv_iload_n hx hb dX8_number_89 rfl (lv_at hl 3 rfl) ?_
      refine lv_iload_n hx hb dX8_number_90 rfl (lv_at hl 1 rfl) ?_
      refine lv_icmp_lt (tgt := 99) hx hb dX8_number_91 (by decide) (fun c91 => ?_) (fun c91 => ?_)
      · have hf := g_t c91 hf
        exact b_X8_number_99 X _ _ _ _ _ _ hf hI (lv_sub hl [] rfl)
      · have hf := g_f c91 hf
        refine lv_iload_n hx hb dX8_number_94 rfl (lv_at hl 3 rfl) ?_
        refine lv_iload_n hx hb dX8_number_95 rfl (lv_at hl 2 rfl) ?_
        refine lv_icmp_le (tgt := 103) hx hb dX8_number_96 (by decide) (fun c96 => ?_) (fun c96 => ?_)
        · have hf := g_t c96 hf
          refine lv_iload_n hx hb dX8_number_103 rfl (lv_at hl 3 rfl) ?_
          exact b_X8_number_104 X _ _ _ _ _ _ _ hf hI (lv_sub hl [] rfl)
        · have hf := g_f c96 hf
          exact b_X8_number_99 X _ _ _ _ _ _ hf hI (lv_sub hl [] rfl)
def f_X8_number_6 : Nat → Nat → Int32 → Int32 → Int32 → gM Int32
  | 0, _, _, _, _ => gFail
  | n + 1, a0, x1, x2, x3 =>
    gB (gCk a0 7) fun _ =>
    gB (f_X8_isAt a0 (48 : Int32) (57 : Int32)) fun r101 =>
    gIf (r101 = 0)
    (f_X8_number_65 a0 x1 x2 x3)
    (gB (gFI a0 7 10) fun v102 =>
    gB (gFI a0 7 12) fun v103 =>
    gIf ((3 : Int32) ≤ (v102 - v103))
    (f_X8_number_51 (f_X8_number_6 n) a0 x1 x2 x3)
    (gB (gFR a0 7 8) fun v104 =>
    gB (gFI a0 7 10) fun v105 =>
    gB (gAI v104 1 v105) fun v106 =>
    f_X8_number_51 (f_X8_number_6 n) a0 x1 x2 ((((10 : Int32) * x3) + v106) - (48 : Int32))))
set_option maxHeartbeats 4000000 in
set_option maxRecDepth 100000 in
theorem b_X8_number_6 {G : gG} {l : Launch} {p : Program} {e : Env} {s : State} {m : MethodId} {args : Array Value} {below : List Frame} {meth : Method} {c : Code} {h0 : g_H} {r : Int32} {h' : g_H} (X : gX G l yX8_number.cls cX8_number 4 (some .int) [] yX8_number.name p s m args meth c) : ∀ n : Nat, w_X8_number_6 G l p e s m args below meth c h0 r h' (f_X8_number_6 n) := by
  have hx := X.1
  have hb := X.2.1
  have hown := X.2.2.2.1
  have hts := X.2.2.2.2.1
  intro n
  induction n with
  | zero =>
    intro a0 x1 x2 x3 h H locs cells slots ls hf hI hl
    exact (gFail_f hf).elim
  | succ n ih =>
    intro a0 x1 x2 x3 h H locs cells slots ls hf hI hl
    rw [f_X8_number_6] at hf
    refine lv_aload_n hx hb dX8_number_6 rfl (lv_at hl 0 rfl) ?_
    refine lv_bipush (v := (48 : Int32)) hx hb dX8_number_7 (by decide) ?_
    refine lv_bipush (v := (57 : Int32)) hx hb dX8_number_9 (by decide) ?_
    obtain ⟨hs, hf⟩ := gCk_b hf
    refine g_cBI hI hf (fun v9 h9 e9 l9 l9' => g_rV X hI l9 l9' ⟨Nat.le_refl _, Nat.le_refl _⟩ (As := [.int (48 : Int32), .int (57 : Int32)]) (m_X8_isAt X.2.2.2.2.2.2.2.2.2.2.1 e9) ydX8_isAt hs rfl rfl q1599 q1601 qs47 q131 q1602 rfl (Nat.le_of_ble_eq_true rfl) (Nat.le_of_ble_eq_true rfl) hl.1 rfl (Nat.le_of_ble_eq_true rfl) dX8_number_11) (fun r101 h H locs cells slots hf hI => ?_)
    refine lv_if_eq (tgt := 65) hx hb dX8_number_14 (by decide) (fun c14 => ?_) (fun c14 => ?_)
    · have hf := g_t c14 hf
      exact b_X8_number_65 X _ _ _ _ _ _ _ _ _ _ hf hI (lv_sub hl [0, 1, 2, 3] rfl)
    · have hf := g_f c14 hf
      refine lv_aload_n hx hb dX8_number_17 rfl (lv_at hl 0 rfl) ?_
      refine g_fi X hI hf fX8_10 q1454 rfl rfl dX8_number_18 (fun v102 hf => ?_)
      refine lv_aload_n hx hb dX8_number_21 rfl (lv_at hl 0 rfl) ?_
      refine g_fi X hI hf fX8_12 q1456 rfl rfl dX8_number_22 (fun v103 hf => ?_)
      refine lv_isub hx hb dX8_number_25 ?_
      refine lv_iconst (v := (3 : Int32)) hx hb dX8_number_26 (by decide) ?_
      refine lv_icmp_ge (tgt := 50) hx hb dX8_number_27 (by decide) (fun c27 => ?_) (fun c27 => ?_)
      · have hf := g_t c27 hf
        refine lv_iload_n hx hb dX8_number_50 rfl (lv_at hl 3 rfl) ?_
        exact b_X8_number_51 X ih _ _ _ _ _ _ _ _ _ _ hf hI (lv_sub hl [0, 1, 2] rfl)
      · have hf := g_f c27 hf
        refine lv_bipush (v := (10 : Int32)) hx hb dX8_number_30 (by decide) ?_
        refine lv_iload_n hx hb dX8_number_32 rfl (lv_at hl 3 rfl) ?_
        refine lv_imul hx hb dX8_number_33 ?_
        refine lv_aload_n hx hb dX8_number_34 rfl (lv_at hl 0 rfl) ?_
        refine g_fr X hI hf fX8_8 q1452 rfl rfl dX8_number_35 (fun v104 hf => ?_)
        refine lv_aload_n hx hb dX8_number_38 rfl (lv_at hl 0 rfl) ?_
        refine g_fi X hI hf fX8_10 q1454 rfl rfl dX8_number_39 (fun v105 hf => ?_)
        refine g_ai1 X hI hf dX8_number_42 (fun v106 hf => ?_)
        refine lv_iadd hx hb dX8_number_43 ?_
        refine lv_bipush (v := (48 : Int32)) hx hb dX8_number_44 (by decide) ?_
        refine lv_isub hx hb dX8_number_46 ?_
        refine lv_goto (tgt := 51) hx hb dX8_number_47 (by decide) ?_
        exact b_X8_number_51 X ih _ _ _ _ _ _ _ _ _ _ hf hI (lv_sub hl [0, 1, 2] rfl)
def f_X8_number (a0 : Nat) (x1 : Int32) (x2 : Int32) : gM Int32 :=
    gB (gCk a0 7) fun _ =>
    gB (f_X8_blanks a0) fun _ =>
    f_X8_number_6 gN a0 x1 x2 (0 : Int32)
set_option maxHeartbeats 4000000 in
set_option maxRecDepth 100000 in
theorem m_X8_number {G : gG} {l : Launch} (hfl : l.stackTraces = false) {a0 : Nat} {x1 : Int32} {x2 : Int32} {h h' : g_H} {r : Int32} (hf : (f_X8_number a0 x1 x2).1 h = some (r, h')) : gMet G l yX8_number (Cond.code yX8_number cX8_number 4 (some .int)) 3 62 [.ref a0, .int x1, .int x2] h (.inl (g_wI r)) h' := by
  refine g_head hfl ((f_X8_number a0 x1 x2).2 h r h' hf) (plainFor_of_name (by decide)) (Nat.le_of_ble_eq_true rfl) (fun p e s m below meth c H locs cells slots ls X hI hl9 => ?_)
  have hl : lv_has ls 4 [(0, .ref a0), (1, .int x1), (2, .int x2)] := hl9
  have hx := X.1
  have hb := X.2.1
  have hown := X.2.2.2.1
  have hts := X.2.2.2.2.1
  unfold f_X8_number at hf
  refine lv_aload_n hx hb dX8_number_0 rfl (lv_at hl 0 rfl) ?_
  obtain ⟨hs, hf⟩ := gCk_b hf
  refine g_cBU hI hf (fun v9 h9 e9 l9 l9' => g_rV X hI l9 l9' ⟨Nat.le_refl _, Nat.le_refl _⟩ (As := []) (m_X8_blanks X.2.2.2.2.2.2.2.2.2.2.1 e9) ydX8_blanks hs rfl rfl q1595 q1597 qs46 q131 q1598 rfl (Nat.le_of_ble_eq_true rfl) (Nat.le_of_ble_eq_true rfl) hl.1 rfl (Nat.le_of_ble_eq_true rfl) dX8_number_1) (fun r1 h H locs cells slots hf hI => ?_)
  refine lv_iconst (v := (0 : Int32)) hx hb dX8_number_4 (by decide) ?_
  refine lv_istore_n (lv' := [(3, .int (0 : Int32)), (0, .ref a0), (1, .int x1), (2, .int x2)]) hx hb dX8_number_5 rfl hl (by decide) rfl (fun ls hl => ?_)
  exact b_X8_number_6 X gN _ _ _ _ _ _ _ _ _ _ hf hI (lv_sub hl [1, 2, 3, 0] rfl)
/-! X8_after -/
abbrev w_X8_after_22 (G : gG) (l : Launch) (p : Program) (e : Env) (s : State) (m : MethodId) (args : Array Value) (below : List Frame) (meth : Method) (c : Code) (h0 : g_H) (r : Int32) (h' : g_H) (k : Int32 → gM Int32) : Prop := ∀ (u0 : Int32) (h : g_H) (H : Heap) (locs : List Loc) (cells slots : Nat) (ls : Array Slot), (k u0).1 h = some (r, h') → gI G h0 h H locs cells slots → lv_has ls 4 [] → W p l e (g_rm 6 128 h0 h') s m args below meth c H locs cells slots (gQ G below args s h0 h' (.inl (g_wI r))) (F0 m 22 ls [.int u0])
def f_X8_after_22 (u0 : Int32) : gM Int32 :=
    (gRet u0)
set_option maxHeartbeats 4000000 in
set_option maxRecDepth 100000 in
theorem b_X8_after_22 {G : gG} {l : Launch} {p : Program} {e : Env} {s : State} {m : MethodId} {args : Array Value} {below : List Frame} {meth : Method} {c : Code} {h0 : g_H} {r : Int32} {h' : g_H} (X : gX G l yX8_after.cls cX8_after 4 (some .int) [] yX8_after.name p s m args meth c) : w_X8_after_22 G l p e s m args below meth c h0 r h' (f_X8_after_22) := by
  have hx := X.1
  have hb := X.2.1
  have hown := X.2.2.2.1
  have hts := X.2.2.2.2.1
  intro u0 h H locs cells slots ls hf hI hl
  unfold f_X8_after_22 at hf
  cases gRet_e hf
  exact g_retI X hI rfl dX8_after_22
def f_X8_after (a0 : Nat) (a1 : Nat) (x2 : Int32) (x3 : Int32) : gM Int32 :=
    gB (gCk a0 7) fun _ =>
    gB (f_X8_letters a0) fun _ =>
    gB (gCk a0 7) fun _ =>
    gB (f_X8_isWord a0 a1) fun r2 =>
    gIf (r2 = 0)
    (f_X8_after_22 (-1 : Int32))
    (gB (gCk a0 7) fun _ =>
    gB (f_X8_number a0 x2 x3) fun r3 =>
    f_X8_after_22 r3)
set_option maxHeartbeats 4000000 in
set_option maxRecDepth 100000 in
theorem m_X8_after {G : gG} {l : Launch} (hfl : l.stackTraces = false) {a0 : Nat} {a1 : Nat} {x2 : Int32} {x3 : Int32} {h h' : g_H} {r : Int32} (hf : (f_X8_after a0 a1 x2 x3).1 h = some (r, h')) : gMet G l yX8_after (Cond.code yX8_after cX8_after 4 (some .int)) 6 128 [.ref a0, .ref a1, .int x2, .int x3] h (.inl (g_wI r)) h' := by
  refine g_head hfl ((f_X8_after a0 a1 x2 x3).2 h r h' hf) (plainFor_of_name (by decide)) (Nat.le_of_ble_eq_true rfl) (fun p e s m below meth c H locs cells slots ls X hI hl9 => ?_)
  have hl : lv_has ls 4 [(0, .ref a0), (1, .ref a1), (2, .int x2), (3, .int x3)] := hl9
  have hx := X.1
  have hb := X.2.1
  have hown := X.2.2.2.1
  have hts := X.2.2.2.2.1
  unfold f_X8_after at hf
  refine lv_aload_n hx hb dX8_after_0 rfl (lv_at hl 0 rfl) ?_
  obtain ⟨hs, hf⟩ := gCk_b hf
  refine g_cBU hI hf (fun v9 h9 e9 l9 l9' => g_rV X hI l9 l9' ⟨Nat.le_refl _, Nat.le_refl _⟩ (As := []) (m_X8_letters X.2.2.2.2.2.2.2.2.2.2.1 e9) ydX8_letters hs rfl rfl q1607 q1609 qs49 q131 q1610 rfl (Nat.le_of_ble_eq_true rfl) (Nat.le_of_ble_eq_true rfl) hl.1 rfl (Nat.le_of_ble_eq_true rfl) dX8_after_1) (fun r1 h H locs cells slots hf hI => ?_)
  refine lv_aload_n hx hb dX8_after_4 rfl (lv_at hl 0 rfl) ?_
  refine lv_aload_n hx hb dX8_after_5 rfl (lv_at hl 1 rfl) ?_
  obtain ⟨hs, hf⟩ := gCk_b hf
  refine g_cBI hI hf (fun v9 h9 e9 l9 l9' => g_rV X hI l9 l9' ⟨Nat.le_refl _, Nat.le_refl _⟩ (As := [.ref a1]) (m_X8_isWord X.2.2.2.2.2.2.2.2.2.2.1 e9) ydX8_isWord hs rfl rfl q1616 q1618 qs51 q131 q1619 rfl (Nat.le_of_ble_eq_true rfl) (Nat.le_of_ble_eq_true rfl) hl.1 rfl (Nat.le_of_ble_eq_true rfl) dX8_after_6) (fun r2 h H locs cells slots hf hI => ?_)
  refine lv_if_eq (tgt := 21) hx hb dX8_after_9 (by decide) (fun c9 => ?_) (fun c9 => ?_)
  · have hf := g_t c9 hf
    refine lv_iconst (v := (-1 : Int32)) hx hb dX8_after_21 (by decide) ?_
    exact b_X8_after_22 X _ _ _ _ _ _ _ hf hI (lv_sub hl [] rfl)
  · have hf := g_f c9 hf
    refine lv_aload_n hx hb dX8_after_12 rfl (lv_at hl 0 rfl) ?_
    refine lv_iload_n hx hb dX8_after_13 rfl (lv_at hl 2 rfl) ?_
    refine lv_iload_n hx hb dX8_after_14 rfl (lv_at hl 3 rfl) ?_
    obtain ⟨hs, hf⟩ := gCk_b hf
    refine g_cBI hI hf (fun v9 h9 e9 l9 l9' => g_rV X hI l9 l9' ⟨Nat.le_refl _, Nat.le_refl _⟩ (As := [.int x2, .int x3]) (m_X8_number X.2.2.2.2.2.2.2.2.2.2.1 e9) ydX8_number hs rfl rfl q1646 q1648 qs56 q131 q1649 rfl (Nat.le_of_ble_eq_true rfl) (Nat.le_of_ble_eq_true rfl) hl.1 rfl (Nat.le_of_ble_eq_true rfl) dX8_after_15) (fun r3 h H locs cells slots hf hI => ?_)
    refine lv_goto (tgt := 22) hx hb dX8_after_18 (by decide) ?_
    exact b_X8_after_22 X _ _ _ _ _ _ _ hf hI (lv_sub hl [] rfl)
/-! X8_passes -/
def f_X8_passes (a0 : Nat) (a1 : Nat) : gM Int32 :=
    gB (gCk a0 7) fun _ =>
    gB (f_X8_letters a0) fun _ =>
    gB (gCk a0 7) fun _ =>
    gB (f_X8_isWord a0 a1) fun r2 =>
    gIf (r2 = 0)
    (gB (gFI a0 7 12) fun v3 =>
    gB (gPI a0 7 10 v3) fun _ =>
    (gRet (0 : Int32)))
    ((gRet (1 : Int32)))
set_option maxHeartbeats 4000000 in
set_option maxRecDepth 100000 in
theorem m_X8_passes {G : gG} {l : Launch} (hfl : l.stackTraces = false) {a0 : Nat} {a1 : Nat} {h h' : g_H} {r : Int32} (hf : (f_X8_passes a0 a1).1 h = some (r, h')) : gMet G l yX8_passes (Cond.code yX8_passes cX8_passes 2 (some .boolean)) 6 128 [.ref a0, .ref a1] h (.inl (g_wI r)) h' := by
  refine g_head hfl ((f_X8_passes a0 a1).2 h r h' hf) (plainFor_of_name (by decide)) (Nat.le_of_ble_eq_true rfl) (fun p e s m below meth c H locs cells slots ls X hI hl9 => ?_)
  have hl : lv_has ls 2 [(0, .ref a0), (1, .ref a1)] := hl9
  have hx := X.1
  have hb := X.2.1
  have hown := X.2.2.2.1
  have hts := X.2.2.2.2.1
  unfold f_X8_passes at hf
  refine lv_aload_n hx hb dX8_passes_0 rfl (lv_at hl 0 rfl) ?_
  obtain ⟨hs, hf⟩ := gCk_b hf
  refine g_cBU hI hf (fun v9 h9 e9 l9 l9' => g_rV X hI l9 l9' ⟨Nat.le_refl _, Nat.le_refl _⟩ (As := []) (m_X8_letters X.2.2.2.2.2.2.2.2.2.2.1 e9) ydX8_letters hs rfl rfl q1607 q1609 qs49 q131 q1610 rfl (Nat.le_of_ble_eq_true rfl) (Nat.le_of_ble_eq_true rfl) hl.1 rfl (Nat.le_of_ble_eq_true rfl) dX8_passes_1) (fun r1 h H locs cells slots hf hI => ?_)
  refine lv_aload_n hx hb dX8_passes_4 rfl (lv_at hl 0 rfl) ?_
  refine lv_aload_n hx hb dX8_passes_5 rfl (lv_at hl 1 rfl) ?_
  obtain ⟨hs, hf⟩ := gCk_b hf
  refine g_cBI hI hf (fun v9 h9 e9 l9 l9' => g_rV X hI l9 l9' ⟨Nat.le_refl _, Nat.le_refl _⟩ (As := [.ref a1]) (m_X8_isWord X.2.2.2.2.2.2.2.2.2.2.1 e9) ydX8_isWord hs rfl rfl q1616 q1618 qs51 q131 q1619 rfl (Nat.le_of_ble_eq_true rfl) (Nat.le_of_ble_eq_true rfl) hl.1 rfl (Nat.le_of_ble_eq_true rfl) dX8_passes_6) (fun r2 h H locs cells slots hf hI => ?_)
  refine lv_if_eq (tgt := 14) hx hb dX8_passes_9 (by decide) (fun c9 => ?_) (fun c9 => ?_)
  · have hf := g_t c9 hf
    refine lv_aload_n hx hb dX8_passes_14 rfl (lv_at hl 0 rfl) ?_
    refine lv_aload_n hx hb dX8_passes_15 rfl (lv_at hl 0 rfl) ?_
    refine g_fi X hI hf fX8_12 q1456 rfl rfl dX8_passes_16 (fun v3 hf => ?_)
    refine g_pi X hI hf fX8_10 q1454 rfl dX8_passes_19 (fun h H locs hf hI => ?_)
    refine lv_iconst (v := (0 : Int32)) hx hb dX8_passes_22 (by decide) ?_
    cases gRet_e hf
    exact g_retZ X hI (Or.inl rfl) rfl dX8_passes_23
  · have hf := g_f c9 hf
    refine lv_iconst (v := (1 : Int32)) hx hb dX8_passes_12 (by decide) ?_
    cases gRet_e hf
    exact g_retZ X hI (Or.inr rfl) rfl dX8_passes_13
/-! J7_numberOfTrailingZeros -/
abbrev w_J7_numberOfTrailingZeros_74 (G : gG) (l : Launch) (p : Program) (e : Env) (s : State) (m : MethodId) (args : Array Value) (below : List Frame) (meth : Method) (c : Code) (h0 : g_H) (r : Int32) (h' : g_H) (k : Int32 → Int32 → gM Int32) : Prop := ∀ (x0 : Int32) (x1 : Int32) (h : g_H) (H : Heap) (locs : List Loc) (cells slots : Nat) (ls : Array Slot), (k x0 x1).1 h = some (r, h') → gI G h0 h H locs cells slots → lv_has ls 2 [(0, .int x0), (1, .int x1)] → W p l e (g_rm 1 20 h0 h') s m args below meth c H locs cells slots (gQ G below args s h0 h' (.inl (g_wI r))) (F0 m 74 ls [])
abbrev w_J7_numberOfTrailingZeros_62 (G : gG) (l : Launch) (p : Program) (e : Env) (s : State) (m : MethodId) (args : Array Value) (below : List Frame) (meth : Method) (c : Code) (h0 : g_H) (r : Int32) (h' : g_H) (k : Int32 → Int32 → gM Int32) : Prop := ∀ (x0 : Int32) (x1 : Int32) (h : g_H) (H : Heap) (locs : List Loc) (cells slots : Nat) (ls : Array Slot), (k x0 x1).1 h = some (r, h') → gI G h0 h H locs cells slots → lv_has ls 2 [(0, .int x0), (1, .int x1)] → W p l e (g_rm 1 20 h0 h') s m args below meth c H locs cells slots (gQ G below args s h0 h' (.inl (g_wI r))) (F0 m 62 ls [])
abbrev w_J7_numberOfTrailingZeros_49 (G : gG) (l : Launch) (p : Program) (e : Env) (s : State) (m : MethodId) (args : Array Value) (below : List Frame) (meth : Method) (c : Code) (h0 : g_H) (r : Int32) (h' : g_H) (k : Int32 → Int32 → gM Int32) : Prop := ∀ (x0 : Int32) (x1 : Int32) (h : g_H) (H : Heap) (locs : List Loc) (cells slots : Nat) (ls : Array Slot), (k x0 x1).1 h = some (r, h') → gI G h0 h H locs cells slots → lv_has ls 2 [(0, .int x0), (1, .int x1)] → W p l e (g_rm 1 20 h0 h') s m args below meth c H locs cells slots (gQ G below args s h0 h' (.inl (g_wI r))) (F0 m 49 ls [])
abbrev w_J7_numberOfTrailingZeros_34 (G : gG) (l : Launch) (p : Program) (e : Env) (s : State) (m : MethodId) (args : Array Value) (below : List Frame) (meth : Method) (c : Code) (h0 : g_H) (r : Int32) (h' : g_H) (k : Int32 → Int32 → gM Int32) : Prop := ∀ (x0 : Int32) (x1 : Int32) (h : g_H) (H : Heap) (locs : List Loc) (cells slots : Nat) (ls : Array Slot), (k x0 x1).1 h = some (r, h') → gI G h0 h H locs cells slots → lv_has ls 2 [(0, .int x0), (1, .int x1)] → W p l e (g_rm 1 20 h0 h') s m args below meth c H locs cells slots (gQ G below args s h0 h' (.inl (g_wI r))) (F0 m 34 ls [])
def f_J7_numberOfTrailingZeros_74 (x0 : Int32) (x1 : Int32) : gM Int32 :=
    (gRet (x1 + (((x0).toUInt32 >>> (((1 : Int32)).toUInt32 &&& Int32.toUInt32 31)).toInt32)))
set_option maxHeartbeats 4000000 in
set_option maxRecDepth 100000 in
theorem b_J7_numberOfTrailingZeros_74 {G : gG} {l : Launch} {p : Program} {e : Env} {s : State} {m : MethodId} {args : Array Value} {below : List Frame} {meth : Method} {c : Code} {h0 : g_H} {r : Int32} {h' : g_H} (X : gX G l yJ7_numberOfTrailingZeros.cls cJ7_numberOfTrailingZeros 2 (some .int) [] yJ7_numberOfTrailingZeros.name p s m args meth c) : w_J7_numberOfTrailingZeros_74 G l p e s m args below meth c h0 r h' (f_J7_numberOfTrailingZeros_74) := by
  have hx := X.1
  have hb := X.2.1
  have hown := X.2.2.2.1
  have hts := X.2.2.2.2.1
  intro x0 x1 h H locs cells slots ls hf hI hl
  unfold f_J7_numberOfTrailingZeros_74 at hf
  refine lv_iload_n hx hb dJ7_numberOfTrailingZeros_74 rfl (lv_at hl 1 rfl) ?_
  refine lv_iload_n hx hb dJ7_numberOfTrailingZeros_75 rfl (lv_at hl 0 rfl) ?_
  refine lv_iconst (v := (1 : Int32)) hx hb dJ7_numberOfTrailingZeros_76 (by decide) ?_
  refine lv_iushr hx hb dJ7_numberOfTrailingZeros_77 rfl ?_
  refine lv_iadd hx hb dJ7_numberOfTrailingZeros_78 ?_
  cases gRet_e hf
  exact g_retI X hI rfl dJ7_numberOfTrailingZeros_79
def f_J7_numberOfTrailingZeros_62 (x0 : Int32) (x1 : Int32) : gM Int32 :=
    gIf (x0 ≤ (4 : Int32))
    (f_J7_numberOfTrailingZeros_74 x0 x1)
    (gB (gRet (((x0).toUInt32 >>> (((2 : Int32)).toUInt32 &&& Int32.toUInt32 31)).toInt32)) fun v101 =>
    f_J7_numberOfTrailingZeros_74 v101 (x1 + (2 : Int32)))
set_option maxHeartbeats 4000000 in
set_option maxRecDepth 100000 in
theorem b_J7_numberOfTrailingZeros_62 {G : gG} {l : Launch} {p : Program} {e : Env} {s : State} {m : MethodId} {args : Array Value} {below : List Frame} {meth : Method} {c : Code} {h0 : g_H} {r : Int32} {h' : g_H} (X : gX G l yJ7_numberOfTrailingZeros.cls cJ7_numberOfTrailingZeros 2 (some .int) [] yJ7_numberOfTrailingZeros.name p s m args meth c) : w_J7_numberOfTrailingZeros_62 G l p e s m args below meth c h0 r h' (f_J7_numberOfTrailingZeros_62) := by
  have hx := X.1
  have hb := X.2.1
  have hown := X.2.2.2.1
  have hts := X.2.2.2.2.1
  intro x0 x1 h H locs cells slots ls hf hI hl
  unfold f_J7_numberOfTrailingZeros_62 at hf
  refine lv_iload_n hx hb dJ7_numberOfTrailingZeros_62 rfl (lv_at hl 0 rfl) ?_
  refine lv_iconst (v := (4 : Int32)) hx hb dJ7_numberOfTrailingZeros_63 (by decide) ?_
  refine lv_icmp_le (tgt := 74) hx hb dJ7_numberOfTrailingZeros_64 (by decide) (fun c64 => ?_) (fun c64 => ?_)
  · have hf := g_t c64 hf
    exact b_J7_numberOfTrailingZeros_74 X _ _ _ _ _ _ _ _ hf hI (lv_sub hl [0, 1] rfl)
  · have hf := g_f c64 hf
    refine lv_iinc (v := (x1 + (2 : Int32))) (lv' := [(1, .int (x1 + (2 : Int32))), (0, .int x0)]) hx hb dJ7_numberOfTrailingZeros_67 hl (k := 1) rfl rfl (by decide) rfl (fun ls hl => ?_)
    refine lv_iload_n hx hb dJ7_numberOfTrailingZeros_70 rfl (lv_at hl 1 rfl) ?_
    refine lv_iconst (v := (2 : Int32)) hx hb dJ7_numberOfTrailingZeros_71 (by decide) ?_
    refine lv_iushr hx hb dJ7_numberOfTrailingZeros_72 rfl ?_
    refine g_let hf (fun v101 hf => ?_)
    refine lv_istore_n (lv' := [(0, .int v101), (1, .int (x1 + (2 : Int32)))]) hx hb dJ7_numberOfTrailingZeros_73 rfl hl (by decide) rfl (fun ls hl => ?_)
    exact b_J7_numberOfTrailingZeros_74 X _ _ _ _ _ _ _ _ hf hI (lv_sub hl [0, 1] rfl)
def f_J7_numberOfTrailingZeros_49 (x0 : Int32) (x1 : Int32) : gM Int32 :=
    gIf (x0 ≤ (16 : Int32))
    (f_J7_numberOfTrailingZeros_62 x0 x1)
    (gB (gRet (((x0).toUInt32 >>> (((4 : Int32)).toUInt32 &&& Int32.toUInt32 31)).toInt32)) fun v101 =>
    f_J7_numberOfTrailingZeros_62 v101 (x1 + (4 : Int32)))
set_option maxHeartbeats 4000000 in
set_option maxRecDepth 100000 in
theorem b_J7_numberOfTrailingZeros_49 {G : gG} {l : Launch} {p : Program} {e : Env} {s : State} {m : MethodId} {args : Array Value} {below : List Frame} {meth : Method} {c : Code} {h0 : g_H} {r : Int32} {h' : g_H} (X : gX G l yJ7_numberOfTrailingZeros.cls cJ7_numberOfTrailingZeros 2 (some .int) [] yJ7_numberOfTrailingZeros.name p s m args meth c) : w_J7_numberOfTrailingZeros_49 G l p e s m args below meth c h0 r h' (f_J7_numberOfTrailingZeros_49) := by
  have hx := X.1
  have hb := X.2.1
  have hown := X.2.2.2.1
  have hts := X.2.2.2.2.1
  intro x0 x1 h H locs cells slots ls hf hI hl
  unfold f_J7_numberOfTrailingZeros_49 at hf
  refine lv_iload_n hx hb dJ7_numberOfTrailingZeros_49 rfl (lv_at hl 0 rfl) ?_
  refine lv_bipush (v := (16 : Int32)) hx hb dJ7_numberOfTrailingZeros_50 (by decide) ?_
  refine lv_icmp_le (tgt := 62) hx hb dJ7_numberOfTrailingZeros_52 (by decide) (fun c52 => ?_) (fun c52 => ?_)
  · have hf := g_t c52 hf
    exact b_J7_numberOfTrailingZeros_62 X _ _ _ _ _ _ _ _ hf hI (lv_sub hl [0, 1] rfl)
  · have hf := g_f c52 hf
    refine lv_iinc (v := (x1 + (4 : Int32))) (lv' := [(1, .int (x1 + (4 : Int32))), (0, .int x0)]) hx hb dJ7_numberOfTrailingZeros_55 hl (k := 1) rfl rfl (by decide) rfl (fun ls hl => ?_)
    refine lv_iload_n hx hb dJ7_numberOfTrailingZeros_58 rfl (lv_at hl 1 rfl) ?_
    refine lv_iconst (v := (4 : Int32)) hx hb dJ7_numberOfTrailingZeros_59 (by decide) ?_
    refine lv_iushr hx hb dJ7_numberOfTrailingZeros_60 rfl ?_
    refine g_let hf (fun v101 hf => ?_)
    refine lv_istore_n (lv' := [(0, .int v101), (1, .int (x1 + (4 : Int32)))]) hx hb dJ7_numberOfTrailingZeros_61 rfl hl (by decide) rfl (fun ls hl => ?_)
    exact b_J7_numberOfTrailingZeros_62 X _ _ _ _ _ _ _ _ hf hI (lv_sub hl [0, 1] rfl)
def f_J7_numberOfTrailingZeros_34 (x0 : Int32) (x1 : Int32) : gM Int32 :=
    gIf (x0 ≤ (256 : Int32))
    (f_J7_numberOfTrailingZeros_49 x0 x1)
    (gB (gRet (((x0).toUInt32 >>> (((8 : Int32)).toUInt32 &&& Int32.toUInt32 31)).toInt32)) fun v101 =>
    f_J7_numberOfTrailingZeros_49 v101 (x1 + (8 : Int32)))
set_option maxHeartbeats 4000000 in
set_option maxRecDepth 100000 in
theorem b_J7_numberOfTrailingZeros_34 {G : gG} {l : Launch} {p : Program} {e : Env} {s : State} {m : MethodId} {args : Array Value} {below : List Frame} {meth : Method} {c : Code} {h0 : g_H} {r : Int32} {h' : g_H} (X : gX G l yJ7_numberOfTrailingZeros.cls cJ7_numberOfTrailingZeros 2 (some .int) [] yJ7_numberOfTrailingZeros.name p s m args meth c) : w_J7_numberOfTrailingZeros_34 G l p e s m args below meth c h0 r h' (f_J7_numberOfTrailingZeros_34) := by
  have hx := X.1
  have hb := X.2.1
  have hown := X.2.2.2.1
  have hts := X.2.2.2.2.1
  intro x0 x1 h H locs cells slots ls hf hI hl
  unfold f_J7_numberOfTrailingZeros_34 at hf
  refine lv_iload_n hx hb dJ7_numberOfTrailingZeros_34 rfl (lv_at hl 0 rfl) ?_
  refine lv_sipush (v := (256 : Int32)) hx hb dJ7_numberOfTrailingZeros_35 (by decide) ?_
  refine lv_icmp_le (tgt := 49) hx hb dJ7_numberOfTrailingZeros_38 (by decide) (fun c38 => ?_) (fun c38 => ?_)
  · have hf := g_t c38 hf
    exact b_J7_numberOfTrailingZeros_49 X _ _ _ _ _ _ _ _ hf hI (lv_sub hl [0, 1] rfl)
  · have hf := g_f c38 hf
    refine lv_iinc (v := (x1 + (8 : Int32))) (lv' := [(1, .int (x1 + (8 : Int32))), (0, .int x0)]) hx hb dJ7_numberOfTrailingZeros_41 hl (k := 1) rfl rfl (by decide) rfl (fun ls hl => ?_)
    refine lv_iload_n hx hb dJ7_numberOfTrailingZeros_44 rfl (lv_at hl 1 rfl) ?_
    refine lv_bipush (v := (8 : Int32)) hx hb dJ7_numberOfTrailingZeros_45 (by decide) ?_
    refine lv_iushr hx hb dJ7_numberOfTrailingZeros_47 rfl ?_
    refine g_let hf (fun v101 hf => ?_)
    refine lv_istore_n (lv' := [(0, .int v101), (1, .int (x1 + (8 : Int32)))]) hx hb dJ7_numberOfTrailingZeros_48 rfl hl (by decide) rfl (fun ls hl => ?_)
    exact b_J7_numberOfTrailingZeros_49 X _ _ _ _ _ _ _ _ hf hI (lv_sub hl [0, 1] rfl)
def f_J7_numberOfTrailingZeros (x0 : Int32) : gM Int32 :=
    gB (gRet ((x0 ^^^ (-1 : Int32)) &&& (x0 - (1 : Int32)))) fun v1 =>
    gIf (0 < v1)
    (gIf (v1 ≤ (65536 : Int32))
    (f_J7_numberOfTrailingZeros_34 v1 (1 : Int32))
    (gB (gRet (((v1).toUInt32 >>> (((16 : Int32)).toUInt32 &&& Int32.toUInt32 31)).toInt32)) fun v2 =>
    f_J7_numberOfTrailingZeros_34 v2 ((1 : Int32) + (16 : Int32))))
    ((gRet (v1 &&& (32 : Int32))))
set_option maxHeartbeats 4000000 in
set_option maxRecDepth 100000 in
theorem m_J7_numberOfTrailingZeros {G : gG} {l : Launch} (hfl : l.stackTraces = false) {x0 : Int32} {h h' : g_H} {r : Int32} (hf : (f_J7_numberOfTrailingZeros x0).1 h = some (r, h')) : gMet G l yJ7_numberOfTrailingZeros (Cond.code yJ7_numberOfTrailingZeros cJ7_numberOfTrailingZeros 2 (some .int)) 1 20 [.int x0] h (.inl (g_wI r)) h' := by
  refine g_head hfl ((f_J7_numberOfTrailingZeros x0).2 h r h' hf) (plainFor_of_name (by decide)) (Nat.le_of_ble_eq_true rfl) (fun p e s m below meth c H locs cells slots ls X hI hl9 => ?_)
  have hl : lv_has ls 2 [(0, .int x0)] := hl9
  have hx := X.1
  have hb := X.2.1
  have hown := X.2.2.2.1
  have hts := X.2.2.2.2.1
  unfold f_J7_numberOfTrailingZeros at hf
  refine lv_iload_n hx hb dJ7_numberOfTrailingZeros_0 rfl (lv_at hl 0 rfl) ?_
  refine lv_iconst (v := (-1 : Int32)) hx hb dJ7_numberOfTrailingZeros_1 (by decide) ?_
  refine lv_ixor hx hb dJ7_numberOfTrailingZeros_2 ?_
  refine lv_iload_n hx hb dJ7_numberOfTrailingZeros_3 rfl (lv_at hl 0 rfl) ?_
  refine lv_iconst (v := (1 : Int32)) hx hb dJ7_numberOfTrailingZeros_4 (by decide) ?_
  refine lv_isub hx hb dJ7_numberOfTrailingZeros_5 ?_
  refine lv_iand hx hb dJ7_numberOfTrailingZeros_6 ?_
  refine g_let hf (fun v1 hf => ?_)
  refine lv_istore_n (lv' := [(0, .int v1)]) hx hb dJ7_numberOfTrailingZeros_7 rfl hl (by decide) rfl (fun ls hl => ?_)
  refine lv_iload_n hx hb dJ7_numberOfTrailingZeros_8 rfl (lv_at hl 0 rfl) ?_
  refine lv_if_gt (tgt := 17) hx hb dJ7_numberOfTrailingZeros_9 (by decide) (fun c9 => ?_) (fun c9 => ?_)
  · have hf := g_t c9 hf
    refine lv_iconst (v := (1 : Int32)) hx hb dJ7_numberOfTrailingZeros_17 (by decide) ?_
    refine lv_istore_n (lv' := [(1, .int (1 : Int32)), (0, .int v1)]) hx hb dJ7_numberOfTrailingZeros_18 rfl hl (by decide) rfl (fun ls hl => ?_)
    refine lv_iload_n hx hb dJ7_numberOfTrailingZeros_19 rfl (lv_at hl 1 rfl) ?_
    refine lv_ldcw (v := (65536 : Int32)) hx hb hown (hts _ q889) dJ7_numberOfTrailingZeros_20 ?_
    refine lv_icmp_le (tgt := 34) hx hb dJ7_numberOfTrailingZeros_23 (by decide) (fun c23 => ?_) (fun c23 => ?_)
    · have hf := g_t c23 hf
      exact b_J7_numberOfTrailingZeros_34 X _ _ _ _ _ _ _ _ hf hI (lv_sub hl [1, 0] rfl)
    · have hf := g_f c23 hf
      refine lv_iinc (v := ((1 : Int32) + (16 : Int32))) (lv' := [(1, .int ((1 : Int32) + (16 : Int32))), (0, .int v1)]) hx hb dJ7_numberOfTrailingZeros_26 hl (k := 0) rfl rfl (by decide) rfl (fun ls hl => ?_)
      refine lv_iload_n hx hb dJ7_numberOfTrailingZeros_29 rfl (lv_at hl 1 rfl) ?_
      refine lv_bipush (v := (16 : Int32)) hx hb dJ7_numberOfTrailingZeros_30 (by decide) ?_
      refine lv_iushr hx hb dJ7_numberOfTrailingZeros_32 rfl ?_
      refine g_let hf (fun v2 hf => ?_)
      refine lv_istore_n (lv' := [(0, .int v2), (1, .int ((1 : Int32) + (16 : Int32)))]) hx hb dJ7_numberOfTrailingZeros_33 rfl hl (by decide) rfl (fun ls hl => ?_)
      exact b_J7_numberOfTrailingZeros_34 X _ _ _ _ _ _ _ _ hf hI (lv_sub hl [0, 1] rfl)
  · have hf := g_f c9 hf
    refine lv_iload_n hx hb dJ7_numberOfTrailingZeros_12 rfl (lv_at hl 0 rfl) ?_
    refine lv_bipush (v := (32 : Int32)) hx hb dJ7_numberOfTrailingZeros_13 (by decide) ?_
    refine lv_iand hx hb dJ7_numberOfTrailingZeros_15 ?_
    cases gRet_e hf
    exact g_retI X hI rfl dJ7_numberOfTrailingZeros_16
/-! X8_readProp -/
abbrev w_X8_readProp_30 (G : gG) (l : Launch) (p : Program) (e : Env) (s : State) (m : MethodId) (args : Array Value) (below : List Frame) (meth : Method) (c : Code) (h0 : g_H) (r : Int32) (h' : g_H) (k : gM Int32) : Prop := ∀ (h : g_H) (H : Heap) (locs : List Loc) (cells slots : Nat) (ls : Array Slot), (k).1 h = some (r, h') → gI G h0 h H locs cells slots → lv_has ls 6 [] → W p l e (g_rm 7 151 h0 h') s m args below meth c H locs cells slots (gQ G below args s h0 h' (.inl (g_wI r))) (F0 m 30 ls [])
abbrev w_X8_readProp_84 (G : gG) (l : Launch) (p : Program) (e : Env) (s : State) (m : MethodId) (args : Array Value) (below : List Frame) (meth : Method) (c : Code) (h0 : g_H) (r : Int32) (h' : g_H) (k : gM Int32) : Prop := ∀ (h : g_H) (H : Heap) (locs : List Loc) (cells slots : Nat) (ls : Array Slot), (k).1 h = some (r, h') → gI G h0 h H locs cells slots → lv_has ls 6 [] → W p l e (g_rm 7 151 h0 h') s m args below meth c H locs cells slots (gQ G below args s h0 h' (.inl (g_wI r))) (F0 m 84 ls [])
abbrev w_X8_readProp_106 (G : gG) (l : Launch) (p : Program) (e : Env) (s : State) (m : MethodId) (args : Array Value) (below : List Frame) (meth : Method) (c : Code) (h0 : g_H) (r : Int32) (h' : g_H) (k : Nat → Int32 → Int32 → Int32 → Int32 → Int32 → gM Int32) : Prop := ∀ (a0 : Nat) (x1 : Int32) (x2 : Int32) (x3 : Int32) (x4 : Int32) (u0 : Int32) (h : g_H) (H : Heap) (locs : List Loc) (cells slots : Nat) (ls : Array Slot), (k a0 x1 x2 x3 x4 u0).1 h = some (r, h') → gI G h0 h H locs cells slots → lv_has ls 6 [(0, .ref a0), (1, .int x1), (2, .int x2), (3, .int x3), (4, .int x4)] → W p l e (g_rm 7 151 h0 h') s m args below meth c H locs cells slots (gQ G below args s h0 h' (.inl (g_wI r))) (F0 m 106 ls [.int u0])
abbrev w_X8_readProp_86 (G : gG) (l : Launch) (p : Program) (e : Env) (s : State) (m : MethodId) (args : Array Value) (below : List Frame) (meth : Method) (c : Code) (h0 : g_H) (r : Int32) (h' : g_H) (k : Nat → Int32 → Int32 → Int32 → Int32 → gM Int32) : Prop := ∀ (a0 : Nat) (x1 : Int32) (x2 : Int32) (x3 : Int32) (x4 : Int32) (h : g_H) (H : Heap) (locs : List Loc) (cells slots : Nat) (ls : Array Slot), (k a0 x1 x2 x3 x4).1 h = some (r, h') → gI G h0 h H locs cells slots → lv_has ls 6 [(0, .ref a0), (1, .int x1), (2, .int x2), (3, .int x3), (4, .int x4)] → W p l e (g_rm 7 151 h0 h') s m args below meth c H locs cells slots (gQ G below args s h0 h' (.inl (g_wI r))) (F0 m 86 ls [])
def f_X8_readProp_30 : gM Int32 :=
    (gRet (0 : Int32))
set_option maxHeartbeats 4000000 in
set_option maxRecDepth 100000 in
theorem b_X8_readProp_30 {G : gG} {l : Launch} {p : Program} {e : Env} {s : State} {m : MethodId} {args : Array Value} {below : List Frame} {meth : Method} {c : Code} {h0 : g_H} {r : Int32} {h' : g_H} (X : gX G l yX8_readProp.cls cX8_readProp 6 (some .boolean) [] yX8_readProp.name p s m args meth c) : w_X8_readProp_30 G l p e s m args below meth c h0 r h' (f_X8_readProp_30) := by
  have hx := X.1
  have hb := X.2.1
  have hown := X.2.2.2.1
  have hts := X.2.2.2.2.1
  intro h H locs cells slots ls hf hI hl
  unfold f_X8_readProp_30 at hf
  refine lv_iconst (v := (0 : Int32)) hx hb dX8_readProp_30 (by decide) ?_
  cases gRet_e hf
  exact g_retZ X hI (Or.inl rfl) rfl dX8_readProp_31
def f_X8_readProp_84 : gM Int32 :=
    (gRet (0 : Int32))
set_option maxHeartbeats 4000000 in
set_option maxRecDepth 100000 in
theorem b_X8_readProp_84 {G : gG} {l : Launch} {p : Program} {e : Env} {s : State} {m : MethodId} {args : Array Value} {below : List Frame} {meth : Method} {c : Code} {h0 : g_H} {r : Int32} {h' : g_H} (X : gX G l yX8_readProp.cls cX8_readProp 6 (some .boolean) [] yX8_readProp.name p s m args meth c) : w_X8_readProp_84 G l p e s m args below meth c h0 r h' (f_X8_readProp_84) := by
  have hx := X.1
  have hb := X.2.1
  have hown := X.2.2.2.1
  have hts := X.2.2.2.2.1
  intro h H locs cells slots ls hf hI hl
  unfold f_X8_readProp_84 at hf
  refine lv_iconst (v := (0 : Int32)) hx hb dX8_readProp_84 (by decide) ?_
  cases gRet_e hf
  exact g_retZ X hI (Or.inl rfl) rfl dX8_readProp_85
def f_X8_readProp_106 (a0 : Nat) (x1 : Int32) (x2 : Int32) (x3 : Int32) (x4 : Int32) (u0 : Int32) : gM Int32 :=
    gIf (0 ≤ u0)
    (gB (gFR a0 7 1) fun v101 =>
    gB (f_X8_propAt x1 (0 : Int32)) fun r102 =>
    gB (f_J7_numberOfTrailingZeros x2) fun r103 =>
    gB (gSI v101 0 r102 r103) fun _ =>
    gB (gFR a0 7 1) fun v104 =>
    gB (f_X8_propAt x1 (1 : Int32)) fun r105 =>
    gB (gSI v104 0 r105 x3) fun _ =>
    gB (gFR a0 7 1) fun v106 =>
    gB (f_X8_propAt x1 (2 : Int32)) fun r107 =>
    gB (gSI v106 0 r107 u0) fun _ =>
    gB (gFR a0 7 1) fun v108 =>
    gB (f_X8_propAt x1 (3 : Int32)) fun r109 =>
    gB (gSI v108 0 r109 x4) fun _ =>
    gB (gFR a0 7 1) fun v110 =>
    gB (gAI v110 0 (0 : Int32)) fun v111 =>
    gB (gSI v110 0 (0 : Int32) (v111 + (1 : Int32))) fun _ =>
    (gRet (1 : Int32)))
    ((gRet (0 : Int32)))
set_option maxHeartbeats 4000000 in
set_option maxRecDepth 100000 in
theorem b_X8_readProp_106 {G : gG} {l : Launch} {p : Program} {e : Env} {s : State} {m : MethodId} {args : Array Value} {below : List Frame} {meth : Method} {c : Code} {h0 : g_H} {r : Int32} {h' : g_H} (X : gX G l yX8_readProp.cls cX8_readProp 6 (some .boolean) [] yX8_readProp.name p s m args meth c) : w_X8_readProp_106 G l p e s m args below meth c h0 r h' (f_X8_readProp_106) := by
  have hx := X.1
  have hb := X.2.1
  have hown := X.2.2.2.1
  have hts := X.2.2.2.2.1
  intro a0 x1 x2 x3 x4 u0 h H locs cells slots ls hf hI hl
  unfold f_X8_readProp_106 at hf
  refine lv_istore (lv' := [(5, .int u0), (0, .ref a0), (1, .int x1), (2, .int x2), (3, .int x3), (4, .int x4)]) hx hb dX8_readProp_106 hl (by decide) rfl (fun ls hl => ?_)
  refine lv_iload hx hb dX8_readProp_108 (lv_at hl 0 rfl) ?_
  refine lv_if_ge (tgt := 115) hx hb dX8_readProp_110 (by decide) (fun c110 => ?_) (fun c110 => ?_)
  · have hf := g_t c110 hf
    refine lv_aload_n hx hb dX8_readProp_115 rfl (lv_at hl 1 rfl) ?_
    refine g_fr X hI hf fX8_1 q1445 rfl rfl dX8_readProp_116 (fun v101 hf => ?_)
    refine lv_iload_n hx hb dX8_readProp_119 rfl (lv_at hl 2 rfl) ?_
    refine lv_iconst (v := (0 : Int32)) hx hb dX8_readProp_120 (by decide) ?_
    refine g_cBI hI hf (fun v9 h9 e9 l9 l9' => g_rS (b := 0) X hI l9 l9' ⟨Nat.le_refl _, Nat.le_refl _⟩ (As := [.int x1, .int (0 : Int32)]) (m_X8_propAt X.2.2.2.2.2.2.2.2.2.2.1 e9) ydX8_propAt q1663 q1664 q131 q1665 rfl (Nat.le_of_ble_eq_true rfl) (Nat.le_of_ble_eq_true rfl) hl.1 rfl (Nat.le_of_ble_eq_true rfl) dX8_readProp_121) (fun r102 h H locs cells slots hf hI => ?_)
    refine lv_iload_n hx hb dX8_readProp_124 rfl (lv_at hl 3 rfl) ?_
    refine g_cBI hI hf (fun v9 h9 e9 l9 l9' => g_rS (b := 0) X hI l9 l9' ⟨Nat.le_refl _, Nat.le_refl _⟩ (As := [.int x2]) (m_J7_numberOfTrailingZeros X.2.2.2.2.2.2.2.2.2.2.1 e9) ydJ7_numberOfTrailingZeros q1667 q887 q137 q888 rfl (Nat.le_of_ble_eq_true rfl) (Nat.le_of_ble_eq_true rfl) hl.1 rfl (Nat.le_of_ble_eq_true rfl) dX8_readProp_125) (fun r103 h H locs cells slots hf hI => ?_)
    refine g_si0 X hI hf dX8_readProp_128 (fun h H locs hf hI => ?_)
    refine lv_aload_n hx hb dX8_readProp_129 rfl (lv_at hl 1 rfl) ?_
    refine g_fr X hI hf fX8_1 q1445 rfl rfl dX8_readProp_130 (fun v104 hf => ?_)
    refine lv_iload_n hx hb dX8_readProp_133 rfl (lv_at hl 2 rfl) ?_
    refine lv_iconst (v := (1 : Int32)) hx hb dX8_readProp_134 (by decide) ?_
    refine g_cBI hI hf (fun v9 h9 e9 l9 l9' => g_rS (b := 0) X hI l9 l9' ⟨Nat.le_refl _, Nat.le_refl _⟩ (As := [.int x1, .int (1 : Int32)]) (m_X8_propAt X.2.2.2.2.2.2.2.2.2.2.1 e9) ydX8_propAt q1663 q1664 q131 q1665 rfl (Nat.le_of_ble_eq_true rfl) (Nat.le_of_ble_eq_true rfl) hl.1 rfl (Nat.le_of_ble_eq_true rfl) dX8_readProp_135) (fun r105 h H locs cells slots hf hI => ?_)
    refine lv_iload_n hx hb dX8_readProp_138 rfl (lv_at hl 4 rfl) ?_
    refine g_si0 X hI hf dX8_readProp_139 (fun h H locs hf hI => ?_)
    refine lv_aload_n hx hb dX8_readProp_140 rfl (lv_at hl 1 rfl) ?_
    refine g_fr X hI hf fX8_1 q1445 rfl rfl dX8_readProp_141 (fun v106 hf => ?_)
    refine lv_iload_n hx hb dX8_readProp_144 rfl (lv_at hl 2 rfl) ?_
    refine lv_iconst (v := (2 : Int32)) hx hb dX8_readProp_145 (by decide) ?_
    refine g_cBI hI hf (fun v9 h9 e9 l9 l9' => g_rS (b := 0) X hI l9 l9' ⟨Nat.le_refl _, Nat.le_refl _⟩ (As := [.int x1, .int (2 : Int32)]) (m_X8_propAt X.2.2.2.2.2.2.2.2.2.2.1 e9) ydX8_propAt q1663 q1664 q131 q1665 rfl (Nat.le_of_ble_eq_true rfl) (Nat.le_of_ble_eq_true rfl) hl.1 rfl (Nat.le_of_ble_eq_true rfl) dX8_readProp_146) (fun r107 h H locs cells slots hf hI => ?_)
    refine lv_iload hx hb dX8_readProp_149 (lv_at hl 0 rfl) ?_
    refine g_si0 X hI hf dX8_readProp_151 (fun h H locs hf hI => ?_)
    refine lv_aload_n hx hb dX8_readProp_152 rfl (lv_at hl 1 rfl) ?_
    refine g_fr X hI hf fX8_1 q1445 rfl rfl dX8_readProp_153 (fun v108 hf => ?_)
    refine lv_iload_n hx hb dX8_readProp_156 rfl (lv_at hl 2 rfl) ?_
    refine lv_iconst (v := (3 : Int32)) hx hb dX8_readProp_157 (by decide) ?_
    refine g_cBI hI hf (fun v9 h9 e9 l9 l9' => g_rS (b := 0) X hI l9 l9' ⟨Nat.le_refl _, Nat.le_refl _⟩ (As := [.int x1, .int (3 : Int32)]) (m_X8_propAt X.2.2.2.2.2.2.2.2.2.2.1 e9) ydX8_propAt q1663 q1664 q131 q1665 rfl (Nat.le_of_ble_eq_true rfl) (Nat.le_of_ble_eq_true rfl) hl.1 rfl (Nat.le_of_ble_eq_true rfl) dX8_readProp_158) (fun r109 h H locs cells slots hf hI => ?_)
    refine lv_iload hx hb dX8_readProp_161 (lv_at hl 5 rfl) ?_
    refine g_si0 X hI hf dX8_readProp_163 (fun h H locs hf hI => ?_)
    refine lv_aload_n hx hb dX8_readProp_164 rfl (lv_at hl 1 rfl) ?_
    refine g_fr X hI hf fX8_1 q1445 rfl rfl dX8_readProp_165 (fun v110 hf => ?_)
    refine lv_iconst (v := (0 : Int32)) hx hb dX8_readProp_168 (by decide) ?_
    refine lv_dup2_11 hx hb dX8_readProp_169 rfl rfl ?_
    refine g_ai0 X hI hf dX8_readProp_170 (fun v111 hf => ?_)
    refine lv_iconst (v := (1 : Int32)) hx hb dX8_readProp_171 (by decide) ?_
    refine lv_iadd hx hb dX8_readProp_172 ?_
    refine g_si0 X hI hf dX8_readProp_173 (fun h H locs hf hI => ?_)
    refine lv_iconst (v := (1 : Int32)) hx hb dX8_readProp_174 (by decide) ?_
    cases gRet_e hf
    exact g_retZ X hI (Or.inr rfl) rfl dX8_readProp_175
  · have hf := g_f c110 hf
    refine lv_iconst (v := (0 : Int32)) hx hb dX8_readProp_113 (by decide) ?_
    cases gRet_e hf
    exact g_retZ X hI (Or.inl rfl) rfl dX8_readProp_114
def f_X8_readProp_86 (a0 : Nat) (x1 : Int32) (x2 : Int32) (x3 : Int32) (x4 : Int32) : gM Int32 :=
    gB (gTx 24) fun t101 =>
    gB (gCk a0 7) fun _ =>
    gB (f_X8_passes a0 t101) fun r102 =>
    gIf (r102 = 0)
    (f_X8_readProp_106 a0 x1 x2 x3 x4 (0 : Int32))
    (gB (gCk a0 7) fun _ =>
    gB (f_X8_number a0 (0 : Int32) (99 : Int32)) fun r103 =>
    f_X8_readProp_106 a0 x1 x2 x3 x4 r103)
set_option maxHeartbeats 4000000 in
set_option maxRecDepth 100000 in
theorem b_X8_readProp_86 {G : gG} {l : Launch} {p : Program} {e : Env} {s : State} {m : MethodId} {args : Array Value} {below : List Frame} {meth : Method} {c : Code} {h0 : g_H} {r : Int32} {h' : g_H} (X : gX G l yX8_readProp.cls cX8_readProp 6 (some .boolean) [] yX8_readProp.name p s m args meth c) : w_X8_readProp_86 G l p e s m args below meth c h0 r h' (f_X8_readProp_86) := by
  have hx := X.1
  have hb := X.2.1
  have hown := X.2.2.2.1
  have hts := X.2.2.2.2.1
  intro a0 x1 x2 x3 x4 h H locs cells slots ls hf hI hl
  unfold f_X8_readProp_86 at hf
  refine lv_aload_n hx hb dX8_readProp_86 rfl (lv_at hl 0 rfl) ?_
  refine g_ldcS (tx := "worn") X hI hf (List.mem_of_getElem? (i := 24) rfl) dX8_readProp_87 (fun t101 hf => ?_)
  obtain ⟨hs, hf⟩ := gCk_b hf
  refine g_cBI hI hf (fun v9 h9 e9 l9 l9' => g_rV X hI l9 l9' ⟨Nat.le_refl _, Nat.le_refl _⟩ (As := [.ref t101]) (m_X8_passes X.2.2.2.2.2.2.2.2.2.2.1 e9) ydX8_passes hs rfl rfl q1651 q1653 qs57 q131 q1654 rfl (Nat.le_of_ble_eq_true rfl) (Nat.le_of_ble_eq_true rfl) hl.1 rfl (Nat.le_of_ble_eq_true rfl) dX8_readProp_89) (fun r102 h H locs cells slots hf hI => ?_)
  refine lv_if_eq (tgt := 105) hx hb dX8_readProp_92 (by decide) (fun c92 => ?_) (fun c92 => ?_)
  · have hf := g_t c92 hf
    refine lv_iconst (v := (0 : Int32)) hx hb dX8_readProp_105 (by decide) ?_
    exact b_X8_readProp_106 X _ _ _ _ _ _ _ _ _ _ _ _ hf hI (lv_sub hl [0, 1, 2, 3, 4] rfl)
  · have hf := g_f c92 hf
    refine lv_aload_n hx hb dX8_readProp_95 rfl (lv_at hl 0 rfl) ?_
    refine lv_iconst (v := (0 : Int32)) hx hb dX8_readProp_96 (by decide) ?_
    refine lv_bipush (v := (99 : Int32)) hx hb dX8_readProp_97 (by decide) ?_
    obtain ⟨hs, hf⟩ := gCk_b hf
    refine g_cBI hI hf (fun v9 h9 e9 l9 l9' => g_rV X hI l9 l9' ⟨Nat.le_refl _, Nat.le_refl _⟩ (As := [.int (0 : Int32), .int (99 : Int32)]) (m_X8_number X.2.2.2.2.2.2.2.2.2.2.1 e9) ydX8_number hs rfl rfl q1646 q1648 qs56 q131 q1649 rfl (Nat.le_of_ble_eq_true rfl) (Nat.le_of_ble_eq_true rfl) hl.1 rfl (Nat.le_of_ble_eq_true rfl) dX8_readProp_99) (fun r103 h H locs cells slots hf hI => ?_)
    refine lv_goto (tgt := 106) hx hb dX8_readProp_102 (by decide) ?_
    exact b_X8_readProp_106 X _ _ _ _ _ _ _ _ _ _ _ _ hf hI (lv_sub hl [0, 1, 2, 3, 4] rfl)
def f_X8_readProp (a0 : Nat) : gM Int32 :=
    gB (gCk a0 7) fun _ =>
    gB (f_X8_props a0) fun r1 =>
    gIf (r1 = (8 : Int32))
    ((gRet (0 : Int32)))
    (gB (gCk a0 7) fun _ =>
    gB (f_X8_deedsTold a0) fun r2 =>
    gIf (r2 < 0)
    (f_X8_readProp_30)
    (gB (f_J7_bitCount r2) fun r3 =>
    gIf (r3 = (1 : Int32))
    (gB (gTx 22) fun t4 =>
    gB (gCk a0 7) fun _ =>
    gB (f_X8_after a0 t4 (0 : Int32) (20 : Int32)) fun r5 =>
    gIf (0 ≤ r5)
    (gB (gTx 23) fun t6 =>
    gB (gCk a0 7) fun _ =>
    gB (f_X8_passes a0 t6) fun r7 =>
    gIf (r7 = 0)
    (f_X8_readProp_86 a0 r1 r2 r5 (-1 : Int32))
    (gB (gCk a0 7) fun _ =>
    gB (f_X8_number a0 (0 : Int32) (9 : Int32)) fun r8 =>
    gIf (r8 < 0)
    (f_X8_readProp_84)
    (gB (gCk a0 7) fun _ =>
    gB (f_X8_propIn a0 r8) fun r9 =>
    gIf (r9 = (-1 : Int32))
    (f_X8_readProp_86 a0 r1 r2 r5 r8)
    (f_X8_readProp_84))))
    ((gRet (0 : Int32))))
    (f_X8_readProp_30)))
set_option maxHeartbeats 4000000 in
set_option maxRecDepth 100000 in
theorem m_X8_readProp {G : gG} {l : Launch} (hfl : l.stackTraces = false) {a0 : Nat} {h h' : g_H} {r : Int32} (hf : (f_X8_readProp a0).1 h = some (r, h')) : gMet G l yX8_readProp (Cond.code yX8_readProp cX8_readProp 6 (some .boolean)) 7 151 [.ref a0] h (.inl (g_wI r)) h' := by
  refine g_head hfl ((f_X8_readProp a0).2 h r h' hf) (plainFor_of_name (by decide)) (Nat.le_of_ble_eq_true rfl) (fun p e s m below meth c H locs cells slots ls X hI hl9 => ?_)
  have hl : lv_has ls 6 [(0, .ref a0)] := hl9
  have hx := X.1
  have hb := X.2.1
  have hown := X.2.2.2.1
  have hts := X.2.2.2.2.1
  unfold f_X8_readProp at hf
  refine lv_aload_n hx hb dX8_readProp_0 rfl (lv_at hl 0 rfl) ?_
  obtain ⟨hs, hf⟩ := gCk_b hf
  refine g_cBI hI hf (fun v9 h9 e9 l9 l9' => g_rV X hI l9 l9' ⟨Nat.le_refl _, Nat.le_refl _⟩ (As := []) (m_X8_props X.2.2.2.2.2.2.2.2.2.2.1 e9) ydX8_props hs rfl rfl q1626 q1628 qs53 q131 q1629 rfl (Nat.le_of_ble_eq_true rfl) (Nat.le_of_ble_eq_true rfl) hl.1 rfl (Nat.le_of_ble_eq_true rfl) dX8_readProp_1) (fun r1 h H locs cells slots hf hI => ?_)
  refine lv_istore_n (lv' := [(1, .int r1), (0, .ref a0)]) hx hb dX8_readProp_4 rfl hl (by decide) rfl (fun ls hl => ?_)
  refine lv_iload_n hx hb dX8_readProp_5 rfl (lv_at hl 0 rfl) ?_
  refine lv_bipush (v := (8 : Int32)) hx hb dX8_readProp_6 (by decide) ?_
  refine lv_icmp_ne (tgt := 13) hx hb dX8_readProp_8 (by decide) (fun c8 => ?_) (fun c8 => ?_)
  · have hf := g_f c8 hf
    refine lv_aload_n hx hb dX8_readProp_13 rfl (lv_at hl 1 rfl) ?_
    obtain ⟨hs, hf⟩ := gCk_b hf
    refine g_cBI hI hf (fun v9 h9 e9 l9 l9' => g_rV X hI l9 l9' ⟨Nat.le_refl _, Nat.le_refl _⟩ (As := []) (m_X8_deedsTold X.2.2.2.2.2.2.2.2.2.2.1 e9) ydX8_deedsTold hs rfl rfl q1630 q1632 qs54 q131 q1633 rfl (Nat.le_of_ble_eq_true rfl) (Nat.le_of_ble_eq_true rfl) hl.1 rfl (Nat.le_of_ble_eq_true rfl) dX8_readProp_14) (fun r2 h H locs cells slots hf hI => ?_)
    refine lv_istore_n (lv' := [(2, .int r2), (1, .int r1), (0, .ref a0)]) hx hb dX8_readProp_17 rfl hl (by decide) rfl (fun ls hl => ?_)
    refine lv_iload_n hx hb dX8_readProp_18 rfl (lv_at hl 0 rfl) ?_
    refine lv_if_lt (tgt := 30) hx hb dX8_readProp_19 (by decide) (fun c19 => ?_) (fun c19 => ?_)
    · have hf := g_t c19 hf
      exact b_X8_readProp_30 X _ _ _ _ _ _ hf hI (lv_sub hl [] rfl)
    · have hf := g_f c19 hf
      refine lv_iload_n hx hb dX8_readProp_22 rfl (lv_at hl 0 rfl) ?_
      refine g_cBI hI hf (fun v9 h9 e9 l9 l9' => g_rS (b := 0) X hI l9 l9' ⟨Nat.le_refl _, Nat.le_refl _⟩ (As := [.int r2]) (m_J7_bitCount X.2.2.2.2.2.2.2.2.2.2.1 e9) ydJ7_bitCount q1640 q659 q137 q660 rfl (Nat.le_of_ble_eq_true rfl) (Nat.le_of_ble_eq_true rfl) hl.1 rfl (Nat.le_of_ble_eq_true rfl) dX8_readProp_23) (fun r3 h H locs cells slots hf hI => ?_)
      refine lv_iconst (v := (1 : Int32)) hx hb dX8_readProp_26 (by decide) ?_
      refine lv_icmp_eq (tgt := 32) hx hb dX8_readProp_27 (by decide) (fun c27 => ?_) (fun c27 => ?_)
      · have hf := g_t c27 hf
        refine lv_aload_n hx hb dX8_readProp_32 rfl (lv_at hl 2 rfl) ?_
        refine g_ldcS (tx := "jerk") X hI hf (List.mem_of_getElem? (i := 22) rfl) dX8_readProp_33 (fun t4 hf => ?_)
        refine lv_iconst (v := (0 : Int32)) hx hb dX8_readProp_35 (by decide) ?_
        refine lv_bipush (v := (20 : Int32)) hx hb dX8_readProp_36 (by decide) ?_
        obtain ⟨hs, hf⟩ := gCk_b hf
        refine g_cBI hI hf (fun v9 h9 e9 l9 l9' => g_rV X hI l9 l9' ⟨Nat.le_refl _, Nat.le_refl _⟩ (As := [.ref t4, .int (0 : Int32), .int (20 : Int32)]) (m_X8_after X.2.2.2.2.2.2.2.2.2.2.1 e9) ydX8_after hs rfl rfl q1642 q1644 qs55 q131 q1645 rfl (Nat.le_of_ble_eq_true rfl) (Nat.le_of_ble_eq_true rfl) hl.1 rfl (Nat.le_of_ble_eq_true rfl) dX8_readProp_38) (fun r5 h H locs cells slots hf hI => ?_)
        refine lv_istore_n (lv' := [(3, .int r5), (2, .int r2), (1, .int r1), (0, .ref a0)]) hx hb dX8_readProp_41 rfl hl (by decide) rfl (fun ls hl => ?_)
        refine lv_iload_n hx hb dX8_readProp_42 rfl (lv_at hl 0 rfl) ?_
        refine lv_if_ge (tgt := 48) hx hb dX8_readProp_43 (by decide) (fun c43 => ?_) (fun c43 => ?_)
        · have hf := g_t c43 hf
          refine lv_iconst (v := (-1 : Int32)) hx hb dX8_readProp_48 (by decide) ?_
          refine lv_istore (lv' := [(4, .int (-1 : Int32)), (3, .int r5), (2, .int r2), (1, .int r1), (0, .ref a0)]) hx hb dX8_readProp_49 hl (by decide) rfl (fun ls hl => ?_)
          refine lv_aload_n hx hb dX8_readProp_51 rfl (lv_at hl 4 rfl) ?_
          refine g_ldcS (tx := "at") X hI hf (List.mem_of_getElem? (i := 23) rfl) dX8_readProp_52 (fun t6 hf => ?_)
          obtain ⟨hs, hf⟩ := gCk_b hf
          refine g_cBI hI hf (fun v9 h9 e9 l9 l9' => g_rV X hI l9 l9' ⟨Nat.le_refl _, Nat.le_refl _⟩ (As := [.ref t6]) (m_X8_passes X.2.2.2.2.2.2.2.2.2.2.1 e9) ydX8_passes hs rfl rfl q1651 q1653 qs57 q131 q1654 rfl (Nat.le_of_ble_eq_true rfl) (Nat.le_of_ble_eq_true rfl) hl.1 rfl (Nat.le_of_ble_eq_true rfl) dX8_readProp_54) (fun r7 h H locs cells slots hf hI => ?_)
          refine lv_if_eq (tgt := 86) hx hb dX8_readProp_57 (by decide) (fun c57 => ?_) (fun c57 => ?_)
          · have hf := g_t c57 hf
            exact b_X8_readProp_86 X _ _ _ _ _ _ _ _ _ _ _ hf hI (lv_sub hl [4, 3, 2, 1, 0] rfl)
          · have hf := g_f c57 hf
            refine lv_aload_n hx hb dX8_readProp_60 rfl (lv_at hl 4 rfl) ?_
            refine lv_iconst (v := (0 : Int32)) hx hb dX8_readProp_61 (by decide) ?_
            refine lv_bipush (v := (9 : Int32)) hx hb dX8_readProp_62 (by decide) ?_
            obtain ⟨hs, hf⟩ := gCk_b hf
            refine g_cBI hI hf (fun v9 h9 e9 l9 l9' => g_rV X hI l9 l9' ⟨Nat.le_refl _, Nat.le_refl _⟩ (As := [.int (0 : Int32), .int (9 : Int32)]) (m_X8_number X.2.2.2.2.2.2.2.2.2.2.1 e9) ydX8_number hs rfl rfl q1646 q1648 qs56 q131 q1649 rfl (Nat.le_of_ble_eq_true rfl) (Nat.le_of_ble_eq_true rfl) hl.1 rfl (Nat.le_of_ble_eq_true rfl) dX8_readProp_64) (fun r8 h H locs cells slots hf hI => ?_)
            refine lv_istore (lv' := [(4, .int r8), (3, .int r5), (2, .int r2), (1, .int r1), (0, .ref a0)]) hx hb dX8_readProp_67 hl (by decide) rfl (fun ls hl => ?_)
            refine lv_iload hx hb dX8_readProp_69 (lv_at hl 0 rfl) ?_
            refine lv_if_lt (tgt := 84) hx hb dX8_readProp_71 (by decide) (fun c71 => ?_) (fun c71 => ?_)
            · have hf := g_t c71 hf
              exact b_X8_readProp_84 X _ _ _ _ _ _ hf hI (lv_sub hl [] rfl)
            · have hf := g_f c71 hf
              refine lv_aload_n hx hb dX8_readProp_74 rfl (lv_at hl 4 rfl) ?_
              refine lv_iload hx hb dX8_readProp_75 (lv_at hl 0 rfl) ?_
              obtain ⟨hs, hf⟩ := gCk_b hf
              refine g_cBI hI hf (fun v9 h9 e9 l9 l9' => g_rV X hI l9 l9' ⟨Nat.le_refl _, Nat.le_refl _⟩ (As := [.int r8]) (m_X8_propIn X.2.2.2.2.2.2.2.2.2.2.1 e9) ydX8_propIn hs rfl rfl q1655 q1657 qs58 q131 q1658 rfl (Nat.le_of_ble_eq_true rfl) (Nat.le_of_ble_eq_true rfl) hl.1 rfl (Nat.le_of_ble_eq_true rfl) dX8_readProp_77) (fun r9 h H locs cells slots hf hI => ?_)
              refine lv_iconst (v := (-1 : Int32)) hx hb dX8_readProp_80 (by decide) ?_
              refine lv_icmp_eq (tgt := 86) hx hb dX8_readProp_81 (by decide) (fun c81 => ?_) (fun c81 => ?_)
              · have hf := g_t c81 hf
                exact b_X8_readProp_86 X _ _ _ _ _ _ _ _ _ _ _ hf hI (lv_sub hl [4, 3, 2, 1, 0] rfl)
              · have hf := g_f c81 hf
                exact b_X8_readProp_84 X _ _ _ _ _ _ hf hI (lv_sub hl [] rfl)
        · have hf := g_f c43 hf
          refine lv_iconst (v := (0 : Int32)) hx hb dX8_readProp_46 (by decide) ?_
          cases gRet_e hf
          exact g_retZ X hI (Or.inl rfl) rfl dX8_readProp_47
      · have hf := g_f c27 hf
        exact b_X8_readProp_30 X _ _ _ _ _ _ hf hI (lv_sub hl [] rfl)
  · have hf := g_t c8 hf
    refine lv_iconst (v := (0 : Int32)) hx hb dX8_readProp_11 (by decide) ?_
    cases gRet_e hf
    exact g_retZ X hI (Or.inl rfl) rfl dX8_readProp_12
/-! X8_readAccused -/
abbrev w_X8_readAccused_91 (G : gG) (l : Launch) (p : Program) (e : Env) (s : State) (m : MethodId) (args : Array Value) (below : List Frame) (meth : Method) (c : Code) (h0 : g_H) (r : Int32) (h' : g_H) (k : Nat → Int32 → Int32 → Int32 → Int32 → gM Int32) : Prop := ∀ (a0 : Nat) (x1 : Int32) (x2 : Int32) (x3 : Int32) (x4 : Int32) (h : g_H) (H : Heap) (locs : List Loc) (cells slots : Nat) (ls : Array Slot), (k a0 x1 x2 x3 x4).1 h = some (r, h') → gI G h0 h H locs cells slots → lv_has ls 6 [(0, .ref a0), (1, .int x1), (2, .int x2), (3, .int x3), (4, .int x4)] → W p l e (g_rm 7 151 h0 h') s m args below meth c H locs cells slots (gQ G below args s h0 h' (.inl (g_wI r))) (F0 m 91 ls [])
abbrev w_X8_readAccused_46 (G : gG) (l : Launch) (p : Program) (e : Env) (s : State) (m : MethodId) (args : Array Value) (below : List Frame) (meth : Method) (c : Code) (h0 : g_H) (r : Int32) (h' : g_H) (k : Nat → Int32 → Int32 → Int32 → gM Int32) : Prop := ∀ (a0 : Nat) (x1 : Int32) (x2 : Int32) (u0 : Int32) (h : g_H) (H : Heap) (locs : List Loc) (cells slots : Nat) (ls : Array Slot), (k a0 x1 x2 u0).1 h = some (r, h') → gI G h0 h H locs cells slots → lv_has ls 6 [(0, .ref a0), (1, .int x1), (2, .int x2)] → W p l e (g_rm 7 151 h0 h') s m args below meth c H locs cells slots (gQ G below args s h0 h' (.inl (g_wI r))) (F0 m 46 ls [.int u0])
def f_X8_readAccused_91 (a0 : Nat) (x1 : Int32) (x2 : Int32) (x3 : Int32) (x4 : Int32) : gM Int32 :=
    gB (gFR a0 7 1) fun v101 =>
    gB (f_X8_oneAt x1 (0 : Int32)) fun r102 =>
    gB (gSI v101 0 r102 x3) fun _ =>
    gB (gFR a0 7 1) fun v103 =>
    gB (f_X8_oneAt x1 (1 : Int32)) fun r104 =>
    gB (gSI v103 0 r104 x2) fun _ =>
    gB (gFR a0 7 1) fun v105 =>
    gB (f_X8_oneAt x1 (2 : Int32)) fun r106 =>
    gB (gSI v105 0 r106 x4) fun _ =>
    gB (gFR a0 7 1) fun v107 =>
    gB (f_X8_oneAt x1 (3 : Int32)) fun r108 =>
    gB (gSI v107 0 r108 (0 : Int32)) fun _ =>
    gB (gFR a0 7 1) fun v109 =>
    gB (gAI v109 0 (1 : Int32)) fun v110 =>
    gB (gSI v109 0 (1 : Int32) (v110 + (1 : Int32))) fun _ =>
    (gRet (1 : Int32))
set_option maxHeartbeats 4000000 in
set_option maxRecDepth 100000 in
theorem b_X8_readAccused_91 {G : gG} {l : Launch} {p : Program} {e : Env} {s : State} {m : MethodId} {args : Array Value} {below : List Frame} {meth : Method} {c : Code} {h0 : g_H} {r : Int32} {h' : g_H} (X : gX G l yX8_readAccused.cls cX8_readAccused 6 (some .boolean) [] yX8_readAccused.name p s m args meth c) : w_X8_readAccused_91 G l p e s m args below meth c h0 r h' (f_X8_readAccused_91) := by
  have hx := X.1
  have hb := X.2.1
  have hown := X.2.2.2.1
  have hts := X.2.2.2.2.1
  intro a0 x1 x2 x3 x4 h H locs cells slots ls hf hI hl
  unfold f_X8_readAccused_91 at hf
  refine lv_aload_n hx hb dX8_readAccused_91 rfl (lv_at hl 0 rfl) ?_
  refine g_fr X hI hf fX8_1 q1445 rfl rfl dX8_readAccused_92 (fun v101 hf => ?_)
  refine lv_iload_n hx hb dX8_readAccused_95 rfl (lv_at hl 1 rfl) ?_
  refine lv_iconst (v := (0 : Int32)) hx hb dX8_readAccused_96 (by decide) ?_
  refine g_cBI hI hf (fun v9 h9 e9 l9 l9' => g_rS (b := 0) X hI l9 l9' ⟨Nat.le_refl _, Nat.le_refl _⟩ (As := [.int x1, .int (0 : Int32)]) (m_X8_oneAt X.2.2.2.2.2.2.2.2.2.2.1 e9) ydX8_oneAt q1680 q1681 q131 q1682 rfl (Nat.le_of_ble_eq_true rfl) (Nat.le_of_ble_eq_true rfl) hl.1 rfl (Nat.le_of_ble_eq_true rfl) dX8_readAccused_97) (fun r102 h H locs cells slots hf hI => ?_)
  refine lv_iload_n hx hb dX8_readAccused_100 rfl (lv_at hl 3 rfl) ?_
  refine g_si0 X hI hf dX8_readAccused_101 (fun h H locs hf hI => ?_)
  refine lv_aload_n hx hb dX8_readAccused_102 rfl (lv_at hl 0 rfl) ?_
  refine g_fr X hI hf fX8_1 q1445 rfl rfl dX8_readAccused_103 (fun v103 hf => ?_)
  refine lv_iload_n hx hb dX8_readAccused_106 rfl (lv_at hl 1 rfl) ?_
  refine lv_iconst (v := (1 : Int32)) hx hb dX8_readAccused_107 (by decide) ?_
  refine g_cBI hI hf (fun v9 h9 e9 l9 l9' => g_rS (b := 0) X hI l9 l9' ⟨Nat.le_refl _, Nat.le_refl _⟩ (As := [.int x1, .int (1 : Int32)]) (m_X8_oneAt X.2.2.2.2.2.2.2.2.2.2.1 e9) ydX8_oneAt q1680 q1681 q131 q1682 rfl (Nat.le_of_ble_eq_true rfl) (Nat.le_of_ble_eq_true rfl) hl.1 rfl (Nat.le_of_ble_eq_true rfl) dX8_readAccused_108) (fun r104 h H locs cells slots hf hI => ?_)
  refine lv_iload_n hx hb dX8_readAccused_111 rfl (lv_at hl 2 rfl) ?_
  refine g_si0 X hI hf dX8_readAccused_112 (fun h H locs hf hI => ?_)
  refine lv_aload_n hx hb dX8_readAccused_113 rfl (lv_at hl 0 rfl) ?_
  refine g_fr X hI hf fX8_1 q1445 rfl rfl dX8_readAccused_114 (fun v105 hf => ?_)
  refine lv_iload_n hx hb dX8_readAccused_117 rfl (lv_at hl 1 rfl) ?_
  refine lv_iconst (v := (2 : Int32)) hx hb dX8_readAccused_118 (by decide) ?_
  refine g_cBI hI hf (fun v9 h9 e9 l9 l9' => g_rS (b := 0) X hI l9 l9' ⟨Nat.le_refl _, Nat.le_refl _⟩ (As := [.int x1, .int (2 : Int32)]) (m_X8_oneAt X.2.2.2.2.2.2.2.2.2.2.1 e9) ydX8_oneAt q1680 q1681 q131 q1682 rfl (Nat.le_of_ble_eq_true rfl) (Nat.le_of_ble_eq_true rfl) hl.1 rfl (Nat.le_of_ble_eq_true rfl) dX8_readAccused_119) (fun r106 h H locs cells slots hf hI => ?_)
  refine lv_iload hx hb dX8_readAccused_122 (lv_at hl 4 rfl) ?_
  refine g_si0 X hI hf dX8_readAccused_124 (fun h H locs hf hI => ?_)
  refine lv_aload_n hx hb dX8_readAccused_125 rfl (lv_at hl 0 rfl) ?_
  refine g_fr X hI hf fX8_1 q1445 rfl rfl dX8_readAccused_126 (fun v107 hf => ?_)
  refine lv_iload_n hx hb dX8_readAccused_129 rfl (lv_at hl 1 rfl) ?_
  refine lv_iconst (v := (3 : Int32)) hx hb dX8_readAccused_130 (by decide) ?_
  refine g_cBI hI hf (fun v9 h9 e9 l9 l9' => g_rS (b := 0) X hI l9 l9' ⟨Nat.le_refl _, Nat.le_refl _⟩ (As := [.int x1, .int (3 : Int32)]) (m_X8_oneAt X.2.2.2.2.2.2.2.2.2.2.1 e9) ydX8_oneAt q1680 q1681 q131 q1682 rfl (Nat.le_of_ble_eq_true rfl) (Nat.le_of_ble_eq_true rfl) hl.1 rfl (Nat.le_of_ble_eq_true rfl) dX8_readAccused_131) (fun r108 h H locs cells slots hf hI => ?_)
  refine lv_iconst (v := (0 : Int32)) hx hb dX8_readAccused_134 (by decide) ?_
  refine g_si0 X hI hf dX8_readAccused_135 (fun h H locs hf hI => ?_)
  refine lv_aload_n hx hb dX8_readAccused_136 rfl (lv_at hl 0 rfl) ?_
  refine g_fr X hI hf fX8_1 q1445 rfl rfl dX8_readAccused_137 (fun v109 hf => ?_)
  refine lv_iconst (v := (1 : Int32)) hx hb dX8_readAccused_140 (by decide) ?_
  refine lv_dup2_11 hx hb dX8_readAccused_141 rfl rfl ?_
  refine g_ai0 X hI hf dX8_readAccused_142 (fun v110 hf => ?_)
  refine lv_iconst (v := (1 : Int32)) hx hb dX8_readAccused_143 (by decide) ?_
  refine lv_iadd hx hb dX8_readAccused_144 ?_
  refine g_si0 X hI hf dX8_readAccused_145 (fun h H locs hf hI => ?_)
  refine lv_iconst (v := (1 : Int32)) hx hb dX8_readAccused_146 (by decide) ?_
  cases gRet_e hf
  exact g_retZ X hI (Or.inr rfl) rfl dX8_readAccused_147
def f_X8_readAccused_46 (a0 : Nat) (x1 : Int32) (x2 : Int32) (u0 : Int32) : gM Int32 :=
    gIf (0 ≤ u0)
    (gB (gTx 28) fun t101 =>
    gB (gCk a0 7) fun _ =>
    gB (f_X8_passes a0 t101) fun r102 =>
    gIf (r102 = 0)
    (f_X8_readAccused_91 a0 x1 x2 u0 (0 : Int32))
    (gB (gCk a0 7) fun _ =>
    gB (f_X8_props a0) fun r103 =>
    gB (gCk a0 7) fun _ =>
    gB (f_X8_number a0 (0 : Int32) (r103 - (1 : Int32))) fun r104 =>
    gIf (0 ≤ r104)
    (gB (gRet ((1 : Int32) <<< (r104 &&& 31))) fun v105 =>
    f_X8_readAccused_91 a0 x1 x2 u0 v105)
    ((gRet (0 : Int32)))))
    ((gRet (0 : Int32)))
set_option maxHeartbeats 4000000 in
set_option maxRecDepth 100000 in
theorem b_X8_readAccused_46 {G : gG} {l : Launch} {p : Program} {e : Env} {s : State} {m : MethodId} {args : Array Value} {below : List Frame} {meth : Method} {c : Code} {h0 : g_H} {r : Int32} {h' : g_H} (X : gX G l yX8_readAccused.cls cX8_readAccused 6 (some .boolean) [] yX8_readAccused.name p s m args meth c) : w_X8_readAccused_46 G l p e s m args below meth c h0 r h' (f_X8_readAccused_46) := by
  have hx := X.1
  have hb := X.2.1
  have hown := X.2.2.2.1
  have hts := X.2.2.2.2.1
  intro a0 x1 x2 u0 h H locs cells slots ls hf hI hl
  unfold f_X8_readAccused_46 at hf
  refine lv_istore_n (lv' := [(3, .int u0), (0, .ref a0), (1, .int x1), (2, .int x2)]) hx hb dX8_readAccused_46 rfl hl (by decide) rfl (fun ls hl => ?_)
  refine lv_iload_n hx hb dX8_readAccused_47 rfl (lv_at hl 0 rfl) ?_
  refine lv_if_ge (tgt := 53) hx hb dX8_readAccused_48 (by decide) (fun c48 => ?_) (fun c48 => ?_)
  · have hf := g_t c48 hf
    refine lv_iconst (v := (0 : Int32)) hx hb dX8_readAccused_53 (by decide) ?_
    refine lv_istore (lv' := [(4, .int (0 : Int32)), (3, .int u0), (0, .ref a0), (1, .int x1), (2, .int x2)]) hx hb dX8_readAccused_54 hl (by decide) rfl (fun ls hl => ?_)
    refine lv_aload_n hx hb dX8_readAccused_56 rfl (lv_at hl 2 rfl) ?_
    refine g_ldcS (tx := "knows") X hI hf (List.mem_of_getElem? (i := 28) rfl) dX8_readAccused_57 (fun t101 hf => ?_)
    obtain ⟨hs, hf⟩ := gCk_b hf
    refine g_cBI hI hf (fun v9 h9 e9 l9 l9' => g_rV X hI l9 l9' ⟨Nat.le_refl _, Nat.le_refl _⟩ (As := [.ref t101]) (m_X8_passes X.2.2.2.2.2.2.2.2.2.2.1 e9) ydX8_passes hs rfl rfl q1651 q1653 qs57 q131 q1654 rfl (Nat.le_of_ble_eq_true rfl) (Nat.le_of_ble_eq_true rfl) hl.1 rfl (Nat.le_of_ble_eq_true rfl) dX8_readAccused_59) (fun r102 h H locs cells slots hf hI => ?_)
    refine lv_if_eq (tgt := 91) hx hb dX8_readAccused_62 (by decide) (fun c62 => ?_) (fun c62 => ?_)
    · have hf := g_t c62 hf
      exact b_X8_readAccused_91 X _ _ _ _ _ _ _ _ _ _ _ hf hI (lv_sub hl [2, 3, 4, 1, 0] rfl)
    · have hf := g_f c62 hf
      refine lv_aload_n hx hb dX8_readAccused_65 rfl (lv_at hl 2 rfl) ?_
      refine lv_iconst (v := (0 : Int32)) hx hb dX8_readAccused_66 (by decide) ?_
      refine lv_aload_n hx hb dX8_readAccused_67 rfl (lv_at hl 2 rfl) ?_
      obtain ⟨hs, hf⟩ := gCk_b hf
      refine g_cBI hI hf (fun v9 h9 e9 l9 l9' => g_rV X hI l9 l9' ⟨Nat.le_refl _, Nat.le_refl _⟩ (As := []) (m_X8_props X.2.2.2.2.2.2.2.2.2.2.1 e9) ydX8_props hs rfl rfl q1626 q1628 qs53 q131 q1629 rfl (Nat.le_of_ble_eq_true rfl) (Nat.le_of_ble_eq_true rfl) hl.1 rfl (Nat.le_of_ble_eq_true rfl) dX8_readAccused_68) (fun r103 h H locs cells slots hf hI => ?_)
      refine lv_iconst (v := (1 : Int32)) hx hb dX8_readAccused_71 (by decide) ?_
      refine lv_isub hx hb dX8_readAccused_72 ?_
      obtain ⟨hs, hf⟩ := gCk_b hf
      refine g_cBI hI hf (fun v9 h9 e9 l9 l9' => g_rV X hI l9 l9' ⟨Nat.le_refl _, Nat.le_refl _⟩ (As := [.int (0 : Int32), .int (r103 - (1 : Int32))]) (m_X8_number X.2.2.2.2.2.2.2.2.2.2.1 e9) ydX8_number hs rfl rfl q1646 q1648 qs56 q131 q1649 rfl (Nat.le_of_ble_eq_true rfl) (Nat.le_of_ble_eq_true rfl) hl.1 rfl (Nat.le_of_ble_eq_true rfl) dX8_readAccused_73) (fun r104 h H locs cells slots hf hI => ?_)
      refine lv_istore (lv' := [(5, .int r104), (4, .int (0 : Int32)), (3, .int u0), (0, .ref a0), (1, .int x1), (2, .int x2)]) hx hb dX8_readAccused_76 hl (by decide) rfl (fun ls hl => ?_)
      refine lv_iload hx hb dX8_readAccused_78 (lv_at hl 0 rfl) ?_
      refine lv_if_ge (tgt := 85) hx hb dX8_readAccused_80 (by decide) (fun c80 => ?_) (fun c80 => ?_)
      · have hf := g_t c80 hf
        refine lv_iconst (v := (1 : Int32)) hx hb dX8_readAccused_85 (by decide) ?_
        refine lv_iload hx hb dX8_readAccused_86 (lv_at hl 0 rfl) ?_
        refine lv_ishl hx hb dX8_readAccused_88 ?_
        refine g_let hf (fun v105 hf => ?_)
        refine lv_istore (lv' := [(4, .int v105), (5, .int r104), (3, .int u0), (0, .ref a0), (1, .int x1), (2, .int x2)]) hx hb dX8_readAccused_89 hl (by decide) rfl (fun ls hl => ?_)
        exact b_X8_readAccused_91 X _ _ _ _ _ _ _ _ _ _ _ hf hI (lv_sub hl [3, 4, 5, 2, 0] rfl)
      · have hf := g_f c80 hf
        refine lv_iconst (v := (0 : Int32)) hx hb dX8_readAccused_83 (by decide) ?_
        cases gRet_e hf
        exact g_retZ X hI (Or.inl rfl) rfl dX8_readAccused_84
  · have hf := g_f c48 hf
    refine lv_iconst (v := (0 : Int32)) hx hb dX8_readAccused_51 (by decide) ?_
    cases gRet_e hf
    exact g_retZ X hI (Or.inl rfl) rfl dX8_readAccused_52
def f_X8_readAccused (a0 : Nat) : gM Int32 :=
    gB (gCk a0 7) fun _ =>
    gB (f_X8_oneCount a0) fun r1 =>
    gIf (r1 = (6 : Int32))
    ((gRet (0 : Int32)))
    (gB (gTx 26) fun t2 =>
    gB (gCk a0 7) fun _ =>
    gB (f_X8_after a0 t2 (1 : Int32) (60 : Int32)) fun r3 =>
    gIf (0 ≤ r3)
    (gB (gTx 27) fun t4 =>
    gB (gCk a0 7) fun _ =>
    gB (f_X8_passes a0 t4) fun r5 =>
    gIf (r5 = 0)
    (f_X8_readAccused_46 a0 r1 r3 (0 : Int32))
    (gB (gCk a0 7) fun _ =>
    gB (f_X8_deedsTold a0) fun r6 =>
    f_X8_readAccused_46 a0 r1 r3 r6))
    ((gRet (0 : Int32))))
set_option maxHeartbeats 4000000 in
set_option maxRecDepth 100000 in
theorem m_X8_readAccused {G : gG} {l : Launch} (hfl : l.stackTraces = false) {a0 : Nat} {h h' : g_H} {r : Int32} (hf : (f_X8_readAccused a0).1 h = some (r, h')) : gMet G l yX8_readAccused (Cond.code yX8_readAccused cX8_readAccused 6 (some .boolean)) 7 151 [.ref a0] h (.inl (g_wI r)) h' := by
  refine g_head hfl ((f_X8_readAccused a0).2 h r h' hf) (plainFor_of_name (by decide)) (Nat.le_of_ble_eq_true rfl) (fun p e s m below meth c H locs cells slots ls X hI hl9 => ?_)
  have hl : lv_has ls 6 [(0, .ref a0)] := hl9
  have hx := X.1
  have hb := X.2.1
  have hown := X.2.2.2.1
  have hts := X.2.2.2.2.1
  unfold f_X8_readAccused at hf
  refine lv_aload_n hx hb dX8_readAccused_0 rfl (lv_at hl 0 rfl) ?_
  obtain ⟨hs, hf⟩ := gCk_b hf
  refine g_cBI hI hf (fun v9 h9 e9 l9 l9' => g_rV X hI l9 l9' ⟨Nat.le_refl _, Nat.le_refl _⟩ (As := []) (m_X8_oneCount X.2.2.2.2.2.2.2.2.2.2.1 e9) ydX8_oneCount hs rfl rfl q1673 q1675 qs61 q131 q1676 rfl (Nat.le_of_ble_eq_true rfl) (Nat.le_of_ble_eq_true rfl) hl.1 rfl (Nat.le_of_ble_eq_true rfl) dX8_readAccused_1) (fun r1 h H locs cells slots hf hI => ?_)
  refine lv_istore_n (lv' := [(1, .int r1), (0, .ref a0)]) hx hb dX8_readAccused_4 rfl hl (by decide) rfl (fun ls hl => ?_)
  refine lv_iload_n hx hb dX8_readAccused_5 rfl (lv_at hl 0 rfl) ?_
  refine lv_bipush (v := (6 : Int32)) hx hb dX8_readAccused_6 (by decide) ?_
  refine lv_icmp_ne (tgt := 13) hx hb dX8_readAccused_8 (by decide) (fun c8 => ?_) (fun c8 => ?_)
  · have hf := g_f c8 hf
    refine lv_aload_n hx hb dX8_readAccused_13 rfl (lv_at hl 1 rfl) ?_
    refine g_ldcS (tx := "nerve") X hI hf (List.mem_of_getElem? (i := 26) rfl) dX8_readAccused_14 (fun t2 hf => ?_)
    refine lv_iconst (v := (1 : Int32)) hx hb dX8_readAccused_16 (by decide) ?_
    refine lv_bipush (v := (60 : Int32)) hx hb dX8_readAccused_17 (by decide) ?_
    obtain ⟨hs, hf⟩ := gCk_b hf
    refine g_cBI hI hf (fun v9 h9 e9 l9 l9' => g_rV X hI l9 l9' ⟨Nat.le_refl _, Nat.le_refl _⟩ (As := [.ref t2, .int (1 : Int32), .int (60 : Int32)]) (m_X8_after X.2.2.2.2.2.2.2.2.2.2.1 e9) ydX8_after hs rfl rfl q1642 q1644 qs55 q131 q1645 rfl (Nat.le_of_ble_eq_true rfl) (Nat.le_of_ble_eq_true rfl) hl.1 rfl (Nat.le_of_ble_eq_true rfl) dX8_readAccused_19) (fun r3 h H locs cells slots hf hI => ?_)
    refine lv_istore_n (lv' := [(2, .int r3), (1, .int r1), (0, .ref a0)]) hx hb dX8_readAccused_22 rfl hl (by decide) rfl (fun ls hl => ?_)
    refine lv_iload_n hx hb dX8_readAccused_23 rfl (lv_at hl 0 rfl) ?_
    refine lv_if_ge (tgt := 29) hx hb dX8_readAccused_24 (by decide) (fun c24 => ?_) (fun c24 => ?_)
    · have hf := g_t c24 hf
      refine lv_aload_n hx hb dX8_readAccused_29 rfl (lv_at hl 2 rfl) ?_
      refine g_ldcS (tx := "did") X hI hf (List.mem_of_getElem? (i := 27) rfl) dX8_readAccused_30 (fun t4 hf => ?_)
      obtain ⟨hs, hf⟩ := gCk_b hf
      refine g_cBI hI hf (fun v9 h9 e9 l9 l9' => g_rV X hI l9 l9' ⟨Nat.le_refl _, Nat.le_refl _⟩ (As := [.ref t4]) (m_X8_passes X.2.2.2.2.2.2.2.2.2.2.1 e9) ydX8_passes hs rfl rfl q1651 q1653 qs57 q131 q1654 rfl (Nat.le_of_ble_eq_true rfl) (Nat.le_of_ble_eq_true rfl) hl.1 rfl (Nat.le_of_ble_eq_true rfl) dX8_readAccused_32) (fun r5 h H locs cells slots hf hI => ?_)
      refine lv_if_eq (tgt := 45) hx hb dX8_readAccused_35 (by decide) (fun c35 => ?_) (fun c35 => ?_)
      · have hf := g_t c35 hf
        refine lv_iconst (v := (0 : Int32)) hx hb dX8_readAccused_45 (by decide) ?_
        exact b_X8_readAccused_46 X _ _ _ _ _ _ _ _ _ _ hf hI (lv_sub hl [2, 1, 0] rfl)
      · have hf := g_f c35 hf
        refine lv_aload_n hx hb dX8_readAccused_38 rfl (lv_at hl 2 rfl) ?_
        obtain ⟨hs, hf⟩ := gCk_b hf
        refine g_cBI hI hf (fun v9 h9 e9 l9 l9' => g_rV X hI l9 l9' ⟨Nat.le_refl _, Nat.le_refl _⟩ (As := []) (m_X8_deedsTold X.2.2.2.2.2.2.2.2.2.2.1 e9) ydX8_deedsTold hs rfl rfl q1630 q1632 qs54 q131 q1633 rfl (Nat.le_of_ble_eq_true rfl) (Nat.le_of_ble_eq_true rfl) hl.1 rfl (Nat.le_of_ble_eq_true rfl) dX8_readAccused_39) (fun r6 h H locs cells slots hf hI => ?_)
        refine lv_goto (tgt := 46) hx hb dX8_readAccused_42 (by decide) ?_
        exact b_X8_readAccused_46 X _ _ _ _ _ _ _ _ _ _ hf hI (lv_sub hl [2, 1, 0] rfl)
    · have hf := g_f c24 hf
      refine lv_iconst (v := (0 : Int32)) hx hb dX8_readAccused_27 (by decide) ?_
      cases gRet_e hf
      exact g_retZ X hI (Or.inl rfl) rfl dX8_readAccused_28
  · have hf := g_t c8 hf
    refine lv_iconst (v := (0 : Int32)) hx hb dX8_readAccused_11 (by decide) ?_
    cases gRet_e hf
    exact g_retZ X hI (Or.inl rfl) rfl dX8_readAccused_12
/-! X8_readNumber -/
abbrev w_X8_readNumber_40 (G : gG) (l : Launch) (p : Program) (e : Env) (s : State) (m : MethodId) (args : Array Value) (below : List Frame) (meth : Method) (c : Code) (h0 : g_H) (r : Int32) (h' : g_H) (k : Int32 → gM Int32) : Prop := ∀ (u0 : Int32) (h : g_H) (H : Heap) (locs : List Loc) (cells slots : Nat) (ls : Array Slot), (k u0).1 h = some (r, h') → gI G h0 h H locs cells slots → lv_has ls 5 [] → W p l e (g_rm 4 85 h0 h') s m args below meth c H locs cells slots (gQ G below args s h0 h' (.inl (g_wI r))) (F0 m 40 ls [.int u0])
abbrev w_X8_readNumber_29 (G : gG) (l : Launch) (p : Program) (e : Env) (s : State) (m : MethodId) (args : Array Value) (below : List Frame) (meth : Method) (c : Code) (h0 : g_H) (r : Int32) (h' : g_H) (k : Int32 → Nat → Int32 → Int32 → gM Int32) : Prop := ∀ (x4 : Int32) (b0 : Nat) (u1 : Int32) (u2 : Int32) (h : g_H) (H : Heap) (locs : List Loc) (cells slots : Nat) (ls : Array Slot), (k x4 b0 u1 u2).1 h = some (r, h') → gI G h0 h H locs cells slots → lv_has ls 5 [(4, .int x4)] → W p l e (g_rm 4 85 h0 h') s m args below meth c H locs cells slots (gQ G below args s h0 h' (.inl (g_wI r))) (F0 m 29 ls [.int u2, .int u1, .ref b0])
def f_X8_readNumber_40 (u0 : Int32) : gM Int32 :=
    gB (gGd (u0 = 0 ∨ u0 = 1)) fun _ =>
    (gRet u0)
set_option maxHeartbeats 4000000 in
set_option maxRecDepth 100000 in
theorem b_X8_readNumber_40 {G : gG} {l : Launch} {p : Program} {e : Env} {s : State} {m : MethodId} {args : Array Value} {below : List Frame} {meth : Method} {c : Code} {h0 : g_H} {r : Int32} {h' : g_H} (X : gX G l yX8_readNumber.cls cX8_readNumber 5 (some .boolean) [] yX8_readNumber.name p s m args meth c) : w_X8_readNumber_40 G l p e s m args below meth c h0 r h' (f_X8_readNumber_40) := by
  have hx := X.1
  have hb := X.2.1
  have hown := X.2.2.2.1
  have hts := X.2.2.2.2.1
  intro u0 h H locs cells slots ls hf hI hl
  unfold f_X8_readNumber_40 at hf
  obtain ⟨hz, hf⟩ := gB_gd hf
  cases gRet_e hf
  exact g_retZ X hI hz rfl dX8_readNumber_40
def f_X8_readNumber_29 (x4 : Int32) (b0 : Nat) (u1 : Int32) (u2 : Int32) : gM Int32 :=
    gB (gSI b0 0 u1 u2) fun _ =>
    gIf (x4 < 0)
    (f_X8_readNumber_40 (0 : Int32))
    (f_X8_readNumber_40 (1 : Int32))
set_option maxHeartbeats 4000000 in
set_option maxRecDepth 100000 in
theorem b_X8_readNumber_29 {G : gG} {l : Launch} {p : Program} {e : Env} {s : State} {m : MethodId} {args : Array Value} {below : List Frame} {meth : Method} {c : Code} {h0 : g_H} {r : Int32} {h' : g_H} (X : gX G l yX8_readNumber.cls cX8_readNumber 5 (some .boolean) [] yX8_readNumber.name p s m args meth c) : w_X8_readNumber_29 G l p e s m args below meth c h0 r h' (f_X8_readNumber_29) := by
  have hx := X.1
  have hb := X.2.1
  have hown := X.2.2.2.1
  have hts := X.2.2.2.2.1
  intro x4 b0 u1 u2 h H locs cells slots ls hf hI hl
  unfold f_X8_readNumber_29 at hf
  refine g_si0 X hI hf dX8_readNumber_29 (fun h H locs hf hI => ?_)
  refine lv_iload hx hb dX8_readNumber_30 (lv_at hl 0 rfl) ?_
  refine lv_if_lt (tgt := 39) hx hb dX8_readNumber_32 (by decide) (fun c32 => ?_) (fun c32 => ?_)
  · have hf := g_t c32 hf
    refine lv_iconst (v := (0 : Int32)) hx hb dX8_readNumber_39 (by decide) ?_
    exact b_X8_readNumber_40 X _ _ _ _ _ _ _ hf hI (lv_sub hl [] rfl)
  · have hf := g_f c32 hf
    refine lv_iconst (v := (1 : Int32)) hx hb dX8_readNumber_35 (by decide) ?_
    refine lv_goto (tgt := 40) hx hb dX8_readNumber_36 (by decide) ?_
    exact b_X8_readNumber_40 X _ _ _ _ _ _ _ hf hI (lv_sub hl [] rfl)
def f_X8_readNumber (a0 : Nat) (x1 : Int32) (x2 : Int32) (x3 : Int32) : gM Int32 :=
    gB (gCk a0 7) fun _ =>
    gB (f_X8_number a0 x2 x3) fun r1 =>
    gB (gFR a0 7 1) fun v2 =>
    gIf (0 ≤ r1)
    (f_X8_readNumber_29 r1 v2 x1 r1)
    (gB (gFR a0 7 1) fun v3 =>
    gB (gAI v3 0 x1) fun v4 =>
    f_X8_readNumber_29 r1 v2 x1 v4)
set_option maxHeartbeats 4000000 in
set_option maxRecDepth 100000 in
theorem m_X8_readNumber {G : gG} {l : Launch} (hfl : l.stackTraces = false) {a0 : Nat} {x1 : Int32} {x2 : Int32} {x3 : Int32} {h h' : g_H} {r : Int32} (hf : (f_X8_readNumber a0 x1 x2 x3).1 h = some (r, h')) : gMet G l yX8_readNumber (Cond.code yX8_readNumber cX8_readNumber 5 (some .boolean)) 4 85 [.ref a0, .int x1, .int x2, .int x3] h (.inl (g_wI r)) h' := by
  refine g_head hfl ((f_X8_readNumber a0 x1 x2 x3).2 h r h' hf) (plainFor_of_name (by decide)) (Nat.le_of_ble_eq_true rfl) (fun p e s m below meth c H locs cells slots ls X hI hl9 => ?_)
  have hl : lv_has ls 5 [(0, .ref a0), (1, .int x1), (2, .int x2), (3, .int x3)] := hl9
  have hx := X.1
  have hb := X.2.1
  have hown := X.2.2.2.1
  have hts := X.2.2.2.2.1
  unfold f_X8_readNumber at hf
  refine lv_aload_n hx hb dX8_readNumber_0 rfl (lv_at hl 0 rfl) ?_
  refine lv_iload_n hx hb dX8_readNumber_1 rfl (lv_at hl 2 rfl) ?_
  refine lv_iload_n hx hb dX8_readNumber_2 rfl (lv_at hl 3 rfl) ?_
  obtain ⟨hs, hf⟩ := gCk_b hf
  refine g_cBI hI hf (fun v9 h9 e9 l9 l9' => g_rV X hI l9 l9' ⟨Nat.le_refl _, Nat.le_refl _⟩ (As := [.int x2, .int x3]) (m_X8_number X.2.2.2.2.2.2.2.2.2.2.1 e9) ydX8_number hs rfl rfl q1646 q1648 qs56 q131 q1649 rfl (Nat.le_of_ble_eq_true rfl) (Nat.le_of_ble_eq_true rfl) hl.1 rfl (Nat.le_of_ble_eq_true rfl) dX8_readNumber_3) (fun r1 h H locs cells slots hf hI => ?_)
  refine lv_istore (lv' := [(4, .int r1), (0, .ref a0), (1, .int x1), (2, .int x2), (3, .int x3)]) hx hb dX8_readNumber_6 hl (by decide) rfl (fun ls hl => ?_)
  refine lv_aload_n hx hb dX8_readNumber_8 rfl (lv_at hl 1 rfl) ?_
  refine g_fr X hI hf fX8_1 q1445 rfl rfl dX8_readNumber_9 (fun v2 hf => ?_)
  refine lv_iload_n hx hb dX8_readNumber_12 rfl (lv_at hl 2 rfl) ?_
  refine lv_iload hx hb dX8_readNumber_13 (lv_at hl 0 rfl) ?_
  refine lv_if_ge (tgt := 27) hx hb dX8_readNumber_15 (by decide) (fun c15 => ?_) (fun c15 => ?_)
  · have hf := g_t c15 hf
    refine lv_iload hx hb dX8_readNumber_27 (lv_at hl 0 rfl) ?_
    exact b_X8_readNumber_29 X _ _ _ _ _ _ _ _ _ _ hf hI (lv_sub hl [0] rfl)
  · have hf := g_f c15 hf
    refine lv_aload_n hx hb dX8_readNumber_18 rfl (lv_at hl 1 rfl) ?_
    refine g_fr X hI hf fX8_1 q1445 rfl rfl dX8_readNumber_19 (fun v3 hf => ?_)
    refine lv_iload_n hx hb dX8_readNumber_22 rfl (lv_at hl 2 rfl) ?_
    refine g_ai0 X hI hf dX8_readNumber_23 (fun v4 hf => ?_)
    refine lv_goto (tgt := 29) hx hb dX8_readNumber_24 (by decide) ?_
    exact b_X8_readNumber_29 X _ _ _ _ _ _ _ _ _ _ hf hI (lv_sub hl [0] rfl)
/-! X8_readCourtLine -/
abbrev w_X8_readCourtLine_91 (G : gG) (l : Launch) (p : Program) (e : Env) (s : State) (m : MethodId) (args : Array Value) (below : List Frame) (meth : Method) (c : Code) (h0 : g_H) (r : Int32) (h' : g_H) (k : Int32 → gM Int32) : Prop := ∀ (u0 : Int32) (h : g_H) (H : Heap) (locs : List Loc) (cells slots : Nat) (ls : Array Slot), (k u0).1 h = some (r, h') → gI G h0 h H locs cells slots → lv_has ls 1 [] → W p l e (g_rm 8 176 h0 h') s m args below meth c H locs cells slots (gQ G below args s h0 h' (.inl (g_wI r))) (F0 m 91 ls [.int u0])
abbrev w_X8_readCourtLine_90 (G : gG) (l : Launch) (p : Program) (e : Env) (s : State) (m : MethodId) (args : Array Value) (below : List Frame) (meth : Method) (c : Code) (h0 : g_H) (r : Int32) (h' : g_H) (k : gM Int32) : Prop := ∀ (h : g_H) (H : Heap) (locs : List Loc) (cells slots : Nat) (ls : Array Slot), (k).1 h = some (r, h') → gI G h0 h H locs cells slots → lv_has ls 1 [] → W p l e (g_rm 8 176 h0 h') s m args below meth c H locs cells slots (gQ G below args s h0 h' (.inl (g_wI r))) (F0 m 90 ls [])
def f_X8_readCourtLine_91 (u0 : Int32) : gM Int32 :=
    gB (gGd (u0 = 0 ∨ u0 = 1)) fun _ =>
    (gRet u0)
set_option maxHeartbeats 4000000 in
set_option maxRecDepth 100000 in
theorem b_X8_readCourtLine_91 {G : gG} {l : Launch} {p : Program} {e : Env} {s : State} {m : MethodId} {args : Array Value} {below : List Frame} {meth : Method} {c : Code} {h0 : g_H} {r : Int32} {h' : g_H} (X : gX G l yX8_readCourtLine.cls cX8_readCourtLine 1 (some .boolean) [] yX8_readCourtLine.name p s m args meth c) : w_X8_readCourtLine_91 G l p e s m args below meth c h0 r h' (f_X8_readCourtLine_91) := by
  have hx := X.1
  have hb := X.2.1
  have hown := X.2.2.2.1
  have hts := X.2.2.2.2.1
  intro u0 h H locs cells slots ls hf hI hl
  unfold f_X8_readCourtLine_91 at hf
  obtain ⟨hz, hf⟩ := gB_gd hf
  cases gRet_e hf
  exact g_retZ X hI hz rfl dX8_readCourtLine_91
def f_X8_readCourtLine_90 : gM Int32 :=
    f_X8_readCourtLine_91 (0 : Int32)
set_option maxHeartbeats 4000000 in
set_option maxRecDepth 100000 in
theorem b_X8_readCourtLine_90 {G : gG} {l : Launch} {p : Program} {e : Env} {s : State} {m : MethodId} {args : Array Value} {below : List Frame} {meth : Method} {c : Code} {h0 : g_H} {r : Int32} {h' : g_H} (X : gX G l yX8_readCourtLine.cls cX8_readCourtLine 1 (some .boolean) [] yX8_readCourtLine.name p s m args meth c) : w_X8_readCourtLine_90 G l p e s m args below meth c h0 r h' (f_X8_readCourtLine_90) := by
  have hx := X.1
  have hb := X.2.1
  have hown := X.2.2.2.1
  have hts := X.2.2.2.2.1
  intro h H locs cells slots ls hf hI hl
  unfold f_X8_readCourtLine_90 at hf
  refine lv_iconst (v := (0 : Int32)) hx hb dX8_readCourtLine_90 (by decide) ?_
  exact b_X8_readCourtLine_91 X _ _ _ _ _ _ _ hf hI (lv_sub hl [] rfl)
def f_X8_readCourtLine (a0 : Nat) : gM Int32 :=
    gB (gTx 21) fun t1 =>
    gB (gCk a0 7) fun _ =>
    gB (f_X8_isWord a0 t1) fun r2 =>
    gIf (r2 = 0)
    (gB (gTx 25) fun t3 =>
    gB (gCk a0 7) fun _ =>
    gB (f_X8_isWord a0 t3) fun r4 =>
    gIf (r4 = 0)
    (gB (gTx 29) fun t5 =>
    gB (gCk a0 7) fun _ =>
    gB (f_X8_isWord a0 t5) fun r6 =>
    gIf (r6 = 0)
    (gB (gTx 30) fun t7 =>
    gB (gCk a0 7) fun _ =>
    gB (f_X8_isWord a0 t7) fun r8 =>
    gIf (r8 = 0)
    (gB (gTx 31) fun t9 =>
    gB (gCk a0 7) fun _ =>
    gB (f_X8_isWord a0 t9) fun r10 =>
    gIf (r10 = 0)
    (f_X8_readCourtLine_90)
    (gB (gCk a0 7) fun _ =>
    gB (f_X8_readNumber a0 (4 : Int32) (0 : Int32) (999 : Int32)) fun r11 =>
    gIf (r11 = 0)
    (f_X8_readCourtLine_90)
    (f_X8_readCourtLine_91 (1 : Int32))))
    (gB (gCk a0 7) fun _ =>
    gB (f_X8_readNumber a0 (6 : Int32) (0 : Int32) (20 : Int32)) fun r12 =>
    gB (gGd (r12 = 0 ∨ r12 = 1)) fun _ =>
    (gRet r12)))
    (gB (gCk a0 7) fun _ =>
    gB (f_X8_readNumber a0 (5 : Int32) (0 : Int32) (9 : Int32)) fun r13 =>
    gB (gGd (r13 = 0 ∨ r13 = 1)) fun _ =>
    (gRet r13)))
    (gB (gCk a0 7) fun _ =>
    gB (f_X8_readAccused a0) fun r14 =>
    gB (gGd (r14 = 0 ∨ r14 = 1)) fun _ =>
    (gRet r14)))
    (gB (gCk a0 7) fun _ =>
    gB (f_X8_readProp a0) fun r15 =>
    gB (gGd (r15 = 0 ∨ r15 = 1)) fun _ =>
    (gRet r15))
set_option maxHeartbeats 4000000 in
set_option maxRecDepth 100000 in
theorem m_X8_readCourtLine {G : gG} {l : Launch} (hfl : l.stackTraces = false) {a0 : Nat} {h h' : g_H} {r : Int32} (hf : (f_X8_readCourtLine a0).1 h = some (r, h')) : gMet G l yX8_readCourtLine (Cond.code yX8_readCourtLine cX8_readCourtLine 1 (some .boolean)) 8 176 [.ref a0] h (.inl (g_wI r)) h' := by
  refine g_head hfl ((f_X8_readCourtLine a0).2 h r h' hf) (plainFor_of_name (by decide)) (Nat.le_of_ble_eq_true rfl) (fun p e s m below meth c H locs cells slots ls X hI hl9 => ?_)
  have hl : lv_has ls 1 [(0, .ref a0)] := hl9
  have hx := X.1
  have hb := X.2.1
  have hown := X.2.2.2.1
  have hts := X.2.2.2.2.1
  unfold f_X8_readCourtLine at hf
  refine lv_aload_n hx hb dX8_readCourtLine_0 rfl (lv_at hl 0 rfl) ?_
  refine g_ldcS (tx := "prop") X hI hf (List.mem_of_getElem? (i := 21) rfl) dX8_readCourtLine_1 (fun t1 hf => ?_)
  obtain ⟨hs, hf⟩ := gCk_b hf
  refine g_cBI hI hf (fun v9 h9 e9 l9 l9' => g_rV X hI l9 l9' ⟨Nat.le_refl _, Nat.le_refl _⟩ (As := [.ref t1]) (m_X8_isWord X.2.2.2.2.2.2.2.2.2.2.1 e9) ydX8_isWord hs rfl rfl q1616 q1618 qs51 q131 q1619 rfl (Nat.le_of_ble_eq_true rfl) (Nat.le_of_ble_eq_true rfl) hl.1 rfl (Nat.le_of_ble_eq_true rfl) dX8_readCourtLine_3) (fun r2 h H locs cells slots hf hI => ?_)
  refine lv_if_eq (tgt := 14) hx hb dX8_readCourtLine_6 (by decide) (fun c6 => ?_) (fun c6 => ?_)
  · have hf := g_t c6 hf
    refine lv_aload_n hx hb dX8_readCourtLine_14 rfl (lv_at hl 0 rfl) ?_
    refine g_ldcS (tx := "accused") X hI hf (List.mem_of_getElem? (i := 25) rfl) dX8_readCourtLine_15 (fun t3 hf => ?_)
    obtain ⟨hs, hf⟩ := gCk_b hf
    refine g_cBI hI hf (fun v9 h9 e9 l9 l9' => g_rV X hI l9 l9' ⟨Nat.le_refl _, Nat.le_refl _⟩ (As := [.ref t3]) (m_X8_isWord X.2.2.2.2.2.2.2.2.2.2.1 e9) ydX8_isWord hs rfl rfl q1616 q1618 qs51 q131 q1619 rfl (Nat.le_of_ble_eq_true rfl) (Nat.le_of_ble_eq_true rfl) hl.1 rfl (Nat.le_of_ble_eq_true rfl) dX8_readCourtLine_17) (fun r4 h H locs cells slots hf hI => ?_)
    refine lv_if_eq (tgt := 28) hx hb dX8_readCourtLine_20 (by decide) (fun c20 => ?_) (fun c20 => ?_)
    · have hf := g_t c20 hf
      refine lv_aload_n hx hb dX8_readCourtLine_28 rfl (lv_at hl 0 rfl) ?_
      refine g_ldcS (tx := "calm") X hI hf (List.mem_of_getElem? (i := 29) rfl) dX8_readCourtLine_29 (fun t5 hf => ?_)
      obtain ⟨hs, hf⟩ := gCk_b hf
      refine g_cBI hI hf (fun v9 h9 e9 l9 l9' => g_rV X hI l9 l9' ⟨Nat.le_refl _, Nat.le_refl _⟩ (As := [.ref t5]) (m_X8_isWord X.2.2.2.2.2.2.2.2.2.2.1 e9) ydX8_isWord hs rfl rfl q1616 q1618 qs51 q131 q1619 rfl (Nat.le_of_ble_eq_true rfl) (Nat.le_of_ble_eq_true rfl) hl.1 rfl (Nat.le_of_ble_eq_true rfl) dX8_readCourtLine_31) (fun r6 h H locs cells slots hf hI => ?_)
      refine lv_if_eq (tgt := 46) hx hb dX8_readCourtLine_34 (by decide) (fun c34 => ?_) (fun c34 => ?_)
      · have hf := g_t c34 hf
        refine lv_aload_n hx hb dX8_readCourtLine_46 rfl (lv_at hl 0 rfl) ?_
        refine g_ldcS (tx := "echo") X hI hf (List.mem_of_getElem? (i := 30) rfl) dX8_readCourtLine_47 (fun t7 hf => ?_)
        obtain ⟨hs, hf⟩ := gCk_b hf
        refine g_cBI hI hf (fun v9 h9 e9 l9 l9' => g_rV X hI l9 l9' ⟨Nat.le_refl _, Nat.le_refl _⟩ (As := [.ref t7]) (m_X8_isWord X.2.2.2.2.2.2.2.2.2.2.1 e9) ydX8_isWord hs rfl rfl q1616 q1618 qs51 q131 q1619 rfl (Nat.le_of_ble_eq_true rfl) (Nat.le_of_ble_eq_true rfl) hl.1 rfl (Nat.le_of_ble_eq_true rfl) dX8_readCourtLine_49) (fun r8 h H locs cells slots hf hI => ?_)
        refine lv_if_eq (tgt := 65) hx hb dX8_readCourtLine_52 (by decide) (fun c52 => ?_) (fun c52 => ?_)
        · have hf := g_t c52 hf
          refine lv_aload_n hx hb dX8_readCourtLine_65 rfl (lv_at hl 0 rfl) ?_
          refine g_ldcS (tx := "day") X hI hf (List.mem_of_getElem? (i := 31) rfl) dX8_readCourtLine_66 (fun t9 hf => ?_)
          obtain ⟨hs, hf⟩ := gCk_b hf
          refine g_cBI hI hf (fun v9 h9 e9 l9 l9' => g_rV X hI l9 l9' ⟨Nat.le_refl _, Nat.le_refl _⟩ (As := [.ref t9]) (m_X8_isWord X.2.2.2.2.2.2.2.2.2.2.1 e9) ydX8_isWord hs rfl rfl q1616 q1618 qs51 q131 q1619 rfl (Nat.le_of_ble_eq_true rfl) (Nat.le_of_ble_eq_true rfl) hl.1 rfl (Nat.le_of_ble_eq_true rfl) dX8_readCourtLine_68) (fun r10 h H locs cells slots hf hI => ?_)
          refine lv_if_eq (tgt := 90) hx hb dX8_readCourtLine_71 (by decide) (fun c71 => ?_) (fun c71 => ?_)
          · have hf := g_t c71 hf
            exact b_X8_readCourtLine_90 X _ _ _ _ _ _ hf hI (lv_sub hl [] rfl)
          · have hf := g_f c71 hf
            refine lv_aload_n hx hb dX8_readCourtLine_74 rfl (lv_at hl 0 rfl) ?_
            refine lv_iconst (v := (4 : Int32)) hx hb dX8_readCourtLine_75 (by decide) ?_
            refine lv_iconst (v := (0 : Int32)) hx hb dX8_readCourtLine_76 (by decide) ?_
            refine lv_sipush (v := (999 : Int32)) hx hb dX8_readCourtLine_77 (by decide) ?_
            obtain ⟨hs, hf⟩ := gCk_b hf
            refine g_cBI hI hf (fun v9 h9 e9 l9 l9' => g_rV X hI l9 l9' ⟨Nat.le_refl _, Nat.le_refl _⟩ (As := [.int (4 : Int32), .int (0 : Int32), .int (999 : Int32)]) (m_X8_readNumber X.2.2.2.2.2.2.2.2.2.2.1 e9) ydX8_readNumber hs rfl rfl q1684 q1686 qs62 q131 q1687 rfl (Nat.le_of_ble_eq_true rfl) (Nat.le_of_ble_eq_true rfl) hl.1 rfl (Nat.le_of_ble_eq_true rfl) dX8_readCourtLine_80) (fun r11 h H locs cells slots hf hI => ?_)
            refine lv_if_eq (tgt := 90) hx hb dX8_readCourtLine_83 (by decide) (fun c83 => ?_) (fun c83 => ?_)
            · have hf := g_t c83 hf
              exact b_X8_readCourtLine_90 X _ _ _ _ _ _ hf hI (lv_sub hl [] rfl)
            · have hf := g_f c83 hf
              refine lv_iconst (v := (1 : Int32)) hx hb dX8_readCourtLine_86 (by decide) ?_
              refine lv_goto (tgt := 91) hx hb dX8_readCourtLine_87 (by decide) ?_
              exact b_X8_readCourtLine_91 X _ _ _ _ _ _ _ hf hI (lv_sub hl [] rfl)
        · have hf := g_f c52 hf
          refine lv_aload_n hx hb dX8_readCourtLine_55 rfl (lv_at hl 0 rfl) ?_
          refine lv_bipush (v := (6 : Int32)) hx hb dX8_readCourtLine_56 (by decide) ?_
          refine lv_iconst (v := (0 : Int32)) hx hb dX8_readCourtLine_58 (by decide) ?_
          refine lv_bipush (v := (20 : Int32)) hx hb dX8_readCourtLine_59 (by decide) ?_
          obtain ⟨hs, hf⟩ := gCk_b hf
          refine g_cBI hI hf (fun v9 h9 e9 l9 l9' => g_rV X hI l9 l9' ⟨Nat.le_refl _, Nat.le_refl _⟩ (As := [.int (6 : Int32), .int (0 : Int32), .int (20 : Int32)]) (m_X8_readNumber X.2.2.2.2.2.2.2.2.2.2.1 e9) ydX8_readNumber hs rfl rfl q1684 q1686 qs62 q131 q1687 rfl (Nat.le_of_ble_eq_true rfl) (Nat.le_of_ble_eq_true rfl) hl.1 rfl (Nat.le_of_ble_eq_true rfl) dX8_readCourtLine_61) (fun r12 h H locs cells slots hf hI => ?_)
          obtain ⟨hz, hf⟩ := gB_gd hf
          cases gRet_e hf
          exact g_retZ X hI hz rfl dX8_readCourtLine_64
      · have hf := g_f c34 hf
        refine lv_aload_n hx hb dX8_readCourtLine_37 rfl (lv_at hl 0 rfl) ?_
        refine lv_iconst (v := (5 : Int32)) hx hb dX8_readCourtLine_38 (by decide) ?_
        refine lv_iconst (v := (0 : Int32)) hx hb dX8_readCourtLine_39 (by decide) ?_
        refine lv_bipush (v := (9 : Int32)) hx hb dX8_readCourtLine_40 (by decide) ?_
        obtain ⟨hs, hf⟩ := gCk_b hf
        refine g_cBI hI hf (fun v9 h9 e9 l9 l9' => g_rV X hI l9 l9' ⟨Nat.le_refl _, Nat.le_refl _⟩ (As := [.int (5 : Int32), .int (0 : Int32), .int (9 : Int32)]) (m_X8_readNumber X.2.2.2.2.2.2.2.2.2.2.1 e9) ydX8_readNumber hs rfl rfl q1684 q1686 qs62 q131 q1687 rfl (Nat.le_of_ble_eq_true rfl) (Nat.le_of_ble_eq_true rfl) hl.1 rfl (Nat.le_of_ble_eq_true rfl) dX8_readCourtLine_42) (fun r13 h H locs cells slots hf hI => ?_)
        obtain ⟨hz, hf⟩ := gB_gd hf
        cases gRet_e hf
        exact g_retZ X hI hz rfl dX8_readCourtLine_45
    · have hf := g_f c20 hf
      refine lv_aload_n hx hb dX8_readCourtLine_23 rfl (lv_at hl 0 rfl) ?_
      obtain ⟨hs, hf⟩ := gCk_b hf
      refine g_cBI hI hf (fun v9 h9 e9 l9 l9' => g_rV X hI l9 l9' ⟨Nat.le_refl _, Nat.le_refl _⟩ (As := []) (m_X8_readAccused X.2.2.2.2.2.2.2.2.2.2.1 e9) ydX8_readAccused hs rfl rfl q1669 q1671 qs60 q131 q1672 rfl (Nat.le_of_ble_eq_true rfl) (Nat.le_of_ble_eq_true rfl) hl.1 rfl (Nat.le_of_ble_eq_true rfl) dX8_readCourtLine_24) (fun r14 h H locs cells slots hf hI => ?_)
      obtain ⟨hz, hf⟩ := gB_gd hf
      cases gRet_e hf
      exact g_retZ X hI hz rfl dX8_readCourtLine_27
  · have hf := g_f c6 hf
    refine lv_aload_n hx hb dX8_readCourtLine_9 rfl (lv_at hl 0 rfl) ?_
    obtain ⟨hs, hf⟩ := gCk_b hf
    refine g_cBI hI hf (fun v9 h9 e9 l9 l9' => g_rV X hI l9 l9' ⟨Nat.le_refl _, Nat.le_refl _⟩ (As := []) (m_X8_readProp X.2.2.2.2.2.2.2.2.2.2.1 e9) ydX8_readProp hs rfl rfl q1622 q1624 qs52 q131 q1625 rfl (Nat.le_of_ble_eq_true rfl) (Nat.le_of_ble_eq_true rfl) hl.1 rfl (Nat.le_of_ble_eq_true rfl) dX8_readCourtLine_10) (fun r15 h H locs cells slots hf hI => ?_)
    obtain ⟨hz, hf⟩ := gB_gd hf
    cases gRet_e hf
    exact g_retZ X hI hz rfl dX8_readCourtLine_13
/-! X8_sign -/
def f_X8_sign (a0 : Nat) (x1 : Int32) : gM Int32 :=
    gB (gCk a0 7) fun _ =>
    gB (f_X8_blanks a0) fun _ =>
    gB (gCk a0 7) fun _ =>
    gB (f_X8_isAt a0 x1 x1) fun r2 =>
    gIf (r2 = 0)
    ((gRet (0 : Int32)))
    (gB (gFI a0 7 10) fun v3 =>
    gB (gPI a0 7 10 (v3 + (1 : Int32))) fun _ =>
    (gRet (1 : Int32)))
set_option maxHeartbeats 4000000 in
set_option maxRecDepth 100000 in
theorem m_X8_sign {G : gG} {l : Launch} (hfl : l.stackTraces = false) {a0 : Nat} {x1 : Int32} {h h' : g_H} {r : Int32} (hf : (f_X8_sign a0 x1).1 h = some (r, h')) : gMet G l yX8_sign (Cond.code yX8_sign cX8_sign 2 (some .boolean)) 3 62 [.ref a0, .int x1] h (.inl (g_wI r)) h' := by
  refine g_head hfl ((f_X8_sign a0 x1).2 h r h' hf) (plainFor_of_name (by decide)) (Nat.le_of_ble_eq_true rfl) (fun p e s m below meth c H locs cells slots ls X hI hl9 => ?_)
  have hl : lv_has ls 2 [(0, .ref a0), (1, .int x1)] := hl9
  have hx := X.1
  have hb := X.2.1
  have hown := X.2.2.2.1
  have hts := X.2.2.2.2.1
  unfold f_X8_sign at hf
  refine lv_aload_n hx hb dX8_sign_0 rfl (lv_at hl 0 rfl) ?_
  obtain ⟨hs, hf⟩ := gCk_b hf
  refine g_cBU hI hf (fun v9 h9 e9 l9 l9' => g_rV X hI l9 l9' ⟨Nat.le_refl _, Nat.le_refl _⟩ (As := []) (m_X8_blanks X.2.2.2.2.2.2.2.2.2.2.1 e9) ydX8_blanks hs rfl rfl q1595 q1597 qs46 q131 q1598 rfl (Nat.le_of_ble_eq_true rfl) (Nat.le_of_ble_eq_true rfl) hl.1 rfl (Nat.le_of_ble_eq_true rfl) dX8_sign_1) (fun r1 h H locs cells slots hf hI => ?_)
  refine lv_aload_n hx hb dX8_sign_4 rfl (lv_at hl 0 rfl) ?_
  refine lv_iload_n hx hb dX8_sign_5 rfl (lv_at hl 1 rfl) ?_
  refine lv_iload_n hx hb dX8_sign_6 rfl (lv_at hl 1 rfl) ?_
  obtain ⟨hs, hf⟩ := gCk_b hf
  refine g_cBI hI hf (fun v9 h9 e9 l9 l9' => g_rV X hI l9 l9' ⟨Nat.le_refl _, Nat.le_refl _⟩ (As := [.int x1, .int x1]) (m_X8_isAt X.2.2.2.2.2.2.2.2.2.2.1 e9) ydX8_isAt hs rfl rfl q1599 q1601 qs47 q131 q1602 rfl (Nat.le_of_ble_eq_true rfl) (Nat.le_of_ble_eq_true rfl) hl.1 rfl (Nat.le_of_ble_eq_true rfl) dX8_sign_7) (fun r2 h H locs cells slots hf hI => ?_)
  refine lv_if_ne (tgt := 15) hx hb dX8_sign_10 (by decide) (fun c10 => ?_) (fun c10 => ?_)
  · have hf := g_f c10 hf
    refine lv_aload_n hx hb dX8_sign_15 rfl (lv_at hl 0 rfl) ?_
    refine lv_dup hx hb dX8_sign_16 rfl ?_
    refine g_fi X hI hf fX8_10 q1454 rfl rfl dX8_sign_17 (fun v3 hf => ?_)
    refine lv_iconst (v := (1 : Int32)) hx hb dX8_sign_20 (by decide) ?_
    refine lv_iadd hx hb dX8_sign_21 ?_
    refine g_pi X hI hf fX8_10 q1454 rfl dX8_sign_22 (fun h H locs hf hI => ?_)
    refine lv_iconst (v := (1 : Int32)) hx hb dX8_sign_25 (by decide) ?_
    cases gRet_e hf
    exact g_retZ X hI (Or.inr rfl) rfl dX8_sign_26
  · have hf := g_t c10 hf
    refine lv_iconst (v := (0 : Int32)) hx hb dX8_sign_13 (by decide) ?_
    cases gRet_e hf
    exact g_retZ X hI (Or.inl rfl) rfl dX8_sign_14
/-! X8_emits -/
def f_X8_emits (a0 : Nat) (x1 : Int32) (x2 : Int32) : gM Unit :=
    gB (gFR a0 7 1) fun v1 =>
    gB (gFI a0 7 16) fun v2 =>
    gB (gSI v1 0 ((1203 : Int32) + ((2 : Int32) * v2)) x1) fun _ =>
    gB (gFR a0 7 1) fun v3 =>
    gB (gFI a0 7 16) fun v4 =>
    gB (gSI v3 0 (((1203 : Int32) + ((2 : Int32) * v4)) + (1 : Int32)) x2) fun _ =>
    gB (gFI a0 7 16) fun v5 =>
    gB (gPI a0 7 16 (v5 + (1 : Int32))) fun _ =>
    gRet ()
set_option maxHeartbeats 4000000 in
set_option maxRecDepth 100000 in
theorem m_X8_emits {G : gG} {l : Launch} (hfl : l.stackTraces = false) {a0 : Nat} {x1 : Int32} {x2 : Int32} {h h' : g_H} {r : Unit} (hf : (f_X8_emits a0 x1 x2).1 h = some (r, h')) : gMet G l yX8_emits (Cond.code yX8_emits cX8_emits 3 none) 1 20 [.ref a0, .int x1, .int x2] h (.inl (g_wU r)) h' := by
  refine g_head hfl ((f_X8_emits a0 x1 x2).2 h r h' hf) (plainFor_of_name (by decide)) (Nat.le_of_ble_eq_true rfl) (fun p e s m below meth c H locs cells slots ls X hI hl9 => ?_)
  have hl : lv_has ls 3 [(0, .ref a0), (1, .int x1), (2, .int x2)] := hl9
  have hx := X.1
  have hb := X.2.1
  have hown := X.2.2.2.1
  have hts := X.2.2.2.2.1
  unfold f_X8_emits at hf
  refine lv_aload_n hx hb dX8_emits_0 rfl (lv_at hl 0 rfl) ?_
  refine g_fr X hI hf fX8_1 q1445 rfl rfl dX8_emits_1 (fun v1 hf => ?_)
  refine lv_sipush (v := (1203 : Int32)) hx hb dX8_emits_4 (by decide) ?_
  refine lv_iconst (v := (2 : Int32)) hx hb dX8_emits_7 (by decide) ?_
  refine lv_aload_n hx hb dX8_emits_8 rfl (lv_at hl 0 rfl) ?_
  refine g_fi X hI hf fX8_16 q1460 rfl rfl dX8_emits_9 (fun v2 hf => ?_)
  refine lv_imul hx hb dX8_emits_12 ?_
  refine lv_iadd hx hb dX8_emits_13 ?_
  refine lv_iload_n hx hb dX8_emits_14 rfl (lv_at hl 1 rfl) ?_
  refine g_si0 X hI hf dX8_emits_15 (fun h H locs hf hI => ?_)
  refine lv_aload_n hx hb dX8_emits_16 rfl (lv_at hl 0 rfl) ?_
  refine g_fr X hI hf fX8_1 q1445 rfl rfl dX8_emits_17 (fun v3 hf => ?_)
  refine lv_sipush (v := (1203 : Int32)) hx hb dX8_emits_20 (by decide) ?_
  refine lv_iconst (v := (2 : Int32)) hx hb dX8_emits_23 (by decide) ?_
  refine lv_aload_n hx hb dX8_emits_24 rfl (lv_at hl 0 rfl) ?_
  refine g_fi X hI hf fX8_16 q1460 rfl rfl dX8_emits_25 (fun v4 hf => ?_)
  refine lv_imul hx hb dX8_emits_28 ?_
  refine lv_iadd hx hb dX8_emits_29 ?_
  refine lv_iconst (v := (1 : Int32)) hx hb dX8_emits_30 (by decide) ?_
  refine lv_iadd hx hb dX8_emits_31 ?_
  refine lv_iload_n hx hb dX8_emits_32 rfl (lv_at hl 2 rfl) ?_
  refine g_si0 X hI hf dX8_emits_33 (fun h H locs hf hI => ?_)
  refine lv_aload_n hx hb dX8_emits_34 rfl (lv_at hl 0 rfl) ?_
  refine lv_dup hx hb dX8_emits_35 rfl ?_
  refine g_fi X hI hf fX8_16 q1460 rfl rfl dX8_emits_36 (fun v5 hf => ?_)
  refine lv_iconst (v := (1 : Int32)) hx hb dX8_emits_39 (by decide) ?_
  refine lv_iadd hx hb dX8_emits_40 ?_
  refine g_pi X hI hf fX8_16 q1460 rfl dX8_emits_41 (fun h H locs hf hI => ?_)
  cases gRet_e hf
  exact g_retU X hI rfl dX8_emits_44
/-! X8_readTag -/
abbrev w_X8_readTag_64 (G : gG) (l : Launch) (p : Program) (e : Env) (s : State) (m : MethodId) (args : Array Value) (below : List Frame) (meth : Method) (c : Code) (h0 : g_H) (r : Int32) (h' : g_H) (k : Int32 → gM Int32) : Prop := ∀ (u0 : Int32) (h : g_H) (H : Heap) (locs : List Loc) (cells slots : Nat) (ls : Array Slot), (k u0).1 h = some (r, h') → gI G h0 h H locs cells slots → lv_has ls 2 [] → W p l e (g_rm 6 128 h0 h') s m args below meth c H locs cells slots (gQ G below args s h0 h' (.inl (g_wI r))) (F0 m 64 ls [.int u0])
abbrev w_X8_readTag_55 (G : gG) (l : Launch) (p : Program) (e : Env) (s : State) (m : MethodId) (args : Array Value) (below : List Frame) (meth : Method) (c : Code) (h0 : g_H) (r : Int32) (h' : g_H) (k : Int32 → gM Int32) : Prop := ∀ (x1 : Int32) (h : g_H) (H : Heap) (locs : List Loc) (cells slots : Nat) (ls : Array Slot), (k x1).1 h = some (r, h') → gI G h0 h H locs cells slots → lv_has ls 2 [(1, .int x1)] → W p l e (g_rm 6 128 h0 h') s m args below meth c H locs cells slots (gQ G below args s h0 h' (.inl (g_wI r))) (F0 m 55 ls [])
abbrev w_X8_readTag_33 (G : gG) (l : Launch) (p : Program) (e : Env) (s : State) (m : MethodId) (args : Array Value) (below : List Frame) (meth : Method) (c : Code) (h0 : g_H) (r : Int32) (h' : g_H) (k : Nat → Int32 → gM Int32) : Prop := ∀ (a0 : Nat) (u0 : Int32) (h : g_H) (H : Heap) (locs : List Loc) (cells slots : Nat) (ls : Array Slot), (k a0 u0).1 h = some (r, h') → gI G h0 h H locs cells slots → lv_has ls 2 [(0, .ref a0)] → W p l e (g_rm 6 128 h0 h') s m args below meth c H locs cells slots (gQ G below args s h0 h' (.inl (g_wI r))) (F0 m 33 ls [.int u0])
def f_X8_readTag_64 (u0 : Int32) : gM Int32 :=
    gB (gGd (u0 = 0 ∨ u0 = 1)) fun _ =>
    (gRet u0)
set_option maxHeartbeats 4000000 in
set_option maxRecDepth 100000 in
theorem b_X8_readTag_64 {G : gG} {l : Launch} {p : Program} {e : Env} {s : State} {m : MethodId} {args : Array Value} {below : List Frame} {meth : Method} {c : Code} {h0 : g_H} {r : Int32} {h' : g_H} (X : gX G l yX8_readTag.cls cX8_readTag 2 (some .boolean) [] yX8_readTag.name p s m args meth c) : w_X8_readTag_64 G l p e s m args below meth c h0 r h' (f_X8_readTag_64) := by
  have hx := X.1
  have hb := X.2.1
  have hown := X.2.2.2.1
  have hts := X.2.2.2.2.1
  intro u0 h H locs cells slots ls hf hI hl
  unfold f_X8_readTag_64 at hf
  obtain ⟨hz, hf⟩ := gB_gd hf
  cases gRet_e hf
  exact g_retZ X hI hz rfl dX8_readTag_64
def f_X8_readTag_55 (x1 : Int32) : gM Int32 :=
    gIf (x1 < 0)
    (f_X8_readTag_64 (0 : Int32))
    (f_X8_readTag_64 (1 : Int32))
set_option maxHeartbeats 4000000 in
set_option maxRecDepth 100000 in
theorem b_X8_readTag_55 {G : gG} {l : Launch} {p : Program} {e : Env} {s : State} {m : MethodId} {args : Array Value} {below : List Frame} {meth : Method} {c : Code} {h0 : g_H} {r : Int32} {h' : g_H} (X : gX G l yX8_readTag.cls cX8_readTag 2 (some .boolean) [] yX8_readTag.name p s m args meth c) : w_X8_readTag_55 G l p e s m args below meth c h0 r h' (f_X8_readTag_55) := by
  have hx := X.1
  have hb := X.2.1
  have hown := X.2.2.2.1
  have hts := X.2.2.2.2.1
  intro x1 h H locs cells slots ls hf hI hl
  unfold f_X8_readTag_55 at hf
  refine lv_iload_n hx hb dX8_readTag_55 rfl (lv_at hl 0 rfl) ?_
  refine lv_if_lt (tgt := 63) hx hb dX8_readTag_56 (by decide) (fun c56 => ?_) (fun c56 => ?_)
  · have hf := g_t c56 hf
    refine lv_iconst (v := (0 : Int32)) hx hb dX8_readTag_63 (by decide) ?_
    exact b_X8_readTag_64 X _ _ _ _ _ _ _ hf hI (lv_sub hl [] rfl)
  · have hf := g_f c56 hf
    refine lv_iconst (v := (1 : Int32)) hx hb dX8_readTag_59 (by decide) ?_
    refine lv_goto (tgt := 64) hx hb dX8_readTag_60 (by decide) ?_
    exact b_X8_readTag_64 X _ _ _ _ _ _ _ hf hI (lv_sub hl [] rfl)
def f_X8_readTag_33 (a0 : Nat) (u0 : Int32) : gM Int32 :=
    gIf (u0 < 0)
    (gB (gFI a0 7 12) fun v101 =>
    gB (gPI a0 7 10 v101) fun _ =>
    f_X8_readTag_55 u0)
    (gB (gCk a0 7) fun _ =>
    gB (f_X8_emits a0 u0 (0 : Int32)) fun _ =>
    f_X8_readTag_55 u0)
set_option maxHeartbeats 4000000 in
set_option maxRecDepth 100000 in
theorem b_X8_readTag_33 {G : gG} {l : Launch} {p : Program} {e : Env} {s : State} {m : MethodId} {args : Array Value} {below : List Frame} {meth : Method} {c : Code} {h0 : g_H} {r : Int32} {h' : g_H} (X : gX G l yX8_readTag.cls cX8_readTag 2 (some .boolean) [] yX8_readTag.name p s m args meth c) : w_X8_readTag_33 G l p e s m args below meth c h0 r h' (f_X8_readTag_33) := by
  have hx := X.1
  have hb := X.2.1
  have hown := X.2.2.2.1
  have hts := X.2.2.2.2.1
  intro a0 u0 h H locs cells slots ls hf hI hl
  unfold f_X8_readTag_33 at hf
  refine lv_istore_n (lv' := [(1, .int u0), (0, .ref a0)]) hx hb dX8_readTag_33 rfl hl (by decide) rfl (fun ls hl => ?_)
  refine lv_iload_n hx hb dX8_readTag_34 rfl (lv_at hl 0 rfl) ?_
  refine lv_if_lt (tgt := 47) hx hb dX8_readTag_35 (by decide) (fun c35 => ?_) (fun c35 => ?_)
  · have hf := g_t c35 hf
    refine lv_aload_n hx hb dX8_readTag_47 rfl (lv_at hl 1 rfl) ?_
    refine lv_aload_n hx hb dX8_readTag_48 rfl (lv_at hl 1 rfl) ?_
    refine g_fi X hI hf fX8_12 q1456 rfl rfl dX8_readTag_49 (fun v101 hf => ?_)
    refine g_pi X hI hf fX8_10 q1454 rfl dX8_readTag_52 (fun h H locs hf hI => ?_)
    exact b_X8_readTag_55 X _ _ _ _ _ _ _ hf hI (lv_sub hl [0] rfl)
  · have hf := g_f c35 hf
    refine lv_aload_n hx hb dX8_readTag_38 rfl (lv_at hl 1 rfl) ?_
    refine lv_iload_n hx hb dX8_readTag_39 rfl (lv_at hl 0 rfl) ?_
    refine lv_iconst (v := (0 : Int32)) hx hb dX8_readTag_40 (by decide) ?_
    obtain ⟨hs, hf⟩ := gCk_b hf
    refine g_cBU hI hf (fun v9 h9 e9 l9 l9' => g_rV X hI l9 l9' ⟨Nat.le_refl _, Nat.le_refl _⟩ (As := [.int u0, .int (0 : Int32)]) (m_X8_emits X.2.2.2.2.2.2.2.2.2.2.1 e9) ydX8_emits hs rfl rfl q1715 q1717 qs68 q131 q1718 rfl (Nat.le_of_ble_eq_true rfl) (Nat.le_of_ble_eq_true rfl) hl.1 rfl (Nat.le_of_ble_eq_true rfl) dX8_readTag_41) (fun r102 h H locs cells slots hf hI => ?_)
    refine lv_goto (tgt := 55) hx hb dX8_readTag_44 (by decide) ?_
    exact b_X8_readTag_55 X _ _ _ _ _ _ _ hf hI (lv_sub hl [0] rfl)
def f_X8_readTag (a0 : Nat) : gM Int32 :=
    gB (gCk a0 7) fun _ =>
    gB (f_X8_letters a0) fun _ =>
    gB (gTx 28) fun t2 =>
    gB (gCk a0 7) fun _ =>
    gB (f_X8_isWord a0 t2) fun r3 =>
    gIf (r3 = 0)
    (gB (gTx 37) fun t4 =>
    gB (gCk a0 7) fun _ =>
    gB (f_X8_isWord a0 t4) fun r5 =>
    gIf (r5 = 0)
    (f_X8_readTag_33 a0 (-1 : Int32))
    (f_X8_readTag_33 a0 (7 : Int32)))
    (f_X8_readTag_33 a0 (6 : Int32))
set_option maxHeartbeats 4000000 in
set_option maxRecDepth 100000 in
theorem m_X8_readTag {G : gG} {l : Launch} (hfl : l.stackTraces = false) {a0 : Nat} {h h' : g_H} {r : Int32} (hf : (f_X8_readTag a0).1 h = some (r, h')) : gMet G l yX8_readTag (Cond.code yX8_readTag cX8_readTag 2 (some .boolean)) 6 128 [.ref a0] h (.inl (g_wI r)) h' := by
  refine g_head hfl ((f_X8_readTag a0).2 h r h' hf) (plainFor_of_name (by decide)) (Nat.le_of_ble_eq_true rfl) (fun p e s m below meth c H locs cells slots ls X hI hl9 => ?_)
  have hl : lv_has ls 2 [(0, .ref a0)] := hl9
  have hx := X.1
  have hb := X.2.1
  have hown := X.2.2.2.1
  have hts := X.2.2.2.2.1
  unfold f_X8_readTag at hf
  refine lv_aload_n hx hb dX8_readTag_0 rfl (lv_at hl 0 rfl) ?_
  obtain ⟨hs, hf⟩ := gCk_b hf
  refine g_cBU hI hf (fun v9 h9 e9 l9 l9' => g_rV X hI l9 l9' ⟨Nat.le_refl _, Nat.le_refl _⟩ (As := []) (m_X8_letters X.2.2.2.2.2.2.2.2.2.2.1 e9) ydX8_letters hs rfl rfl q1607 q1609 qs49 q131 q1610 rfl (Nat.le_of_ble_eq_true rfl) (Nat.le_of_ble_eq_true rfl) hl.1 rfl (Nat.le_of_ble_eq_true rfl) dX8_readTag_1) (fun r1 h H locs cells slots hf hI => ?_)
  refine lv_aload_n hx hb dX8_readTag_4 rfl (lv_at hl 0 rfl) ?_
  refine g_ldcS (tx := "knows") X hI hf (List.mem_of_getElem? (i := 28) rfl) dX8_readTag_5 (fun t2 hf => ?_)
  obtain ⟨hs, hf⟩ := gCk_b hf
  refine g_cBI hI hf (fun v9 h9 e9 l9 l9' => g_rV X hI l9 l9' ⟨Nat.le_refl _, Nat.le_refl _⟩ (As := [.ref t2]) (m_X8_isWord X.2.2.2.2.2.2.2.2.2.2.1 e9) ydX8_isWord hs rfl rfl q1616 q1618 qs51 q131 q1619 rfl (Nat.le_of_ble_eq_true rfl) (Nat.le_of_ble_eq_true rfl) hl.1 rfl (Nat.le_of_ble_eq_true rfl) dX8_readTag_7) (fun r3 h H locs cells slots hf hI => ?_)
  refine lv_if_eq (tgt := 18) hx hb dX8_readTag_10 (by decide) (fun c10 => ?_) (fun c10 => ?_)
  · have hf := g_t c10 hf
    refine lv_aload_n hx hb dX8_readTag_18 rfl (lv_at hl 0 rfl) ?_
    refine g_ldcS (tx := "guilty") X hI hf (List.mem_of_getElem? (i := 37) rfl) dX8_readTag_19 (fun t4 hf => ?_)
    obtain ⟨hs, hf⟩ := gCk_b hf
    refine g_cBI hI hf (fun v9 h9 e9 l9 l9' => g_rV X hI l9 l9' ⟨Nat.le_refl _, Nat.le_refl _⟩ (As := [.ref t4]) (m_X8_isWord X.2.2.2.2.2.2.2.2.2.2.1 e9) ydX8_isWord hs rfl rfl q1616 q1618 qs51 q131 q1619 rfl (Nat.le_of_ble_eq_true rfl) (Nat.le_of_ble_eq_true rfl) hl.1 rfl (Nat.le_of_ble_eq_true rfl) dX8_readTag_21) (fun r5 h H locs cells slots hf hI => ?_)
    refine lv_if_eq (tgt := 32) hx hb dX8_readTag_24 (by decide) (fun c24 => ?_) (fun c24 => ?_)
    · have hf := g_t c24 hf
      refine lv_iconst (v := (-1 : Int32)) hx hb dX8_readTag_32 (by decide) ?_
      exact b_X8_readTag_33 X _ _ _ _ _ _ _ _ hf hI (lv_sub hl [0] rfl)
    · have hf := g_f c24 hf
      refine lv_bipush (v := (7 : Int32)) hx hb dX8_readTag_27 (by decide) ?_
      refine lv_goto (tgt := 33) hx hb dX8_readTag_29 (by decide) ?_
      exact b_X8_readTag_33 X _ _ _ _ _ _ _ _ hf hI (lv_sub hl [0] rfl)
  · have hf := g_f c10 hf
    refine lv_bipush (v := (6 : Int32)) hx hb dX8_readTag_13 (by decide) ?_
    refine lv_goto (tgt := 33) hx hb dX8_readTag_15 (by decide) ?_
    exact b_X8_readTag_33 X _ _ _ _ _ _ _ _ hf hI (lv_sub hl [0] rfl)
/-! X8_readPart -/
abbrev w_X8_readPart_129 (G : gG) (l : Launch) (p : Program) (e : Env) (s : State) (m : MethodId) (args : Array Value) (below : List Frame) (meth : Method) (c : Code) (h0 : g_H) (r : Int32) (h' : g_H) (k : Int32 → gM Int32) : Prop := ∀ (u0 : Int32) (h : g_H) (H : Heap) (locs : List Loc) (cells slots : Nat) (ls : Array Slot), (k u0).1 h = some (r, h') → gI G h0 h H locs cells slots → lv_has ls 2 [] → W p l e (g_rm 6 128 h0 h') s m args below meth c H locs cells slots (gQ G below args s h0 h' (.inl (g_wI r))) (F0 m 129 ls [.int u0])
abbrev w_X8_readPart_120 (G : gG) (l : Launch) (p : Program) (e : Env) (s : State) (m : MethodId) (args : Array Value) (below : List Frame) (meth : Method) (c : Code) (h0 : g_H) (r : Int32) (h' : g_H) (k : Int32 → gM Int32) : Prop := ∀ (x1 : Int32) (h : g_H) (H : Heap) (locs : List Loc) (cells slots : Nat) (ls : Array Slot), (k x1).1 h = some (r, h') → gI G h0 h H locs cells slots → lv_has ls 2 [(1, .int x1)] → W p l e (g_rm 6 128 h0 h') s m args below meth c H locs cells slots (gQ G below args s h0 h' (.inl (g_wI r))) (F0 m 120 ls [])
abbrev w_X8_readPart_113 (G : gG) (l : Launch) (p : Program) (e : Env) (s : State) (m : MethodId) (args : Array Value) (below : List Frame) (meth : Method) (c : Code) (h0 : g_H) (r : Int32) (h' : g_H) (k : Nat → Int32 → gM Int32) : Prop := ∀ (a0 : Nat) (u0 : Int32) (h : g_H) (H : Heap) (locs : List Loc) (cells slots : Nat) (ls : Array Slot), (k a0 u0).1 h = some (r, h') → gI G h0 h H locs cells slots → lv_has ls 2 [(0, .ref a0)] → W p l e (g_rm 6 128 h0 h') s m args below meth c H locs cells slots (gQ G below args s h0 h' (.inl (g_wI r))) (F0 m 113 ls [.int u0])
def f_X8_readPart_129 (u0 : Int32) : gM Int32 :=
    gB (gGd (u0 = 0 ∨ u0 = 1)) fun _ =>
    (gRet u0)
set_option maxHeartbeats 4000000 in
set_option maxRecDepth 100000 in
theorem b_X8_readPart_129 {G : gG} {l : Launch} {p : Program} {e : Env} {s : State} {m : MethodId} {args : Array Value} {below : List Frame} {meth : Method} {c : Code} {h0 : g_H} {r : Int32} {h' : g_H} (X : gX G l yX8_readPart.cls cX8_readPart 2 (some .boolean) [] yX8_readPart.name p s m args meth c) : w_X8_readPart_129 G l p e s m args below meth c h0 r h' (f_X8_readPart_129) := by
  have hx := X.1
  have hb := X.2.1
  have hown := X.2.2.2.1
  have hts := X.2.2.2.2.1
  intro u0 h H locs cells slots ls hf hI hl
  unfold f_X8_readPart_129 at hf
  obtain ⟨hz, hf⟩ := gB_gd hf
  cases gRet_e hf
  exact g_retZ X hI hz rfl dX8_readPart_129
def f_X8_readPart_120 (x1 : Int32) : gM Int32 :=
    gIf (x1 < 0)
    (f_X8_readPart_129 (0 : Int32))
    (f_X8_readPart_129 (1 : Int32))
set_option maxHeartbeats 4000000 in
set_option maxRecDepth 100000 in
theorem b_X8_readPart_120 {G : gG} {l : Launch} {p : Program} {e : Env} {s : State} {m : MethodId} {args : Array Value} {below : List Frame} {meth : Method} {c : Code} {h0 : g_H} {r : Int32} {h' : g_H} (X : gX G l yX8_readPart.cls cX8_readPart 2 (some .boolean) [] yX8_readPart.name p s m args meth c) : w_X8_readPart_120 G l p e s m args below meth c h0 r h' (f_X8_readPart_120) := by
  have hx := X.1
  have hb := X.2.1
  have hown := X.2.2.2.1
  have hts := X.2.2.2.2.1
  intro x1 h H locs cells slots ls hf hI hl
  unfold f_X8_readPart_120 at hf
  refine lv_iload_n hx hb dX8_readPart_120 rfl (lv_at hl 0 rfl) ?_
  refine lv_if_lt (tgt := 128) hx hb dX8_readPart_121 (by decide) (fun c121 => ?_) (fun c121 => ?_)
  · have hf := g_t c121 hf
    refine lv_iconst (v := (0 : Int32)) hx hb dX8_readPart_128 (by decide) ?_
    exact b_X8_readPart_129 X _ _ _ _ _ _ _ hf hI (lv_sub hl [] rfl)
  · have hf := g_f c121 hf
    refine lv_iconst (v := (1 : Int32)) hx hb dX8_readPart_124 (by decide) ?_
    refine lv_goto (tgt := 129) hx hb dX8_readPart_125 (by decide) ?_
    exact b_X8_readPart_129 X _ _ _ _ _ _ _ hf hI (lv_sub hl [] rfl)
def f_X8_readPart_113 (a0 : Nat) (u0 : Int32) : gM Int32 :=
    gB (gCk a0 7) fun _ =>
    gB (f_X8_emits a0 u0 (0 : Int32)) fun _ =>
    f_X8_readPart_120 u0
set_option maxHeartbeats 4000000 in
set_option maxRecDepth 100000 in
theorem b_X8_readPart_113 {G : gG} {l : Launch} {p : Program} {e : Env} {s : State} {m : MethodId} {args : Array Value} {below : List Frame} {meth : Method} {c : Code} {h0 : g_H} {r : Int32} {h' : g_H} (X : gX G l yX8_readPart.cls cX8_readPart 2 (some .boolean) [] yX8_readPart.name p s m args meth c) : w_X8_readPart_113 G l p e s m args below meth c h0 r h' (f_X8_readPart_113) := by
  have hx := X.1
  have hb := X.2.1
  have hown := X.2.2.2.1
  have hts := X.2.2.2.2.1
  intro a0 u0 h H locs cells slots ls hf hI hl
  unfold f_X8_readPart_113 at hf
  refine lv_istore_n (lv' := [(1, .int u0), (0, .ref a0)]) hx hb dX8_readPart_113 rfl hl (by decide) rfl (fun ls hl => ?_)
  refine lv_aload_n hx hb dX8_readPart_114 rfl (lv_at hl 1 rfl) ?_
  refine lv_iload_n hx hb dX8_readPart_115 rfl (lv_at hl 0 rfl) ?_
  refine lv_iconst (v := (0 : Int32)) hx hb dX8_readPart_116 (by decide) ?_
  obtain ⟨hs, hf⟩ := gCk_b hf
  refine g_cBU hI hf (fun v9 h9 e9 l9 l9' => g_rV X hI l9 l9' ⟨Nat.le_refl _, Nat.le_refl _⟩ (As := [.int u0, .int (0 : Int32)]) (m_X8_emits X.2.2.2.2.2.2.2.2.2.2.1 e9) ydX8_emits hs rfl rfl q1715 q1717 qs68 q131 q1718 rfl (Nat.le_of_ble_eq_true rfl) (Nat.le_of_ble_eq_true rfl) hl.1 rfl (Nat.le_of_ble_eq_true rfl) dX8_readPart_117) (fun r101 h H locs cells slots hf hI => ?_)
  exact b_X8_readPart_120 X _ _ _ _ _ _ _ hf hI (lv_sub hl [0] rfl)
def f_X8_readPart (a0 : Nat) : gM Int32 :=
    gB (gCk a0 7) fun _ =>
    gB (f_X8_letters a0) fun _ =>
    gB (gFI a0 7 10) fun v2 =>
    gB (gFI a0 7 12) fun v3 =>
    gIf (v2 = v3)
    (gB (gCk a0 7) fun _ =>
    gB (f_X8_number a0 (0 : Int32) (999 : Int32)) fun r16 =>
    gB (gCk a0 7) fun _ =>
    gB (f_X8_emits a0 (8 : Int32) r16) fun _ =>
    f_X8_readPart_120 r16)
    (gB (gTx 21) fun t4 =>
    gB (gCk a0 7) fun _ =>
    gB (f_X8_isWord a0 t4) fun r5 =>
    gIf (r5 = 0)
    (gB (gTx 38) fun t6 =>
    gB (gCk a0 7) fun _ =>
    gB (f_X8_isWord a0 t6) fun r7 =>
    gIf (r7 = 0)
    (gB (gTx 22) fun t8 =>
    gB (gCk a0 7) fun _ =>
    gB (f_X8_isWord a0 t8) fun r9 =>
    gIf (r9 = 0)
    (gB (gTx 24) fun t10 =>
    gB (gCk a0 7) fun _ =>
    gB (f_X8_isWord a0 t10) fun r11 =>
    gIf (r11 = 0)
    (gB (gTx 39) fun t12 =>
    gB (gCk a0 7) fun _ =>
    gB (f_X8_isWord a0 t12) fun r13 =>
    gIf (r13 = 0)
    (gB (gTx 26) fun t14 =>
    gB (gCk a0 7) fun _ =>
    gB (f_X8_isWord a0 t14) fun r15 =>
    gIf (r15 = 0)
    (f_X8_readPart_113 a0 (-1 : Int32))
    (f_X8_readPart_113 a0 (5 : Int32)))
    (f_X8_readPart_113 a0 (4 : Int32)))
    (f_X8_readPart_113 a0 (3 : Int32)))
    (f_X8_readPart_113 a0 (2 : Int32)))
    (f_X8_readPart_113 a0 (1 : Int32)))
    (f_X8_readPart_113 a0 (0 : Int32)))
set_option maxHeartbeats 4000000 in
set_option maxRecDepth 100000 in
theorem m_X8_readPart {G : gG} {l : Launch} (hfl : l.stackTraces = false) {a0 : Nat} {h h' : g_H} {r : Int32} (hf : (f_X8_readPart a0).1 h = some (r, h')) : gMet G l yX8_readPart (Cond.code yX8_readPart cX8_readPart 2 (some .boolean)) 6 128 [.ref a0] h (.inl (g_wI r)) h' := by
  refine g_head hfl ((f_X8_readPart a0).2 h r h' hf) (plainFor_of_name (by decide)) (Nat.le_of_ble_eq_true rfl) (fun p e s m below meth c H locs cells slots ls X hI hl9 => ?_)
  have hl : lv_has ls 2 [(0, .ref a0)] := hl9
  have hx := X.1
  have hb := X.2.1
  have hown := X.2.2.2.1
  have hts := X.2.2.2.2.1
  unfold f_X8_readPart at hf
  refine lv_aload_n hx hb dX8_readPart_0 rfl (lv_at hl 0 rfl) ?_
  obtain ⟨hs, hf⟩ := gCk_b hf
  refine g_cBU hI hf (fun v9 h9 e9 l9 l9' => g_rV X hI l9 l9' ⟨Nat.le_refl _, Nat.le_refl _⟩ (As := []) (m_X8_letters X.2.2.2.2.2.2.2.2.2.2.1 e9) ydX8_letters hs rfl rfl q1607 q1609 qs49 q131 q1610 rfl (Nat.le_of_ble_eq_true rfl) (Nat.le_of_ble_eq_true rfl) hl.1 rfl (Nat.le_of_ble_eq_true rfl) dX8_readPart_1) (fun r1 h H locs cells slots hf hI => ?_)
  refine lv_aload_n hx hb dX8_readPart_4 rfl (lv_at hl 0 rfl) ?_
  refine g_fi X hI hf fX8_10 q1454 rfl rfl dX8_readPart_5 (fun v2 hf => ?_)
  refine lv_aload_n hx hb dX8_readPart_8 rfl (lv_at hl 0 rfl) ?_
  refine g_fi X hI hf fX8_12 q1456 rfl rfl dX8_readPart_9 (fun v3 hf => ?_)
  refine lv_icmp_ne (tgt := 34) hx hb dX8_readPart_12 (by decide) (fun c12 => ?_) (fun c12 => ?_)
  · have hf := g_f c12 hf
    refine lv_aload_n hx hb dX8_readPart_34 rfl (lv_at hl 0 rfl) ?_
    refine g_ldcS (tx := "prop") X hI hf (List.mem_of_getElem? (i := 21) rfl) dX8_readPart_35 (fun t4 hf => ?_)
    obtain ⟨hs, hf⟩ := gCk_b hf
    refine g_cBI hI hf (fun v9 h9 e9 l9 l9' => g_rV X hI l9 l9' ⟨Nat.le_refl _, Nat.le_refl _⟩ (As := [.ref t4]) (m_X8_isWord X.2.2.2.2.2.2.2.2.2.2.1 e9) ydX8_isWord hs rfl rfl q1616 q1618 qs51 q131 q1619 rfl (Nat.le_of_ble_eq_true rfl) (Nat.le_of_ble_eq_true rfl) hl.1 rfl (Nat.le_of_ble_eq_true rfl) dX8_readPart_37) (fun r5 h H locs cells slots hf hI => ?_)
    refine lv_if_eq (tgt := 47) hx hb dX8_readPart_40 (by decide) (fun c40 => ?_) (fun c40 => ?_)
    · have hf := g_t c40 hf
      refine lv_aload_n hx hb dX8_readPart_47 rfl (lv_at hl 0 rfl) ?_
      refine g_ldcS (tx := "slot") X hI hf (List.mem_of_getElem? (i := 38) rfl) dX8_readPart_48 (fun t6 hf => ?_)
      obtain ⟨hs, hf⟩ := gCk_b hf
      refine g_cBI hI hf (fun v9 h9 e9 l9 l9' => g_rV X hI l9 l9' ⟨Nat.le_refl _, Nat.le_refl _⟩ (As := [.ref t6]) (m_X8_isWord X.2.2.2.2.2.2.2.2.2.2.1 e9) ydX8_isWord hs rfl rfl q1616 q1618 qs51 q131 q1619 rfl (Nat.le_of_ble_eq_true rfl) (Nat.le_of_ble_eq_true rfl) hl.1 rfl (Nat.le_of_ble_eq_true rfl) dX8_readPart_50) (fun r7 h H locs cells slots hf hI => ?_)
      refine lv_if_eq (tgt := 60) hx hb dX8_readPart_53 (by decide) (fun c53 => ?_) (fun c53 => ?_)
      · have hf := g_t c53 hf
        refine lv_aload_n hx hb dX8_readPart_60 rfl (lv_at hl 0 rfl) ?_
        refine g_ldcS (tx := "jerk") X hI hf (List.mem_of_getElem? (i := 22) rfl) dX8_readPart_61 (fun t8 hf => ?_)
        obtain ⟨hs, hf⟩ := gCk_b hf
        refine g_cBI hI hf (fun v9 h9 e9 l9 l9' => g_rV X hI l9 l9' ⟨Nat.le_refl _, Nat.le_refl _⟩ (As := [.ref t8]) (m_X8_isWord X.2.2.2.2.2.2.2.2.2.2.1 e9) ydX8_isWord hs rfl rfl q1616 q1618 qs51 q131 q1619 rfl (Nat.le_of_ble_eq_true rfl) (Nat.le_of_ble_eq_true rfl) hl.1 rfl (Nat.le_of_ble_eq_true rfl) dX8_readPart_63) (fun r9 h H locs cells slots hf hI => ?_)
        refine lv_if_eq (tgt := 73) hx hb dX8_readPart_66 (by decide) (fun c66 => ?_) (fun c66 => ?_)
        · have hf := g_t c66 hf
          refine lv_aload_n hx hb dX8_readPart_73 rfl (lv_at hl 0 rfl) ?_
          refine g_ldcS (tx := "worn") X hI hf (List.mem_of_getElem? (i := 24) rfl) dX8_readPart_74 (fun t10 hf => ?_)
          obtain ⟨hs, hf⟩ := gCk_b hf
          refine g_cBI hI hf (fun v9 h9 e9 l9 l9' => g_rV X hI l9 l9' ⟨Nat.le_refl _, Nat.le_refl _⟩ (As := [.ref t10]) (m_X8_isWord X.2.2.2.2.2.2.2.2.2.2.1 e9) ydX8_isWord hs rfl rfl q1616 q1618 qs51 q131 q1619 rfl (Nat.le_of_ble_eq_true rfl) (Nat.le_of_ble_eq_true rfl) hl.1 rfl (Nat.le_of_ble_eq_true rfl) dX8_readPart_76) (fun r11 h H locs cells slots hf hI => ?_)
          refine lv_if_eq (tgt := 86) hx hb dX8_readPart_79 (by decide) (fun c79 => ?_) (fun c79 => ?_)
          · have hf := g_t c79 hf
            refine lv_aload_n hx hb dX8_readPart_86 rfl (lv_at hl 0 rfl) ?_
            refine g_ldcS (tx := "tense") X hI hf (List.mem_of_getElem? (i := 39) rfl) dX8_readPart_87 (fun t12 hf => ?_)
            obtain ⟨hs, hf⟩ := gCk_b hf
            refine g_cBI hI hf (fun v9 h9 e9 l9 l9' => g_rV X hI l9 l9' ⟨Nat.le_refl _, Nat.le_refl _⟩ (As := [.ref t12]) (m_X8_isWord X.2.2.2.2.2.2.2.2.2.2.1 e9) ydX8_isWord hs rfl rfl q1616 q1618 qs51 q131 q1619 rfl (Nat.le_of_ble_eq_true rfl) (Nat.le_of_ble_eq_true rfl) hl.1 rfl (Nat.le_of_ble_eq_true rfl) dX8_readPart_89) (fun r13 h H locs cells slots hf hI => ?_)
            refine lv_if_eq (tgt := 99) hx hb dX8_readPart_92 (by decide) (fun c92 => ?_) (fun c92 => ?_)
            · have hf := g_t c92 hf
              refine lv_aload_n hx hb dX8_readPart_99 rfl (lv_at hl 0 rfl) ?_
              refine g_ldcS (tx := "nerve") X hI hf (List.mem_of_getElem? (i := 26) rfl) dX8_readPart_100 (fun t14 hf => ?_)
              obtain ⟨hs, hf⟩ := gCk_b hf
              refine g_cBI hI hf (fun v9 h9 e9 l9 l9' => g_rV X hI l9 l9' ⟨Nat.le_refl _, Nat.le_refl _⟩ (As := [.ref t14]) (m_X8_isWord X.2.2.2.2.2.2.2.2.2.2.1 e9) ydX8_isWord hs rfl rfl q1616 q1618 qs51 q131 q1619 rfl (Nat.le_of_ble_eq_true rfl) (Nat.le_of_ble_eq_true rfl) hl.1 rfl (Nat.le_of_ble_eq_true rfl) dX8_readPart_102) (fun r15 h H locs cells slots hf hI => ?_)
              refine lv_if_eq (tgt := 112) hx hb dX8_readPart_105 (by decide) (fun c105 => ?_) (fun c105 => ?_)
              · have hf := g_t c105 hf
                refine lv_iconst (v := (-1 : Int32)) hx hb dX8_readPart_112 (by decide) ?_
                exact b_X8_readPart_113 X _ _ _ _ _ _ _ _ hf hI (lv_sub hl [0] rfl)
              · have hf := g_f c105 hf
                refine lv_iconst (v := (5 : Int32)) hx hb dX8_readPart_108 (by decide) ?_
                refine lv_goto (tgt := 113) hx hb dX8_readPart_109 (by decide) ?_
                exact b_X8_readPart_113 X _ _ _ _ _ _ _ _ hf hI (lv_sub hl [0] rfl)
            · have hf := g_f c92 hf
              refine lv_iconst (v := (4 : Int32)) hx hb dX8_readPart_95 (by decide) ?_
              refine lv_goto (tgt := 113) hx hb dX8_readPart_96 (by decide) ?_
              exact b_X8_readPart_113 X _ _ _ _ _ _ _ _ hf hI (lv_sub hl [0] rfl)
          · have hf := g_f c79 hf
            refine lv_iconst (v := (3 : Int32)) hx hb dX8_readPart_82 (by decide) ?_
            refine lv_goto (tgt := 113) hx hb dX8_readPart_83 (by decide) ?_
            exact b_X8_readPart_113 X _ _ _ _ _ _ _ _ hf hI (lv_sub hl [0] rfl)
        · have hf := g_f c66 hf
          refine lv_iconst (v := (2 : Int32)) hx hb dX8_readPart_69 (by decide) ?_
          refine lv_goto (tgt := 113) hx hb dX8_readPart_70 (by decide) ?_
          exact b_X8_readPart_113 X _ _ _ _ _ _ _ _ hf hI (lv_sub hl [0] rfl)
      · have hf := g_f c53 hf
        refine lv_iconst (v := (1 : Int32)) hx hb dX8_readPart_56 (by decide) ?_
        refine lv_goto (tgt := 113) hx hb dX8_readPart_57 (by decide) ?_
        exact b_X8_readPart_113 X _ _ _ _ _ _ _ _ hf hI (lv_sub hl [0] rfl)
    · have hf := g_f c40 hf
      refine lv_iconst (v := (0 : Int32)) hx hb dX8_readPart_43 (by decide) ?_
      refine lv_goto (tgt := 113) hx hb dX8_readPart_44 (by decide) ?_
      exact b_X8_readPart_113 X _ _ _ _ _ _ _ _ hf hI (lv_sub hl [0] rfl)
  · have hf := g_t c12 hf
    refine lv_aload_n hx hb dX8_readPart_15 rfl (lv_at hl 0 rfl) ?_
    refine lv_iconst (v := (0 : Int32)) hx hb dX8_readPart_16 (by decide) ?_
    refine lv_sipush (v := (999 : Int32)) hx hb dX8_readPart_17 (by decide) ?_
    obtain ⟨hs, hf⟩ := gCk_b hf
    refine g_cBI hI hf (fun v9 h9 e9 l9 l9' => g_rV X hI l9 l9' ⟨Nat.le_refl _, Nat.le_refl _⟩ (As := [.int (0 : Int32), .int (999 : Int32)]) (m_X8_number X.2.2.2.2.2.2.2.2.2.2.1 e9) ydX8_number hs rfl rfl q1646 q1648 qs56 q131 q1649 rfl (Nat.le_of_ble_eq_true rfl) (Nat.le_of_ble_eq_true rfl) hl.1 rfl (Nat.le_of_ble_eq_true rfl) dX8_readPart_20) (fun r16 h H locs cells slots hf hI => ?_)
    refine lv_istore_n (lv' := [(1, .int r16), (0, .ref a0)]) hx hb dX8_readPart_23 rfl hl (by decide) rfl (fun ls hl => ?_)
    refine lv_aload_n hx hb dX8_readPart_24 rfl (lv_at hl 1 rfl) ?_
    refine lv_bipush (v := (8 : Int32)) hx hb dX8_readPart_25 (by decide) ?_
    refine lv_iload_n hx hb dX8_readPart_27 rfl (lv_at hl 0 rfl) ?_
    obtain ⟨hs, hf⟩ := gCk_b hf
    refine g_cBU hI hf (fun v9 h9 e9 l9 l9' => g_rV X hI l9 l9' ⟨Nat.le_refl _, Nat.le_refl _⟩ (As := [.int (8 : Int32), .int r16]) (m_X8_emits X.2.2.2.2.2.2.2.2.2.2.1 e9) ydX8_emits hs rfl rfl q1715 q1717 qs68 q131 q1718 rfl (Nat.le_of_ble_eq_true rfl) (Nat.le_of_ble_eq_true rfl) hl.1 rfl (Nat.le_of_ble_eq_true rfl) dX8_readPart_28) (fun r17 h H locs cells slots hf hI => ?_)
    refine lv_goto (tgt := 120) hx hb dX8_readPart_31 (by decide) ?_
    exact b_X8_readPart_120 X _ _ _ _ _ _ _ hf hI (lv_sub hl [0] rfl)
/-! X8_readSum -/
abbrev w_X8_readSum_25 (G : gG) (l : Launch) (p : Program) (e : Env) (s : State) (m : MethodId) (args : Array Value) (below : List Frame) (meth : Method) (c : Code) (h0 : g_H) (r : Int32) (h' : g_H) (k : gM Int32) : Prop := ∀ (h : g_H) (H : Heap) (locs : List Loc) (cells slots : Nat) (ls : Array Slot), (k).1 h = some (r, h') → gI G h0 h H locs cells slots → lv_has ls 1 [] → W p l e (g_rm 7 149 h0 h') s m args below meth c H locs cells slots (gQ G below args s h0 h' (.inl (g_wI r))) (F0 m 25 ls [])
abbrev w_X8_readSum_37 (G : gG) (l : Launch) (p : Program) (e : Env) (s : State) (m : MethodId) (args : Array Value) (below : List Frame) (meth : Method) (c : Code) (h0 : g_H) (r : Int32) (h' : g_H) (k : gM Int32) : Prop := ∀ (h : g_H) (H : Heap) (locs : List Loc) (cells slots : Nat) (ls : Array Slot), (k).1 h = some (r, h') → gI G h0 h H locs cells slots → lv_has ls 1 [] → W p l e (g_rm 7 149 h0 h') s m args below meth c H locs cells slots (gQ G below args s h0 h' (.inl (g_wI r))) (F0 m 37 ls [])
abbrev w_X8_readSum_9 (G : gG) (l : Launch) (p : Program) (e : Env) (s : State) (m : MethodId) (args : Array Value) (below : List Frame) (meth : Method) (c : Code) (h0 : g_H) (r : Int32) (h' : g_H) (k : Nat → gM Int32) : Prop := ∀ (a0 : Nat) (h : g_H) (H : Heap) (locs : List Loc) (cells slots : Nat) (ls : Array Slot), (k a0).1 h = some (r, h') → gI G h0 h H locs cells slots → lv_has ls 1 [(0, .ref a0)] → W p l e (g_rm 7 149 h0 h') s m args below meth c H locs cells slots (gQ G below args s h0 h' (.inl (g_wI r))) (F0 m 9 ls [])
def f_X8_readSum_25 : gM Int32 :=
    (gRet (0 : Int32))
set_option maxHeartbeats 4000000 in
set_option maxRecDepth 100000 in
theorem b_X8_readSum_25 {G : gG} {l : Launch} {p : Program} {e : Env} {s : State} {m : MethodId} {args : Array Value} {below : List Frame} {meth : Method} {c : Code} {h0 : g_H} {r : Int32} {h' : g_H} (X : gX G l yX8_readSum.cls cX8_readSum 1 (some .boolean) [] yX8_readSum.name p s m args meth c) : w_X8_readSum_25 G l p e s m args below meth c h0 r h' (f_X8_readSum_25) := by
  have hx := X.1
  have hb := X.2.1
  have hown := X.2.2.2.1
  have hts := X.2.2.2.2.1
  intro h H locs cells slots ls hf hI hl
  unfold f_X8_readSum_25 at hf
  refine lv_iconst (v := (0 : Int32)) hx hb dX8_readSum_25 (by decide) ?_
  cases gRet_e hf
  exact g_retZ X hI (Or.inl rfl) rfl dX8_readSum_26
def f_X8_readSum_37 : gM Int32 :=
    (gRet (1 : Int32))
set_option maxHeartbeats 4000000 in
set_option maxRecDepth 100000 in
theorem b_X8_readSum_37 {G : gG} {l : Launch} {p : Program} {e : Env} {s : State} {m : MethodId} {args : Array Value} {below : List Frame} {meth : Method} {c : Code} {h0 : g_H} {r : Int32} {h' : g_H} (X : gX G l yX8_readSum.cls cX8_readSum 1 (some .boolean) [] yX8_readSum.name p s m args meth c) : w_X8_readSum_37 G l p e s m args below meth c h0 r h' (f_X8_readSum_37) := by
  have hx := X.1
  have hb := X.2.1
  have hown := X.2.2.2.1
  have hts := X.2.2.2.2.1
  intro h H locs cells slots ls hf hI hl
  unfold f_X8_readSum_37 at hf
  refine lv_iconst (v := (1 : Int32)) hx hb dX8_readSum_37 (by decide) ?_
  cases gRet_e hf
  exact g_retZ X hI (Or.inr rfl) rfl dX8_readSum_38
def f_X8_readSum_9 : Nat → Nat → gM Int32
  | 0, _ => gFail
  | n + 1, a0 =>
    gB (gCk a0 7) fun _ =>
    gB (f_X8_sign a0 (43 : Int32)) fun r101 =>
    gIf (r101 = 0)
    (f_X8_readSum_37)
    (gB (gCk a0 7) fun _ =>
    gB (f_X8_readPart a0) fun r102 =>
    gIf (r102 = 0)
    (f_X8_readSum_25)
    (gB (gCk a0 7) fun _ =>
    gB (f_X8_emits a0 (9 : Int32) (0 : Int32)) fun _ =>
    f_X8_readSum_9 n a0))
set_option maxHeartbeats 4000000 in
set_option maxRecDepth 100000 in
theorem b_X8_readSum_9 {G : gG} {l : Launch} {p : Program} {e : Env} {s : State} {m : MethodId} {args : Array Value} {below : List Frame} {meth : Method} {c : Code} {h0 : g_H} {r : Int32} {h' : g_H} (X : gX G l yX8_readSum.cls cX8_readSum 1 (some .boolean) [] yX8_readSum.name p s m args meth c) : ∀ n : Nat, w_X8_readSum_9 G l p e s m args below meth c h0 r h' (f_X8_readSum_9 n) := by
  have hx := X.1
  have hb := X.2.1
  have hown := X.2.2.2.1
  have hts := X.2.2.2.2.1
  intro n
  induction n with
  | zero =>
    intro a0 h H locs cells slots ls hf hI hl
    exact (gFail_f hf).elim
  | succ n ih =>
    intro a0 h H locs cells slots ls hf hI hl
    rw [f_X8_readSum_9] at hf
    refine lv_aload_n hx hb dX8_readSum_9 rfl (lv_at hl 0 rfl) ?_
    refine lv_bipush (v := (43 : Int32)) hx hb dX8_readSum_10 (by decide) ?_
    obtain ⟨hs, hf⟩ := gCk_b hf
    refine g_cBI hI hf (fun v9 h9 e9 l9 l9' => g_rV X hI l9 l9' ⟨Nat.le_refl _, Nat.le_refl _⟩ (As := [.int (43 : Int32)]) (m_X8_sign X.2.2.2.2.2.2.2.2.2.2.1 e9) ydX8_sign hs rfl rfl q1710 q1712 qs67 q131 q1713 rfl (Nat.le_of_ble_eq_true rfl) (Nat.le_of_ble_eq_true rfl) hl.1 rfl (Nat.le_of_ble_eq_true rfl) dX8_readSum_12) (fun r101 h H locs cells slots hf hI => ?_)
    refine lv_if_eq (tgt := 37) hx hb dX8_readSum_15 (by decide) (fun c15 => ?_) (fun c15 => ?_)
    · have hf := g_t c15 hf
      exact b_X8_readSum_37 X _ _ _ _ _ _ hf hI (lv_sub hl [] rfl)
    · have hf := g_f c15 hf
      refine lv_aload_n hx hb dX8_readSum_18 rfl (lv_at hl 0 rfl) ?_
      obtain ⟨hs, hf⟩ := gCk_b hf
      refine g_cBI hI hf (fun v9 h9 e9 l9 l9' => g_rV X hI l9 l9' ⟨Nat.le_refl _, Nat.le_refl _⟩ (As := []) (m_X8_readPart X.2.2.2.2.2.2.2.2.2.2.1 e9) ydX8_readPart hs rfl rfl q1728 q1730 qs71 q131 q1731 rfl (Nat.le_of_ble_eq_true rfl) (Nat.le_of_ble_eq_true rfl) hl.1 rfl (Nat.le_of_ble_eq_true rfl) dX8_readSum_19) (fun r102 h H locs cells slots hf hI => ?_)
      refine lv_if_ne (tgt := 27) hx hb dX8_readSum_22 (by decide) (fun c22 => ?_) (fun c22 => ?_)
      · have hf := g_f c22 hf
        refine lv_aload_n hx hb dX8_readSum_27 rfl (lv_at hl 0 rfl) ?_
        refine lv_bipush (v := (9 : Int32)) hx hb dX8_readSum_28 (by decide) ?_
        refine lv_iconst (v := (0 : Int32)) hx hb dX8_readSum_30 (by decide) ?_
        obtain ⟨hs, hf⟩ := gCk_b hf
        refine g_cBU hI hf (fun v9 h9 e9 l9 l9' => g_rV X hI l9 l9' ⟨Nat.le_refl _, Nat.le_refl _⟩ (As := [.int (9 : Int32), .int (0 : Int32)]) (m_X8_emits X.2.2.2.2.2.2.2.2.2.2.1 e9) ydX8_emits hs rfl rfl q1715 q1717 qs68 q131 q1718 rfl (Nat.le_of_ble_eq_true rfl) (Nat.le_of_ble_eq_true rfl) hl.1 rfl (Nat.le_of_ble_eq_true rfl) dX8_readSum_31) (fun r103 h H locs cells slots hf hI => ?_)
        refine lv_goto (tgt := 9) hx hb dX8_readSum_34 (by decide) ?_
        exact ih _ _ _ _ _ _ _ hf hI (lv_sub hl [0] rfl)
      · have hf := g_t c22 hf
        exact b_X8_readSum_25 X _ _ _ _ _ _ hf hI (lv_sub hl [] rfl)
def f_X8_readSum (a0 : Nat) : gM Int32 :=
    gB (gCk a0 7) fun _ =>
    gB (f_X8_readPart a0) fun r1 =>
    gIf (r1 = 0)
    ((gRet (0 : Int32)))
    (f_X8_readSum_9 gN a0)
set_option maxHeartbeats 4000000 in
set_option maxRecDepth 100000 in
theorem m_X8_readSum {G : gG} {l : Launch} (hfl : l.stackTraces = false) {a0 : Nat} {h h' : g_H} {r : Int32} (hf : (f_X8_readSum a0).1 h = some (r, h')) : gMet G l yX8_readSum (Cond.code yX8_readSum cX8_readSum 1 (some .boolean)) 7 149 [.ref a0] h (.inl (g_wI r)) h' := by
  refine g_head hfl ((f_X8_readSum a0).2 h r h' hf) (plainFor_of_name (by decide)) (Nat.le_of_ble_eq_true rfl) (fun p e s m below meth c H locs cells slots ls X hI hl9 => ?_)
  have hl : lv_has ls 1 [(0, .ref a0)] := hl9
  have hx := X.1
  have hb := X.2.1
  have hown := X.2.2.2.1
  have hts := X.2.2.2.2.1
  unfold f_X8_readSum at hf
  refine lv_aload_n hx hb dX8_readSum_0 rfl (lv_at hl 0 rfl) ?_
  obtain ⟨hs, hf⟩ := gCk_b hf
  refine g_cBI hI hf (fun v9 h9 e9 l9 l9' => g_rV X hI l9 l9' ⟨Nat.le_refl _, Nat.le_refl _⟩ (As := []) (m_X8_readPart X.2.2.2.2.2.2.2.2.2.2.1 e9) ydX8_readPart hs rfl rfl q1728 q1730 qs71 q131 q1731 rfl (Nat.le_of_ble_eq_true rfl) (Nat.le_of_ble_eq_true rfl) hl.1 rfl (Nat.le_of_ble_eq_true rfl) dX8_readSum_1) (fun r1 h H locs cells slots hf hI => ?_)
  refine lv_if_ne (tgt := 9) hx hb dX8_readSum_4 (by decide) (fun c4 => ?_) (fun c4 => ?_)
  · have hf := g_f c4 hf
    exact b_X8_readSum_9 X gN _ _ _ _ _ _ _ hf hI (lv_sub hl [0] rfl)
  · have hf := g_t c4 hf
    refine lv_iconst (v := (0 : Int32)) hx hb dX8_readSum_7 (by decide) ?_
    cases gRet_e hf
    exact g_retZ X hI (Or.inl rfl) rfl dX8_readSum_8
end
