noncomputable section
/-! X8_leave -/
abbrev w_X8_leave_54 (G : gG) (l : Launch) (p : Program) (e : Env) (s : State) (m : MethodId) (args : Array Value) (below : List Frame) (meth : Method) (c : Code) (h0 : g_H) (r : Int32) (h' : g_H) (k : Nat → Int32 → Int32 → Int32 → gM Int32) : Prop := ∀ (a0 : Nat) (x1 : Int32) (x3 : Int32) (u0 : Int32) (h : g_H) (H : Heap) (locs : List Loc) (cells slots : Nat) (ls : Array Slot), (k a0 x1 x3 u0).1 h = some (r, h') → gI G h0 h H locs cells slots → lv_has ls 4 [(0, .ref a0), (1, .int x1), (3, .int x3)] → W p l e (g_rm 12 271 h0 h') s m args below meth c H locs cells slots (gQ G below args s h0 h' (.inl (g_wI r))) (F0 m 54 ls [.int u0])
abbrev w_X8_leave_53 (G : gG) (l : Launch) (p : Program) (e : Env) (s : State) (m : MethodId) (args : Array Value) (below : List Frame) (meth : Method) (c : Code) (h0 : g_H) (r : Int32) (h' : g_H) (k : Nat → Int32 → Int32 → Int32 → gM Int32) : Prop := ∀ (a0 : Nat) (x1 : Int32) (x2 : Int32) (x3 : Int32) (h : g_H) (H : Heap) (locs : List Loc) (cells slots : Nat) (ls : Array Slot), (k a0 x1 x2 x3).1 h = some (r, h') → gI G h0 h H locs cells slots → lv_has ls 4 [(0, .ref a0), (1, .int x1), (2, .int x2), (3, .int x3)] → W p l e (g_rm 12 271 h0 h') s m args below meth c H locs cells slots (gQ G below args s h0 h' (.inl (g_wI r))) (F0 m 53 ls [])
abbrev w_X8_leave_61 (G : gG) (l : Launch) (p : Program) (e : Env) (s : State) (m : MethodId) (args : Array Value) (below : List Frame) (meth : Method) (c : Code) (h0 : g_H) (r : Int32) (h' : g_H) (k : Nat → Int32 → gM Int32) : Prop := ∀ (a0 : Nat) (x2 : Int32) (h : g_H) (H : Heap) (locs : List Loc) (cells slots : Nat) (ls : Array Slot), (k a0 x2).1 h = some (r, h') → gI G h0 h H locs cells slots → lv_has ls 4 [(0, .ref a0), (2, .int x2)] → W p l e (g_rm 12 271 h0 h') s m args below meth c H locs cells slots (gQ G below args s h0 h' (.inl (g_wI r))) (F0 m 61 ls [])
abbrev w_X8_leave_14 (G : gG) (l : Launch) (p : Program) (e : Env) (s : State) (m : MethodId) (args : Array Value) (below : List Frame) (meth : Method) (c : Code) (h0 : g_H) (r : Int32) (h' : g_H) (k : Nat → Int32 → Int32 → Int32 → gM Int32) : Prop := ∀ (a0 : Nat) (x1 : Int32) (x2 : Int32) (x3 : Int32) (h : g_H) (H : Heap) (locs : List Loc) (cells slots : Nat) (ls : Array Slot), (k a0 x1 x2 x3).1 h = some (r, h') → gI G h0 h H locs cells slots → lv_has ls 4 [(0, .ref a0), (1, .int x1), (2, .int x2), (3, .int x3)] → W p l e (g_rm 12 271 h0 h') s m args below meth c H locs cells slots (gQ G below args s h0 h' (.inl (g_wI r))) (F0 m 14 ls [])
def f_X8_leave_54 (k14 : Nat → Int32 → Int32 → Int32 → gM Int32) (a0 : Nat) (x1 : Int32) (x3 : Int32) (u0 : Int32) : gM Int32 :=
    k14 a0 x1 u0 (x3 + (-1 : Int32))
set_option maxHeartbeats 4000000 in
set_option maxRecDepth 100000 in
theorem b_X8_leave_54 {G : gG} {l : Launch} {p : Program} {e : Env} {s : State} {m : MethodId} {args : Array Value} {below : List Frame} {meth : Method} {c : Code} {h0 : g_H} {r : Int32} {h' : g_H} (X : gX G l yX8_leave.cls cX8_leave 4 (some .int) [] yX8_leave.name p s m args meth c) {k14 : Nat → Int32 → Int32 → Int32 → gM Int32} (K14 : w_X8_leave_14 G l p e s m args below meth c h0 r h' k14) : w_X8_leave_54 G l p e s m args below meth c h0 r h' (f_X8_leave_54 k14) := by
  have hx := X.1
  have hb := X.2.1
  have hown := X.2.2.2.1
  have hts := X.2.2.2.2.1
  intro a0 x1 x3 u0 h H locs cells slots ls hf hI hl
  unfold f_X8_leave_54 at hf
  refine lv_istore_n (lv' := [(2, .int u0), (0, .ref a0), (1, .int x1), (3, .int x3)]) hx hb dX8_leave_54 rfl hl (by decide) rfl (fun ls hl => ?_)
  refine lv_iinc (v := (x3 + (-1 : Int32))) (lv' := [(3, .int (x3 + (-1 : Int32))), (2, .int u0), (0, .ref a0), (1, .int x1)]) hx hb dX8_leave_55 hl (k := 3) rfl rfl (by decide) rfl (fun ls hl => ?_)
  refine lv_goto (tgt := 14) hx hb dX8_leave_58 (by decide) ?_
  exact K14 _ _ _ _ _ _ _ _ _ _ hf hI (lv_sub hl [2, 3, 1, 0] rfl)
def f_X8_leave_53 (k14 : Nat → Int32 → Int32 → Int32 → gM Int32) (a0 : Nat) (x1 : Int32) (x2 : Int32) (x3 : Int32) : gM Int32 :=
    f_X8_leave_54 k14 a0 x1 x3 x2
set_option maxHeartbeats 4000000 in
set_option maxRecDepth 100000 in
theorem b_X8_leave_53 {G : gG} {l : Launch} {p : Program} {e : Env} {s : State} {m : MethodId} {args : Array Value} {below : List Frame} {meth : Method} {c : Code} {h0 : g_H} {r : Int32} {h' : g_H} (X : gX G l yX8_leave.cls cX8_leave 4 (some .int) [] yX8_leave.name p s m args meth c) {k14 : Nat → Int32 → Int32 → Int32 → gM Int32} (K14 : w_X8_leave_14 G l p e s m args below meth c h0 r h' k14) : w_X8_leave_53 G l p e s m args below meth c h0 r h' (f_X8_leave_53 k14) := by
  have hx := X.1
  have hb := X.2.1
  have hown := X.2.2.2.1
  have hts := X.2.2.2.2.1
  intro a0 x1 x2 x3 h H locs cells slots ls hf hI hl
  unfold f_X8_leave_53 at hf
  refine lv_iload_n hx hb dX8_leave_53 rfl (lv_at hl 2 rfl) ?_
  exact b_X8_leave_54 X K14 _ _ _ _ _ _ _ _ _ _ hf hI (lv_sub hl [0, 1, 3] rfl)
def f_X8_leave_61 (a0 : Nat) (x2 : Int32) : gM Int32 :=
    gB (gPI a0 7 23 (0 : Int32)) fun _ =>
    (gRet x2)
set_option maxHeartbeats 4000000 in
set_option maxRecDepth 100000 in
theorem b_X8_leave_61 {G : gG} {l : Launch} {p : Program} {e : Env} {s : State} {m : MethodId} {args : Array Value} {below : List Frame} {meth : Method} {c : Code} {h0 : g_H} {r : Int32} {h' : g_H} (X : gX G l yX8_leave.cls cX8_leave 4 (some .int) [] yX8_leave.name p s m args meth c) : w_X8_leave_61 G l p e s m args below meth c h0 r h' (f_X8_leave_61) := by
  have hx := X.1
  have hb := X.2.1
  have hown := X.2.2.2.1
  have hts := X.2.2.2.2.1
  intro a0 x2 h H locs cells slots ls hf hI hl
  unfold f_X8_leave_61 at hf
  refine lv_aload_n hx hb dX8_leave_61 rfl (lv_at hl 0 rfl) ?_
  refine lv_iconst (v := (0 : Int32)) hx hb dX8_leave_62 (by decide) ?_
  refine g_pi X hI hf fX8_23 q1467 rfl dX8_leave_63 (fun h H locs hf hI => ?_)
  refine lv_iload_n hx hb dX8_leave_66 rfl (lv_at hl 1 rfl) ?_
  cases gRet_e hf
  exact g_retI X hI rfl dX8_leave_67
def f_X8_leave_14 : Nat → Nat → Int32 → Int32 → Int32 → gM Int32
  | 0, _, _, _, _ => gFail
  | n + 1, a0, x1, x2, x3 =>
    gIf (x3 < 0)
    (f_X8_leave_61 a0 x2)
    (gB (gPI a0 7 23 x3) fun _ =>
    gIf ((x3 &&& (x1 ^^^ (-1 : Int32))) = 0)
    (gB (f_J7_bitCount x3) fun r101 =>
    gB (f_J7_bitCount x2) fun r102 =>
    gIf (r102 < r101)
    (f_X8_leave_53 (f_X8_leave_14 n) a0 x1 x2 x3)
    (gB (gCk a0 7) fun _ =>
    gB (f_X8_isQuiet a0) fun r103 =>
    gIf (r103 = 0)
    (f_X8_leave_53 (f_X8_leave_14 n) a0 x1 x2 x3)
    (f_X8_leave_54 (f_X8_leave_14 n) a0 x1 x3 x3)))
    (f_X8_leave_53 (f_X8_leave_14 n) a0 x1 x2 x3))
set_option maxHeartbeats 4000000 in
set_option maxRecDepth 100000 in
theorem b_X8_leave_14 {G : gG} {l : Launch} {p : Program} {e : Env} {s : State} {m : MethodId} {args : Array Value} {below : List Frame} {meth : Method} {c : Code} {h0 : g_H} {r : Int32} {h' : g_H} (X : gX G l yX8_leave.cls cX8_leave 4 (some .int) [] yX8_leave.name p s m args meth c) : ∀ n : Nat, w_X8_leave_14 G l p e s m args below meth c h0 r h' (f_X8_leave_14 n) := by
  have hx := X.1
  have hb := X.2.1
  have hown := X.2.2.2.1
  have hts := X.2.2.2.2.1
  intro n
  induction n with
  | zero =>
    intro a0 x1 x2 x3 h H locs cells slots ls hf hI hl
    exact (gFail_f hf).elim
  | succ n ih =>
    intro a0 x1 x2 x3 h H locs cells slots ls hf hI hl
    rw [f_X8_leave_14] at hf
    refine lv_iload_n hx hb dX8_leave_14 rfl (lv_at hl 3 rfl) ?_
    refine lv_if_lt (tgt := 61) hx hb dX8_leave_15 (by decide) (fun c15 => ?_) (fun c15 => ?_)
    · have hf := g_t c15 hf
      exact b_X8_leave_61 X _ _ _ _ _ _ _ _ hf hI (lv_sub hl [0, 2] rfl)
    · have hf := g_f c15 hf
      refine lv_aload_n hx hb dX8_leave_18 rfl (lv_at hl 0 rfl) ?_
      refine lv_iload_n hx hb dX8_leave_19 rfl (lv_at hl 3 rfl) ?_
      refine g_pi X hI hf fX8_23 q1467 rfl dX8_leave_20 (fun h H locs hf hI => ?_)
      refine lv_iload_n hx hb dX8_leave_23 rfl (lv_at hl 3 rfl) ?_
      refine lv_iload_n hx hb dX8_leave_24 rfl (lv_at hl 1 rfl) ?_
      refine lv_iconst (v := (-1 : Int32)) hx hb dX8_leave_25 (by decide) ?_
      refine lv_ixor hx hb dX8_leave_26 ?_
      refine lv_iand hx hb dX8_leave_27 ?_
      refine lv_if_ne (tgt := 53) hx hb dX8_leave_28 (by decide) (fun c28 => ?_) (fun c28 => ?_)
      · have hf := g_f c28 hf
        exact b_X8_leave_53 X ih _ _ _ _ _ _ _ _ _ _ hf hI (lv_sub hl [0, 1, 2, 3] rfl)
      · have hf := g_t c28 hf
        refine lv_iload_n hx hb dX8_leave_31 rfl (lv_at hl 3 rfl) ?_
        refine g_cBI hI hf (fun v9 h9 e9 l9 l9' => g_rS (b := 0) X hI l9 l9' ⟨Nat.le_refl _, Nat.le_refl _⟩ (As := [.int x3]) (m_J7_bitCount X.2.2.2.2.2.2.2.2.2.2.1 e9) ydJ7_bitCount q1640 q659 q137 q660 rfl (Nat.le_of_ble_eq_true rfl) (Nat.le_of_ble_eq_true rfl) hl.1 rfl (Nat.le_of_ble_eq_true rfl) dX8_leave_32) (fun r101 h H locs cells slots hf hI => ?_)
        refine lv_iload_n hx hb dX8_leave_35 rfl (lv_at hl 2 rfl) ?_
        refine g_cBI hI hf (fun v9 h9 e9 l9 l9' => g_rS (b := 0) X hI l9 l9' ⟨Nat.le_refl _, Nat.le_refl _⟩ (As := [.int x2]) (m_J7_bitCount X.2.2.2.2.2.2.2.2.2.2.1 e9) ydJ7_bitCount q1640 q659 q137 q660 rfl (Nat.le_of_ble_eq_true rfl) (Nat.le_of_ble_eq_true rfl) hl.1 rfl (Nat.le_of_ble_eq_true rfl) dX8_leave_36) (fun r102 h H locs cells slots hf hI => ?_)
        refine lv_icmp_gt (tgt := 53) hx hb dX8_leave_39 (by decide) (fun c39 => ?_) (fun c39 => ?_)
        · have hf := g_t c39 hf
          exact b_X8_leave_53 X ih _ _ _ _ _ _ _ _ _ _ hf hI (lv_sub hl [0, 1, 2, 3] rfl)
        · have hf := g_f c39 hf
          refine lv_aload_n hx hb dX8_leave_42 rfl (lv_at hl 0 rfl) ?_
          obtain ⟨hs, hf⟩ := gCk_b hf
          refine g_cBI hI hf (fun v9 h9 e9 l9 l9' => g_rV X hI l9 l9' ⟨Nat.le_refl _, Nat.le_refl _⟩ (As := []) (m_X8_isQuiet X.2.2.2.2.2.2.2.2.2.2.1 e9) ydX8_isQuiet hs rfl rfl q2009 q2011 qs108 q131 q2012 rfl (Nat.le_of_ble_eq_true rfl) (Nat.le_of_ble_eq_true rfl) hl.1 rfl (Nat.le_of_ble_eq_true rfl) dX8_leave_43) (fun r103 h H locs cells slots hf hI => ?_)
          refine lv_if_eq (tgt := 53) hx hb dX8_leave_46 (by decide) (fun c46 => ?_) (fun c46 => ?_)
          · have hf := g_t c46 hf
            exact b_X8_leave_53 X ih _ _ _ _ _ _ _ _ _ _ hf hI (lv_sub hl [0, 1, 2, 3] rfl)
          · have hf := g_f c46 hf
            refine lv_iload_n hx hb dX8_leave_49 rfl (lv_at hl 3 rfl) ?_
            refine lv_goto (tgt := 54) hx hb dX8_leave_50 (by decide) ?_
            exact b_X8_leave_54 X ih _ _ _ _ _ _ _ _ _ _ hf hI (lv_sub hl [0, 1, 3] rfl)
def f_X8_leave (a0 : Nat) : gM Int32 :=
    gB (gPI a0 7 0 (0 : Int32)) fun _ =>
    gB (gCk a0 7) fun _ =>
    gB (f_X8_nailedOnes a0) fun r1 =>
    f_X8_leave_14 gN a0 r1 r1 r1
set_option maxHeartbeats 4000000 in
set_option maxRecDepth 100000 in
theorem m_X8_leave {G : gG} {l : Launch} (hfl : l.stackTraces = false) {a0 : Nat} {h h' : g_H} {r : Int32} (hf : (f_X8_leave a0).1 h = some (r, h')) : gMet G l yX8_leave (Cond.code yX8_leave cX8_leave 4 (some .int)) 12 271 [.ref a0] h (.inl (g_wI r)) h' := by
  refine g_head hfl ((f_X8_leave a0).2 h r h' hf) (plainFor_of_name (by decide)) (Nat.le_of_ble_eq_true rfl) (fun p e s m below meth c H locs cells slots ls X hI hl9 => ?_)
  have hl : lv_has ls 4 [(0, .ref a0)] := hl9
  have hx := X.1
  have hb := X.2.1
  have hown := X.2.2.2.1
  have hts := X.2.2.2.2.1
  unfold f_X8_leave at hf
  refine lv_aload_n hx hb dX8_leave_0 rfl (lv_at hl 0 rfl) ?_
  refine lv_iconst (v := (0 : Int32)) hx hb dX8_leave_1 (by decide) ?_
  refine g_pi X hI hf fX8_0 q1444 rfl dX8_leave_2 (fun h H locs hf hI => ?_)
  refine lv_aload_n hx hb dX8_leave_5 rfl (lv_at hl 0 rfl) ?_
  obtain ⟨hs, hf⟩ := gCk_b hf
  refine g_cBI hI hf (fun v9 h9 e9 l9 l9' => g_rV X hI l9 l9' ⟨Nat.le_refl _, Nat.le_refl _⟩ (As := []) (m_X8_nailedOnes X.2.2.2.2.2.2.2.2.2.2.1 e9) ydX8_nailedOnes hs rfl rfl q2005 q2007 qs107 q131 q2008 rfl (Nat.le_of_ble_eq_true rfl) (Nat.le_of_ble_eq_true rfl) hl.1 rfl (Nat.le_of_ble_eq_true rfl) dX8_leave_6) (fun r1 h H locs cells slots hf hI => ?_)
  refine lv_istore_n (lv' := [(1, .int r1), (0, .ref a0)]) hx hb dX8_leave_9 rfl hl (by decide) rfl (fun ls hl => ?_)
  refine lv_iload_n hx hb dX8_leave_10 rfl (lv_at hl 0 rfl) ?_
  refine lv_istore_n (lv' := [(2, .int r1), (1, .int r1), (0, .ref a0)]) hx hb dX8_leave_11 rfl hl (by decide) rfl (fun ls hl => ?_)
  refine lv_iload_n hx hb dX8_leave_12 rfl (lv_at hl 1 rfl) ?_
  refine lv_istore_n (lv' := [(3, .int r1), (2, .int r1), (1, .int r1), (0, .ref a0)]) hx hb dX8_leave_13 rfl hl (by decide) rfl (fun ls hl => ?_)
  exact b_X8_leave_14 X gN _ _ _ _ _ _ _ _ _ _ hf hI (lv_sub hl [3, 2, 1, 0] rfl)
/-! X1_shown -/
abbrev w_X1_shown_43 (G : gG) (l : Launch) (p : Program) (e : Env) (s : State) (m : MethodId) (args : Array Value) (below : List Frame) (meth : Method) (c : Code) (h0 : g_H) (r : Int32) (h' : g_H) (k : Nat → Int32 → Int32 → Int32 → Int32 → gM Int32) : Prop := ∀ (a0 : Nat) (x1 : Int32) (x3 : Int32) (u0 : Int32) (u1 : Int32) (h : g_H) (H : Heap) (locs : List Loc) (cells slots : Nat) (ls : Array Slot), (k a0 x1 x3 u0 u1).1 h = some (r, h') → gI G h0 h H locs cells slots → lv_has ls 4 [(0, .ref a0), (1, .int x1), (3, .int x3)] → W p l e (g_rm 1 20 h0 h') s m args below meth c H locs cells slots (gQ G below args s h0 h' (.inl (g_wI r))) (F0 m 43 ls [.int u1, .int u0])
abbrev w_X1_shown_51 (G : gG) (l : Launch) (p : Program) (e : Env) (s : State) (m : MethodId) (args : Array Value) (below : List Frame) (meth : Method) (c : Code) (h0 : g_H) (r : Int32) (h' : g_H) (k : Int32 → gM Int32) : Prop := ∀ (x2 : Int32) (h : g_H) (H : Heap) (locs : List Loc) (cells slots : Nat) (ls : Array Slot), (k x2).1 h = some (r, h') → gI G h0 h H locs cells slots → lv_has ls 4 [(2, .int x2)] → W p l e (g_rm 1 20 h0 h') s m args below meth c H locs cells slots (gQ G below args s h0 h' (.inl (g_wI r))) (F0 m 51 ls [])
abbrev w_X1_shown_4 (G : gG) (l : Launch) (p : Program) (e : Env) (s : State) (m : MethodId) (args : Array Value) (below : List Frame) (meth : Method) (c : Code) (h0 : g_H) (r : Int32) (h' : g_H) (k : Nat → Int32 → Int32 → Int32 → gM Int32) : Prop := ∀ (a0 : Nat) (x1 : Int32) (x2 : Int32) (x3 : Int32) (h : g_H) (H : Heap) (locs : List Loc) (cells slots : Nat) (ls : Array Slot), (k a0 x1 x2 x3).1 h = some (r, h') → gI G h0 h H locs cells slots → lv_has ls 4 [(0, .ref a0), (1, .int x1), (2, .int x2), (3, .int x3)] → W p l e (g_rm 1 20 h0 h') s m args below meth c H locs cells slots (gQ G below args s h0 h' (.inl (g_wI r))) (F0 m 4 ls [])
def f_X1_shown_43 (k4 : Nat → Int32 → Int32 → Int32 → gM Int32) (a0 : Nat) (x1 : Int32) (x3 : Int32) (u0 : Int32) (u1 : Int32) : gM Int32 :=
    k4 a0 x1 (u0 ||| u1) (x3 + (1 : Int32))
set_option maxHeartbeats 4000000 in
set_option maxRecDepth 100000 in
theorem b_X1_shown_43 {G : gG} {l : Launch} {p : Program} {e : Env} {s : State} {m : MethodId} {args : Array Value} {below : List Frame} {meth : Method} {c : Code} {h0 : g_H} {r : Int32} {h' : g_H} (X : gX G l yX1_shown.cls cX1_shown 4 (some .int) [] yX1_shown.name p s m args meth c) {k4 : Nat → Int32 → Int32 → Int32 → gM Int32} (K4 : w_X1_shown_4 G l p e s m args below meth c h0 r h' k4) : w_X1_shown_43 G l p e s m args below meth c h0 r h' (f_X1_shown_43 k4) := by
  have hx := X.1
  have hb := X.2.1
  have hown := X.2.2.2.1
  have hts := X.2.2.2.2.1
  intro a0 x1 x3 u0 u1 h H locs cells slots ls hf hI hl
  unfold f_X1_shown_43 at hf
  refine lv_ior hx hb dX1_shown_43 ?_
  refine lv_istore_n (lv' := [(2, .int (u0 ||| u1)), (0, .ref a0), (1, .int x1), (3, .int x3)]) hx hb dX1_shown_44 rfl hl (by decide) rfl (fun ls hl => ?_)
  refine lv_iinc (v := (x3 + (1 : Int32))) (lv' := [(3, .int (x3 + (1 : Int32))), (2, .int (u0 ||| u1)), (0, .ref a0), (1, .int x1)]) hx hb dX1_shown_45 hl (k := 3) rfl rfl (by decide) rfl (fun ls hl => ?_)
  refine lv_goto (tgt := 4) hx hb dX1_shown_48 (by decide) ?_
  exact K4 _ _ _ _ _ _ _ _ _ _ hf hI (lv_sub hl [2, 3, 1, 0] rfl)
def f_X1_shown_51 (x2 : Int32) : gM Int32 :=
    (gRet x2)
set_option maxHeartbeats 4000000 in
set_option maxRecDepth 100000 in
theorem b_X1_shown_51 {G : gG} {l : Launch} {p : Program} {e : Env} {s : State} {m : MethodId} {args : Array Value} {below : List Frame} {meth : Method} {c : Code} {h0 : g_H} {r : Int32} {h' : g_H} (X : gX G l yX1_shown.cls cX1_shown 4 (some .int) [] yX1_shown.name p s m args meth c) : w_X1_shown_51 G l p e s m args below meth c h0 r h' (f_X1_shown_51) := by
  have hx := X.1
  have hb := X.2.1
  have hown := X.2.2.2.1
  have hts := X.2.2.2.2.1
  intro x2 h H locs cells slots ls hf hI hl
  unfold f_X1_shown_51 at hf
  refine lv_iload_n hx hb dX1_shown_51 rfl (lv_at hl 0 rfl) ?_
  cases gRet_e hf
  exact g_retI X hI rfl dX1_shown_52
def f_X1_shown_4 : Nat → Nat → Int32 → Int32 → Int32 → gM Int32
  | 0, _, _, _, _ => gFail
  | n + 1, a0, x1, x2, x3 =>
    gB (gFR a0 0 1) fun v101 =>
    gB (gFI v101 2 6) fun v102 =>
    gIf (v102 ≤ x3)
    (f_X1_shown_51 x2)
    (gIf (((x1 >>> (x3 &&& 31)) &&& (1 : Int32)) = (1 : Int32))
    (gB (gFR a0 0 1) fun v103 =>
    gB (gFR v103 2 0) fun v104 =>
    gB (gAR v104 4 x3) fun v105 =>
    gB (gFI v105 3 0) fun v106 =>
    f_X1_shown_43 (f_X1_shown_4 n) a0 x1 x3 x2 ((1 : Int32) <<< (v106 &&& 31)))
    (f_X1_shown_43 (f_X1_shown_4 n) a0 x1 x3 x2 (0 : Int32)))
set_option maxHeartbeats 4000000 in
set_option maxRecDepth 100000 in
theorem b_X1_shown_4 {G : gG} {l : Launch} {p : Program} {e : Env} {s : State} {m : MethodId} {args : Array Value} {below : List Frame} {meth : Method} {c : Code} {h0 : g_H} {r : Int32} {h' : g_H} (X : gX G l yX1_shown.cls cX1_shown 4 (some .int) [] yX1_shown.name p s m args meth c) : ∀ n : Nat, w_X1_shown_4 G l p e s m args below meth c h0 r h' (f_X1_shown_4 n) := by
  have hx := X.1
  have hb := X.2.1
  have hown := X.2.2.2.1
  have hts := X.2.2.2.2.1
  intro n
  induction n with
  | zero =>
    intro a0 x1 x2 x3 h H locs cells slots ls hf hI hl
    exact (gFail_f hf).elim
  | succ n ih =>
    intro a0 x1 x2 x3 h H locs cells slots ls hf hI hl
    rw [f_X1_shown_4] at hf
    refine lv_iload_n hx hb dX1_shown_4 rfl (lv_at hl 3 rfl) ?_
    refine lv_aload_n hx hb dX1_shown_5 rfl (lv_at hl 0 rfl) ?_
    refine g_fr X hI hf fX1_1 q461 rfl rfl dX1_shown_6 (fun v101 hf => ?_)
    refine g_fiN X hI hf fX3_6 q268 rfl rfl dX1_shown_9 (fun v102 hf => ?_)
    refine lv_icmp_ge (tgt := 51) hx hb dX1_shown_12 (by decide) (fun c12 => ?_) (fun c12 => ?_)
    · have hf := g_t c12 hf
      exact b_X1_shown_51 X _ _ _ _ _ _ _ hf hI (lv_sub hl [2] rfl)
    · have hf := g_f c12 hf
      refine lv_iload_n hx hb dX1_shown_15 rfl (lv_at hl 2 rfl) ?_
      refine lv_iload_n hx hb dX1_shown_16 rfl (lv_at hl 1 rfl) ?_
      refine lv_iload_n hx hb dX1_shown_17 rfl (lv_at hl 3 rfl) ?_
      refine lv_ishr hx hb dX1_shown_18 ?_
      refine lv_iconst (v := (1 : Int32)) hx hb dX1_shown_19 (by decide) ?_
      refine lv_iand hx hb dX1_shown_20 ?_
      refine lv_iconst (v := (1 : Int32)) hx hb dX1_shown_21 (by decide) ?_
      refine lv_icmp_ne (tgt := 42) hx hb dX1_shown_22 (by decide) (fun c22 => ?_) (fun c22 => ?_)
      · have hf := g_f c22 hf
        refine lv_iconst (v := (0 : Int32)) hx hb dX1_shown_42 (by decide) ?_
        exact b_X1_shown_43 X ih _ _ _ _ _ _ _ _ _ _ _ hf hI (lv_sub hl [0, 1, 3] rfl)
      · have hf := g_t c22 hf
        refine lv_iconst (v := (1 : Int32)) hx hb dX1_shown_25 (by decide) ?_
        refine lv_aload_n hx hb dX1_shown_26 rfl (lv_at hl 0 rfl) ?_
        refine g_fr X hI hf fX1_1 q461 rfl rfl dX1_shown_27 (fun v103 hf => ?_)
        refine g_frN X hI hf fX3_0 q254 rfl rfl dX1_shown_30 (fun v104 hf => ?_)
        refine lv_iload_n hx hb dX1_shown_33 rfl (lv_at hl 3 rfl) ?_
        refine g_ar4 X hI hf dX1_shown_34 (fun v105 hf => ?_)
        refine g_fiN X hI hf fX4_0 q198 rfl rfl dX1_shown_35 (fun v106 hf => ?_)
        refine lv_ishl hx hb dX1_shown_38 ?_
        refine lv_goto (tgt := 43) hx hb dX1_shown_39 (by decide) ?_
        exact b_X1_shown_43 X ih _ _ _ _ _ _ _ _ _ _ _ hf hI (lv_sub hl [0, 1, 3] rfl)
def f_X1_shown (a0 : Nat) (x1 : Int32) : gM Int32 :=
    f_X1_shown_4 gN a0 x1 (0 : Int32) (0 : Int32)
set_option maxHeartbeats 4000000 in
set_option maxRecDepth 100000 in
theorem m_X1_shown {G : gG} {l : Launch} (hfl : l.stackTraces = false) {a0 : Nat} {x1 : Int32} {h h' : g_H} {r : Int32} (hf : (f_X1_shown a0 x1).1 h = some (r, h')) : gMet G l yX1_shown (Cond.code yX1_shown cX1_shown 4 (some .int)) 1 20 [.ref a0, .int x1] h (.inl (g_wI r)) h' := by
  refine g_head hfl ((f_X1_shown a0 x1).2 h r h' hf) (plainFor_of_name (by decide)) (Nat.le_of_ble_eq_true rfl) (fun p e s m below meth c H locs cells slots ls X hI hl9 => ?_)
  have hl : lv_has ls 4 [(0, .ref a0), (1, .int x1)] := hl9
  have hx := X.1
  have hb := X.2.1
  have hown := X.2.2.2.1
  have hts := X.2.2.2.2.1
  unfold f_X1_shown at hf
  refine lv_iconst (v := (0 : Int32)) hx hb dX1_shown_0 (by decide) ?_
  refine lv_istore_n (lv' := [(2, .int (0 : Int32)), (0, .ref a0), (1, .int x1)]) hx hb dX1_shown_1 rfl hl (by decide) rfl (fun ls hl => ?_)
  refine lv_iconst (v := (0 : Int32)) hx hb dX1_shown_2 (by decide) ?_
  refine lv_istore_n (lv' := [(3, .int (0 : Int32)), (2, .int (0 : Int32)), (0, .ref a0), (1, .int x1)]) hx hb dX1_shown_3 rfl hl (by decide) rfl (fun ls hl => ?_)
  exact b_X1_shown_4 X gN _ _ _ _ _ _ _ _ _ _ hf hI (lv_sub hl [2, 3, 1, 0] rfl)
/-! X1_cover -/
abbrev w_X1_cover_47 (G : gG) (l : Launch) (p : Program) (e : Env) (s : State) (m : MethodId) (args : Array Value) (below : List Frame) (meth : Method) (c : Code) (h0 : g_H) (r : Int32) (h' : g_H) (k : Nat → Int32 → Int32 → Int32 → gM Int32) : Prop := ∀ (a0 : Nat) (x2 : Int32) (u0 : Int32) (u1 : Int32) (h : g_H) (H : Heap) (locs : List Loc) (cells slots : Nat) (ls : Array Slot), (k a0 x2 u0 u1).1 h = some (r, h') → gI G h0 h H locs cells slots → lv_has ls 4 [(0, .ref a0), (2, .int x2)] → W p l e (g_rm 2 43 h0 h') s m args below meth c H locs cells slots (gQ G below args s h0 h' (.inl (g_wI r))) (F0 m 47 ls [.int u1, .int u0])
abbrev w_X1_cover_120 (G : gG) (l : Launch) (p : Program) (e : Env) (s : State) (m : MethodId) (args : Array Value) (below : List Frame) (meth : Method) (c : Code) (h0 : g_H) (r : Int32) (h' : g_H) (k : Nat → Int32 → Int32 → Int32 → gM Int32) : Prop := ∀ (a0 : Nat) (x1 : Int32) (x2 : Int32) (x3 : Int32) (h : g_H) (H : Heap) (locs : List Loc) (cells slots : Nat) (ls : Array Slot), (k a0 x1 x2 x3).1 h = some (r, h') → gI G h0 h H locs cells slots → lv_has ls 4 [(0, .ref a0), (1, .int x1), (2, .int x2), (3, .int x3)] → W p l e (g_rm 2 43 h0 h') s m args below meth c H locs cells slots (gQ G below args s h0 h' (.inl (g_wI r))) (F0 m 120 ls [])
abbrev w_X1_cover_106 (G : gG) (l : Launch) (p : Program) (e : Env) (s : State) (m : MethodId) (args : Array Value) (below : List Frame) (meth : Method) (c : Code) (h0 : g_H) (r : Int32) (h' : g_H) (k : Nat → Int32 → Int32 → Int32 → gM Int32) : Prop := ∀ (a0 : Nat) (x1 : Int32) (x2 : Int32) (x3 : Int32) (h : g_H) (H : Heap) (locs : List Loc) (cells slots : Nat) (ls : Array Slot), (k a0 x1 x2 x3).1 h = some (r, h') → gI G h0 h H locs cells slots → lv_has ls 4 [(0, .ref a0), (1, .int x1), (2, .int x2), (3, .int x3)] → W p l e (g_rm 2 43 h0 h') s m args below meth c H locs cells slots (gQ G below args s h0 h' (.inl (g_wI r))) (F0 m 106 ls [])
abbrev w_X1_cover_126 (G : gG) (l : Launch) (p : Program) (e : Env) (s : State) (m : MethodId) (args : Array Value) (below : List Frame) (meth : Method) (c : Code) (h0 : g_H) (r : Int32) (h' : g_H) (k : Int32 → gM Int32) : Prop := ∀ (x2 : Int32) (h : g_H) (H : Heap) (locs : List Loc) (cells slots : Nat) (ls : Array Slot), (k x2).1 h = some (r, h') → gI G h0 h H locs cells slots → lv_has ls 4 [(2, .int x2)] → W p l e (g_rm 2 43 h0 h') s m args below meth c H locs cells slots (gQ G below args s h0 h' (.inl (g_wI r))) (F0 m 126 ls [])
abbrev w_X1_cover_77 (G : gG) (l : Launch) (p : Program) (e : Env) (s : State) (m : MethodId) (args : Array Value) (below : List Frame) (meth : Method) (c : Code) (h0 : g_H) (r : Int32) (h' : g_H) (k : Nat → Int32 → Int32 → Int32 → gM Int32) : Prop := ∀ (a0 : Nat) (x1 : Int32) (x2 : Int32) (x3 : Int32) (h : g_H) (H : Heap) (locs : List Loc) (cells slots : Nat) (ls : Array Slot), (k a0 x1 x2 x3).1 h = some (r, h') → gI G h0 h H locs cells slots → lv_has ls 4 [(0, .ref a0), (1, .int x1), (2, .int x2), (3, .int x3)] → W p l e (g_rm 2 43 h0 h') s m args below meth c H locs cells slots (gQ G below args s h0 h' (.inl (g_wI r))) (F0 m 77 ls [])
abbrev w_X1_cover_55 (G : gG) (l : Launch) (p : Program) (e : Env) (s : State) (m : MethodId) (args : Array Value) (below : List Frame) (meth : Method) (c : Code) (h0 : g_H) (r : Int32) (h' : g_H) (k : Nat → Int32 → gM Int32) : Prop := ∀ (a0 : Nat) (x1 : Int32) (h : g_H) (H : Heap) (locs : List Loc) (cells slots : Nat) (ls : Array Slot), (k a0 x1).1 h = some (r, h') → gI G h0 h H locs cells slots → lv_has ls 4 [(0, .ref a0), (1, .int x1)] → W p l e (g_rm 2 43 h0 h') s m args below meth c H locs cells slots (gQ G below args s h0 h' (.inl (g_wI r))) (F0 m 55 ls [])
abbrev w_X1_cover_4 (G : gG) (l : Launch) (p : Program) (e : Env) (s : State) (m : MethodId) (args : Array Value) (below : List Frame) (meth : Method) (c : Code) (h0 : g_H) (r : Int32) (h' : g_H) (k : Nat → Int32 → Int32 → gM Int32) : Prop := ∀ (a0 : Nat) (x1 : Int32) (x2 : Int32) (h : g_H) (H : Heap) (locs : List Loc) (cells slots : Nat) (ls : Array Slot), (k a0 x1 x2).1 h = some (r, h') → gI G h0 h H locs cells slots → lv_has ls 4 [(0, .ref a0), (1, .int x1), (2, .int x2)] → W p l e (g_rm 2 43 h0 h') s m args below meth c H locs cells slots (gQ G below args s h0 h' (.inl (g_wI r))) (F0 m 4 ls [])
def f_X1_cover_47 (k4 : Nat → Int32 → Int32 → gM Int32) (a0 : Nat) (x2 : Int32) (u0 : Int32) (u1 : Int32) : gM Int32 :=
    k4 a0 (u0 ||| u1) (x2 + (1 : Int32))
set_option maxHeartbeats 4000000 in
set_option maxRecDepth 100000 in
theorem b_X1_cover_47 {G : gG} {l : Launch} {p : Program} {e : Env} {s : State} {m : MethodId} {args : Array Value} {below : List Frame} {meth : Method} {c : Code} {h0 : g_H} {r : Int32} {h' : g_H} (X : gX G l yX1_cover.cls cX1_cover 4 (some .int) [] yX1_cover.name p s m args meth c) {k4 : Nat → Int32 → Int32 → gM Int32} (K4 : w_X1_cover_4 G l p e s m args below meth c h0 r h' k4) : w_X1_cover_47 G l p e s m args below meth c h0 r h' (f_X1_cover_47 k4) := by
  have hx := X.1
  have hb := X.2.1
  have hown := X.2.2.2.1
  have hts := X.2.2.2.2.1
  intro a0 x2 u0 u1 h H locs cells slots ls hf hI hl
  unfold f_X1_cover_47 at hf
  refine lv_ior hx hb dX1_cover_47 ?_
  refine lv_istore_n (lv' := [(1, .int (u0 ||| u1)), (0, .ref a0), (2, .int x2)]) hx hb dX1_cover_48 rfl hl (by decide) rfl (fun ls hl => ?_)
  refine lv_iinc (v := (x2 + (1 : Int32))) (lv' := [(2, .int (x2 + (1 : Int32))), (1, .int (u0 ||| u1)), (0, .ref a0)]) hx hb dX1_cover_49 hl (k := 2) rfl rfl (by decide) rfl (fun ls hl => ?_)
  refine lv_goto (tgt := 4) hx hb dX1_cover_52 (by decide) ?_
  exact K4 _ _ _ _ _ _ _ _ _ hf hI (lv_sub hl [2, 1, 0] rfl)
def f_X1_cover_120 (k77 : Nat → Int32 → Int32 → Int32 → gM Int32) (a0 : Nat) (x1 : Int32) (x2 : Int32) (x3 : Int32) : gM Int32 :=
    k77 a0 x1 x2 (x3 + (1 : Int32))
set_option maxHeartbeats 4000000 in
set_option maxRecDepth 100000 in
theorem b_X1_cover_120 {G : gG} {l : Launch} {p : Program} {e : Env} {s : State} {m : MethodId} {args : Array Value} {below : List Frame} {meth : Method} {c : Code} {h0 : g_H} {r : Int32} {h' : g_H} (X : gX G l yX1_cover.cls cX1_cover 4 (some .int) [] yX1_cover.name p s m args meth c) {k77 : Nat → Int32 → Int32 → Int32 → gM Int32} (K77 : w_X1_cover_77 G l p e s m args below meth c h0 r h' k77) : w_X1_cover_120 G l p e s m args below meth c h0 r h' (f_X1_cover_120 k77) := by
  have hx := X.1
  have hb := X.2.1
  have hown := X.2.2.2.1
  have hts := X.2.2.2.2.1
  intro a0 x1 x2 x3 h H locs cells slots ls hf hI hl
  unfold f_X1_cover_120 at hf
  refine lv_iinc (v := (x3 + (1 : Int32))) (lv' := [(3, .int (x3 + (1 : Int32))), (0, .ref a0), (1, .int x1), (2, .int x2)]) hx hb dX1_cover_120 hl (k := 3) rfl rfl (by decide) rfl (fun ls hl => ?_)
  refine lv_goto (tgt := 77) hx hb dX1_cover_123 (by decide) ?_
  exact K77 _ _ _ _ _ _ _ _ _ _ hf hI (lv_sub hl [1, 2, 3, 0] rfl)
def f_X1_cover_106 (k77 : Nat → Int32 → Int32 → Int32 → gM Int32) (a0 : Nat) (x1 : Int32) (x2 : Int32) (x3 : Int32) : gM Int32 :=
    gB (gCk a0 0) fun _ =>
    gB (f_X1_shown a0 x3) fun r101 =>
    gIf ((x1 &&& (r101 ^^^ (-1 : Int32))) = 0)
    (f_X1_cover_120 k77 a0 x1 x3 x3)
    (f_X1_cover_120 k77 a0 x1 x2 x3)
set_option maxHeartbeats 4000000 in
set_option maxRecDepth 100000 in
theorem b_X1_cover_106 {G : gG} {l : Launch} {p : Program} {e : Env} {s : State} {m : MethodId} {args : Array Value} {below : List Frame} {meth : Method} {c : Code} {h0 : g_H} {r : Int32} {h' : g_H} (X : gX G l yX1_cover.cls cX1_cover 4 (some .int) [] yX1_cover.name p s m args meth c) {k77 : Nat → Int32 → Int32 → Int32 → gM Int32} (K77 : w_X1_cover_77 G l p e s m args below meth c h0 r h' k77) : w_X1_cover_106 G l p e s m args below meth c h0 r h' (f_X1_cover_106 k77) := by
  have hx := X.1
  have hb := X.2.1
  have hown := X.2.2.2.1
  have hts := X.2.2.2.2.1
  intro a0 x1 x2 x3 h H locs cells slots ls hf hI hl
  unfold f_X1_cover_106 at hf
  refine lv_iload_n hx hb dX1_cover_106 rfl (lv_at hl 1 rfl) ?_
  refine lv_aload_n hx hb dX1_cover_107 rfl (lv_at hl 0 rfl) ?_
  refine lv_iload_n hx hb dX1_cover_108 rfl (lv_at hl 3 rfl) ?_
  obtain ⟨hs, hf⟩ := gCk_b hf
  refine g_cBI hI hf (fun v9 h9 e9 l9 l9' => g_rV X hI l9 l9' ⟨Nat.le_refl _, Nat.le_refl _⟩ (As := [.int x3]) (m_X1_shown X.2.2.2.2.2.2.2.2.2.2.1 e9) ydX1_shown hs rfl rfl q654 q656 qs6 q121 q657 rfl (Nat.le_of_ble_eq_true rfl) (Nat.le_of_ble_eq_true rfl) hl.1 rfl (Nat.le_of_ble_eq_true rfl) dX1_cover_109) (fun r101 h H locs cells slots hf hI => ?_)
  refine lv_iconst (v := (-1 : Int32)) hx hb dX1_cover_112 (by decide) ?_
  refine lv_ixor hx hb dX1_cover_113 ?_
  refine lv_iand hx hb dX1_cover_114 ?_
  refine lv_if_ne (tgt := 120) hx hb dX1_cover_115 (by decide) (fun c115 => ?_) (fun c115 => ?_)
  · have hf := g_f c115 hf
    exact b_X1_cover_120 X K77 _ _ _ _ _ _ _ _ _ _ hf hI (lv_sub hl [0, 1, 2, 3] rfl)
  · have hf := g_t c115 hf
    refine lv_iload_n hx hb dX1_cover_118 rfl (lv_at hl 3 rfl) ?_
    refine lv_istore_n (lv' := [(2, .int x3), (0, .ref a0), (1, .int x1), (3, .int x3)]) hx hb dX1_cover_119 rfl hl (by decide) rfl (fun ls hl => ?_)
    exact b_X1_cover_120 X K77 _ _ _ _ _ _ _ _ _ _ hf hI (lv_sub hl [1, 2, 0, 3] rfl)
def f_X1_cover_126 (x2 : Int32) : gM Int32 :=
    (gRet x2)
set_option maxHeartbeats 4000000 in
set_option maxRecDepth 100000 in
theorem b_X1_cover_126 {G : gG} {l : Launch} {p : Program} {e : Env} {s : State} {m : MethodId} {args : Array Value} {below : List Frame} {meth : Method} {c : Code} {h0 : g_H} {r : Int32} {h' : g_H} (X : gX G l yX1_cover.cls cX1_cover 4 (some .int) [] yX1_cover.name p s m args meth c) : w_X1_cover_126 G l p e s m args below meth c h0 r h' (f_X1_cover_126) := by
  have hx := X.1
  have hb := X.2.1
  have hown := X.2.2.2.1
  have hts := X.2.2.2.2.1
  intro x2 h H locs cells slots ls hf hI hl
  unfold f_X1_cover_126 at hf
  refine lv_iload_n hx hb dX1_cover_126 rfl (lv_at hl 0 rfl) ?_
  cases gRet_e hf
  exact g_retI X hI rfl dX1_cover_127
def f_X1_cover_77 : Nat → Nat → Int32 → Int32 → Int32 → gM Int32
  | 0, _, _, _, _ => gFail
  | n + 1, a0, x1, x2, x3 =>
    gB (gFR a0 0 1) fun v101 =>
    gB (gFI v101 2 6) fun v102 =>
    gIf (((1 : Int32) <<< (v102 &&& 31)) ≤ x3)
    (f_X1_cover_126 x2)
    (gIf (x2 = (-1 : Int32))
    (f_X1_cover_106 (f_X1_cover_77 n) a0 x1 x2 x3)
    (gB (f_J7_bitCount x3) fun r103 =>
    gB (f_J7_bitCount x2) fun r104 =>
    gIf (r104 ≤ r103)
    (f_X1_cover_120 (f_X1_cover_77 n) a0 x1 x2 x3)
    (f_X1_cover_106 (f_X1_cover_77 n) a0 x1 x2 x3)))
set_option maxHeartbeats 4000000 in
set_option maxRecDepth 100000 in
theorem b_X1_cover_77 {G : gG} {l : Launch} {p : Program} {e : Env} {s : State} {m : MethodId} {args : Array Value} {below : List Frame} {meth : Method} {c : Code} {h0 : g_H} {r : Int32} {h' : g_H} (X : gX G l yX1_cover.cls cX1_cover 4 (some .int) [] yX1_cover.name p s m args meth c) : ∀ n : Nat, w_X1_cover_77 G l p e s m args below meth c h0 r h' (f_X1_cover_77 n) := by
  have hx := X.1
  have hb := X.2.1
  have hown := X.2.2.2.1
  have hts := X.2.2.2.2.1
  intro n
  induction n with
  | zero =>
    intro a0 x1 x2 x3 h H locs cells slots ls hf hI hl
    exact (gFail_f hf).elim
  | succ n ih =>
    intro a0 x1 x2 x3 h H locs cells slots ls hf hI hl
    rw [f_X1_cover_77] at hf
    refine lv_iload_n hx hb dX1_cover_77 rfl (lv_at hl 3 rfl) ?_
    refine lv_iconst (v := (1 : Int32)) hx hb dX1_cover_78 (by decide) ?_
    refine lv_aload_n hx hb dX1_cover_79 rfl (lv_at hl 0 rfl) ?_
    refine g_fr X hI hf fX1_1 q461 rfl rfl dX1_cover_80 (fun v101 hf => ?_)
    refine g_fiN X hI hf fX3_6 q268 rfl rfl dX1_cover_83 (fun v102 hf => ?_)
    refine lv_ishl hx hb dX1_cover_86 ?_
    refine lv_icmp_ge (tgt := 126) hx hb dX1_cover_87 (by decide) (fun c87 => ?_) (fun c87 => ?_)
    · have hf := g_t c87 hf
      exact b_X1_cover_126 X _ _ _ _ _ _ _ hf hI (lv_sub hl [2] rfl)
    · have hf := g_f c87 hf
      refine lv_iload_n hx hb dX1_cover_90 rfl (lv_at hl 2 rfl) ?_
      refine lv_iconst (v := (-1 : Int32)) hx hb dX1_cover_91 (by decide) ?_
      refine lv_icmp_eq (tgt := 106) hx hb dX1_cover_92 (by decide) (fun c92 => ?_) (fun c92 => ?_)
      · have hf := g_t c92 hf
        exact b_X1_cover_106 X ih _ _ _ _ _ _ _ _ _ _ hf hI (lv_sub hl [0, 1, 2, 3] rfl)
      · have hf := g_f c92 hf
        refine lv_iload_n hx hb dX1_cover_95 rfl (lv_at hl 3 rfl) ?_
        refine g_cBI hI hf (fun v9 h9 e9 l9 l9' => g_rS (b := 0) X hI l9 l9' ⟨Nat.le_refl _, Nat.le_refl _⟩ (As := [.int x3]) (m_J7_bitCount X.2.2.2.2.2.2.2.2.2.2.1 e9) ydJ7_bitCount q658 q659 q137 q660 rfl (Nat.le_of_ble_eq_true rfl) (Nat.le_of_ble_eq_true rfl) hl.1 rfl (Nat.le_of_ble_eq_true rfl) dX1_cover_96) (fun r103 h H locs cells slots hf hI => ?_)
        refine lv_iload_n hx hb dX1_cover_99 rfl (lv_at hl 2 rfl) ?_
        refine g_cBI hI hf (fun v9 h9 e9 l9 l9' => g_rS (b := 0) X hI l9 l9' ⟨Nat.le_refl _, Nat.le_refl _⟩ (As := [.int x2]) (m_J7_bitCount X.2.2.2.2.2.2.2.2.2.2.1 e9) ydJ7_bitCount q658 q659 q137 q660 rfl (Nat.le_of_ble_eq_true rfl) (Nat.le_of_ble_eq_true rfl) hl.1 rfl (Nat.le_of_ble_eq_true rfl) dX1_cover_100) (fun r104 h H locs cells slots hf hI => ?_)
        refine lv_icmp_ge (tgt := 120) hx hb dX1_cover_103 (by decide) (fun c103 => ?_) (fun c103 => ?_)
        · have hf := g_t c103 hf
          exact b_X1_cover_120 X ih _ _ _ _ _ _ _ _ _ _ hf hI (lv_sub hl [0, 1, 2, 3] rfl)
        · have hf := g_f c103 hf
          exact b_X1_cover_106 X ih _ _ _ _ _ _ _ _ _ _ hf hI (lv_sub hl [0, 1, 2, 3] rfl)
def f_X1_cover_55 (a0 : Nat) (x1 : Int32) : gM Int32 :=
    gB (gFR a0 0 1) fun v101 =>
    gB (gFI v101 2 6) fun v102 =>
    gB (gCk a0 0) fun _ =>
    gB (f_X1_shown a0 (((1 : Int32) <<< (v102 &&& 31)) - (1 : Int32))) fun r103 =>
    f_X1_cover_77 gN a0 (x1 &&& r103) (-1 : Int32) (0 : Int32)
set_option maxHeartbeats 4000000 in
set_option maxRecDepth 100000 in
theorem b_X1_cover_55 {G : gG} {l : Launch} {p : Program} {e : Env} {s : State} {m : MethodId} {args : Array Value} {below : List Frame} {meth : Method} {c : Code} {h0 : g_H} {r : Int32} {h' : g_H} (X : gX G l yX1_cover.cls cX1_cover 4 (some .int) [] yX1_cover.name p s m args meth c) : w_X1_cover_55 G l p e s m args below meth c h0 r h' (f_X1_cover_55) := by
  have hx := X.1
  have hb := X.2.1
  have hown := X.2.2.2.1
  have hts := X.2.2.2.2.1
  intro a0 x1 h H locs cells slots ls hf hI hl
  unfold f_X1_cover_55 at hf
  refine lv_iload_n hx hb dX1_cover_55 rfl (lv_at hl 1 rfl) ?_
  refine lv_aload_n hx hb dX1_cover_56 rfl (lv_at hl 0 rfl) ?_
  refine lv_iconst (v := (1 : Int32)) hx hb dX1_cover_57 (by decide) ?_
  refine lv_aload_n hx hb dX1_cover_58 rfl (lv_at hl 0 rfl) ?_
  refine g_fr X hI hf fX1_1 q461 rfl rfl dX1_cover_59 (fun v101 hf => ?_)
  refine g_fiN X hI hf fX3_6 q268 rfl rfl dX1_cover_62 (fun v102 hf => ?_)
  refine lv_ishl hx hb dX1_cover_65 ?_
  refine lv_iconst (v := (1 : Int32)) hx hb dX1_cover_66 (by decide) ?_
  refine lv_isub hx hb dX1_cover_67 ?_
  obtain ⟨hs, hf⟩ := gCk_b hf
  refine g_cBI hI hf (fun v9 h9 e9 l9 l9' => g_rV X hI l9 l9' ⟨Nat.le_refl _, Nat.le_refl _⟩ (As := [.int (((1 : Int32) <<< (v102 &&& 31)) - (1 : Int32))]) (m_X1_shown X.2.2.2.2.2.2.2.2.2.2.1 e9) ydX1_shown hs rfl rfl q654 q656 qs6 q121 q657 rfl (Nat.le_of_ble_eq_true rfl) (Nat.le_of_ble_eq_true rfl) hl.1 rfl (Nat.le_of_ble_eq_true rfl) dX1_cover_68) (fun r103 h H locs cells slots hf hI => ?_)
  refine lv_iand hx hb dX1_cover_71 ?_
  refine lv_istore_n (lv' := [(1, .int (x1 &&& r103)), (0, .ref a0)]) hx hb dX1_cover_72 rfl hl (by decide) rfl (fun ls hl => ?_)
  refine lv_iconst (v := (-1 : Int32)) hx hb dX1_cover_73 (by decide) ?_
  refine lv_istore_n (lv' := [(2, .int (-1 : Int32)), (1, .int (x1 &&& r103)), (0, .ref a0)]) hx hb dX1_cover_74 rfl hl (by decide) rfl (fun ls hl => ?_)
  refine lv_iconst (v := (0 : Int32)) hx hb dX1_cover_75 (by decide) ?_
  refine lv_istore_n (lv' := [(3, .int (0 : Int32)), (2, .int (-1 : Int32)), (1, .int (x1 &&& r103)), (0, .ref a0)]) hx hb dX1_cover_76 rfl hl (by decide) rfl (fun ls hl => ?_)
  exact b_X1_cover_77 X gN _ _ _ _ _ _ _ _ _ _ hf hI (lv_sub hl [3, 2, 1, 0] rfl)
def f_X1_cover_4 : Nat → Nat → Int32 → Int32 → gM Int32
  | 0, _, _, _ => gFail
  | n + 1, a0, x1, x2 =>
    gB (gFR a0 0 1) fun v101 =>
    gB (gFI v101 2 7) fun v102 =>
    gIf (v102 ≤ x2)
    (f_X1_cover_55 a0 x1)
    (gB (gFR a0 0 1) fun v103 =>
    gB (gFR v103 2 1) fun v104 =>
    gB (gAR v104 5 x2) fun v105 =>
    gB (gFI v105 4 3) fun v106 =>
    gIf (v106 = 0)
    (gB (gFR a0 0 1) fun v107 =>
    gB (gFR v107 2 1) fun v108 =>
    gB (gAR v108 5 x2) fun v109 =>
    gB (gFI v109 4 0) fun v110 =>
    f_X1_cover_47 (f_X1_cover_4 n) a0 x2 x1 v110)
    (f_X1_cover_47 (f_X1_cover_4 n) a0 x2 x1 (0 : Int32)))
set_option maxHeartbeats 4000000 in
set_option maxRecDepth 100000 in
theorem b_X1_cover_4 {G : gG} {l : Launch} {p : Program} {e : Env} {s : State} {m : MethodId} {args : Array Value} {below : List Frame} {meth : Method} {c : Code} {h0 : g_H} {r : Int32} {h' : g_H} (X : gX G l yX1_cover.cls cX1_cover 4 (some .int) [] yX1_cover.name p s m args meth c) : ∀ n : Nat, w_X1_cover_4 G l p e s m args below meth c h0 r h' (f_X1_cover_4 n) := by
  have hx := X.1
  have hb := X.2.1
  have hown := X.2.2.2.1
  have hts := X.2.2.2.2.1
  intro n
  induction n with
  | zero =>
    intro a0 x1 x2 h H locs cells slots ls hf hI hl
    exact (gFail_f hf).elim
  | succ n ih =>
    intro a0 x1 x2 h H locs cells slots ls hf hI hl
    rw [f_X1_cover_4] at hf
    refine lv_iload_n hx hb dX1_cover_4 rfl (lv_at hl 2 rfl) ?_
    refine lv_aload_n hx hb dX1_cover_5 rfl (lv_at hl 0 rfl) ?_
    refine g_fr X hI hf fX1_1 q461 rfl rfl dX1_cover_6 (fun v101 hf => ?_)
    refine g_fiN X hI hf fX3_7 q271 rfl rfl dX1_cover_9 (fun v102 hf => ?_)
    refine lv_icmp_ge (tgt := 55) hx hb dX1_cover_12 (by decide) (fun c12 => ?_) (fun c12 => ?_)
    · have hf := g_t c12 hf
      exact b_X1_cover_55 X _ _ _ _ _ _ _ _ hf hI (lv_sub hl [0, 1] rfl)
    · have hf := g_f c12 hf
      refine lv_iload_n hx hb dX1_cover_15 rfl (lv_at hl 1 rfl) ?_
      refine lv_aload_n hx hb dX1_cover_16 rfl (lv_at hl 0 rfl) ?_
      refine g_fr X hI hf fX1_1 q461 rfl rfl dX1_cover_17 (fun v103 hf => ?_)
      refine g_frN X hI hf fX3_1 q257 rfl rfl dX1_cover_20 (fun v104 hf => ?_)
      refine lv_iload_n hx hb dX1_cover_23 rfl (lv_at hl 2 rfl) ?_
      refine g_ar5 X hI hf dX1_cover_24 (fun v105 hf => ?_)
      refine g_fiN X hI hf fX5_3 q243 rfl rfl dX1_cover_25 (fun v106 hf => ?_)
      refine lv_if_ne (tgt := 46) hx hb dX1_cover_28 (by decide) (fun c28 => ?_) (fun c28 => ?_)
      · have hf := g_f c28 hf
        refine lv_iconst (v := (0 : Int32)) hx hb dX1_cover_46 (by decide) ?_
        exact b_X1_cover_47 X ih _ _ _ _ _ _ _ _ _ _ hf hI (lv_sub hl [0, 2] rfl)
      · have hf := g_t c28 hf
        refine lv_aload_n hx hb dX1_cover_31 rfl (lv_at hl 0 rfl) ?_
        refine g_fr X hI hf fX1_1 q461 rfl rfl dX1_cover_32 (fun v107 hf => ?_)
        refine g_frN X hI hf fX3_1 q257 rfl rfl dX1_cover_35 (fun v108 hf => ?_)
        refine lv_iload_n hx hb dX1_cover_38 rfl (lv_at hl 2 rfl) ?_
        refine g_ar5 X hI hf dX1_cover_39 (fun v109 hf => ?_)
        refine g_fiN X hI hf fX5_0 q230 rfl rfl dX1_cover_40 (fun v110 hf => ?_)
        refine lv_goto (tgt := 47) hx hb dX1_cover_43 (by decide) ?_
        exact b_X1_cover_47 X ih _ _ _ _ _ _ _ _ _ _ hf hI (lv_sub hl [0, 2] rfl)
def f_X1_cover (a0 : Nat) : gM Int32 :=
    f_X1_cover_4 gN a0 (0 : Int32) (0 : Int32)
set_option maxHeartbeats 4000000 in
set_option maxRecDepth 100000 in
theorem m_X1_cover {G : gG} {l : Launch} (hfl : l.stackTraces = false) {a0 : Nat} {h h' : g_H} {r : Int32} (hf : (f_X1_cover a0).1 h = some (r, h')) : gMet G l yX1_cover (Cond.code yX1_cover cX1_cover 4 (some .int)) 2 43 [.ref a0] h (.inl (g_wI r)) h' := by
  refine g_head hfl ((f_X1_cover a0).2 h r h' hf) (plainFor_of_name (by decide)) (Nat.le_of_ble_eq_true rfl) (fun p e s m below meth c H locs cells slots ls X hI hl9 => ?_)
  have hl : lv_has ls 4 [(0, .ref a0)] := hl9
  have hx := X.1
  have hb := X.2.1
  have hown := X.2.2.2.1
  have hts := X.2.2.2.2.1
  unfold f_X1_cover at hf
  refine lv_iconst (v := (0 : Int32)) hx hb dX1_cover_0 (by decide) ?_
  refine lv_istore_n (lv' := [(1, .int (0 : Int32)), (0, .ref a0)]) hx hb dX1_cover_1 rfl hl (by decide) rfl (fun ls hl => ?_)
  refine lv_iconst (v := (0 : Int32)) hx hb dX1_cover_2 (by decide) ?_
  refine lv_istore_n (lv' := [(2, .int (0 : Int32)), (1, .int (0 : Int32)), (0, .ref a0)]) hx hb dX1_cover_3 rfl hl (by decide) rfl (fun ls hl => ?_)
  exact b_X1_cover_4 X gN _ _ _ _ _ _ _ _ _ hf hI (lv_sub hl [2, 1, 0] rfl)
/-! X8_shownBy -/
abbrev w_X8_shownBy_33 (G : gG) (l : Launch) (p : Program) (e : Env) (s : State) (m : MethodId) (args : Array Value) (below : List Frame) (meth : Method) (c : Code) (h0 : g_H) (r : Int32) (h' : g_H) (k : Nat → Int32 → Int32 → Int32 → Int32 → gM Int32) : Prop := ∀ (a0 : Nat) (x1 : Int32) (x3 : Int32) (u0 : Int32) (u1 : Int32) (h : g_H) (H : Heap) (locs : List Loc) (cells slots : Nat) (ls : Array Slot), (k a0 x1 x3 u0 u1).1 h = some (r, h') → gI G h0 h H locs cells slots → lv_has ls 4 [(0, .ref a0), (1, .int x1), (3, .int x3)] → W p l e (g_rm 3 63 h0 h') s m args below meth c H locs cells slots (gQ G below args s h0 h' (.inl (g_wI r))) (F0 m 33 ls [.int u1, .int u0])
abbrev w_X8_shownBy_41 (G : gG) (l : Launch) (p : Program) (e : Env) (s : State) (m : MethodId) (args : Array Value) (below : List Frame) (meth : Method) (c : Code) (h0 : g_H) (r : Int32) (h' : g_H) (k : Int32 → gM Int32) : Prop := ∀ (x2 : Int32) (h : g_H) (H : Heap) (locs : List Loc) (cells slots : Nat) (ls : Array Slot), (k x2).1 h = some (r, h') → gI G h0 h H locs cells slots → lv_has ls 4 [(2, .int x2)] → W p l e (g_rm 3 63 h0 h') s m args below meth c H locs cells slots (gQ G below args s h0 h' (.inl (g_wI r))) (F0 m 41 ls [])
abbrev w_X8_shownBy_4 (G : gG) (l : Launch) (p : Program) (e : Env) (s : State) (m : MethodId) (args : Array Value) (below : List Frame) (meth : Method) (c : Code) (h0 : g_H) (r : Int32) (h' : g_H) (k : Nat → Int32 → Int32 → Int32 → gM Int32) : Prop := ∀ (a0 : Nat) (x1 : Int32) (x2 : Int32) (x3 : Int32) (h : g_H) (H : Heap) (locs : List Loc) (cells slots : Nat) (ls : Array Slot), (k a0 x1 x2 x3).1 h = some (r, h') → gI G h0 h H locs cells slots → lv_has ls 4 [(0, .ref a0), (1, .int x1), (2, .int x2), (3, .int x3)] → W p l e (g_rm 3 63 h0 h') s m args below meth c H locs cells slots (gQ G below args s h0 h' (.inl (g_wI r))) (F0 m 4 ls [])
def f_X8_shownBy_33 (k4 : Nat → Int32 → Int32 → Int32 → gM Int32) (a0 : Nat) (x1 : Int32) (x3 : Int32) (u0 : Int32) (u1 : Int32) : gM Int32 :=
    k4 a0 x1 (u0 ||| u1) (x3 + (1 : Int32))
set_option maxHeartbeats 4000000 in
set_option maxRecDepth 100000 in
theorem b_X8_shownBy_33 {G : gG} {l : Launch} {p : Program} {e : Env} {s : State} {m : MethodId} {args : Array Value} {below : List Frame} {meth : Method} {c : Code} {h0 : g_H} {r : Int32} {h' : g_H} (X : gX G l yX8_shownBy.cls cX8_shownBy 4 (some .int) [] yX8_shownBy.name p s m args meth c) {k4 : Nat → Int32 → Int32 → Int32 → gM Int32} (K4 : w_X8_shownBy_4 G l p e s m args below meth c h0 r h' k4) : w_X8_shownBy_33 G l p e s m args below meth c h0 r h' (f_X8_shownBy_33 k4) := by
  have hx := X.1
  have hb := X.2.1
  have hown := X.2.2.2.1
  have hts := X.2.2.2.2.1
  intro a0 x1 x3 u0 u1 h H locs cells slots ls hf hI hl
  unfold f_X8_shownBy_33 at hf
  refine lv_ior hx hb dX8_shownBy_33 ?_
  refine lv_istore_n (lv' := [(2, .int (u0 ||| u1)), (0, .ref a0), (1, .int x1), (3, .int x3)]) hx hb dX8_shownBy_34 rfl hl (by decide) rfl (fun ls hl => ?_)
  refine lv_iinc (v := (x3 + (1 : Int32))) (lv' := [(3, .int (x3 + (1 : Int32))), (2, .int (u0 ||| u1)), (0, .ref a0), (1, .int x1)]) hx hb dX8_shownBy_35 hl (k := 3) rfl rfl (by decide) rfl (fun ls hl => ?_)
  refine lv_goto (tgt := 4) hx hb dX8_shownBy_38 (by decide) ?_
  exact K4 _ _ _ _ _ _ _ _ _ _ hf hI (lv_sub hl [2, 3, 1, 0] rfl)
def f_X8_shownBy_41 (x2 : Int32) : gM Int32 :=
    (gRet x2)
set_option maxHeartbeats 4000000 in
set_option maxRecDepth 100000 in
theorem b_X8_shownBy_41 {G : gG} {l : Launch} {p : Program} {e : Env} {s : State} {m : MethodId} {args : Array Value} {below : List Frame} {meth : Method} {c : Code} {h0 : g_H} {r : Int32} {h' : g_H} (X : gX G l yX8_shownBy.cls cX8_shownBy 4 (some .int) [] yX8_shownBy.name p s m args meth c) : w_X8_shownBy_41 G l p e s m args below meth c h0 r h' (f_X8_shownBy_41) := by
  have hx := X.1
  have hb := X.2.1
  have hown := X.2.2.2.1
  have hts := X.2.2.2.2.1
  intro x2 h H locs cells slots ls hf hI hl
  unfold f_X8_shownBy_41 at hf
  refine lv_iload_n hx hb dX8_shownBy_41 rfl (lv_at hl 0 rfl) ?_
  cases gRet_e hf
  exact g_retI X hI rfl dX8_shownBy_42
def f_X8_shownBy_4 : Nat → Nat → Int32 → Int32 → Int32 → gM Int32
  | 0, _, _, _, _ => gFail
  | n + 1, a0, x1, x2, x3 =>
    gB (gCk a0 7) fun _ =>
    gB (f_X8_props a0) fun r101 =>
    gIf (r101 ≤ x3)
    (f_X8_shownBy_41 x2)
    (gB (f_X8_has x1 x3) fun r102 =>
    gIf (r102 = 0)
    (f_X8_shownBy_33 (f_X8_shownBy_4 n) a0 x1 x3 x2 (0 : Int32))
    (gB (gCk a0 7) fun _ =>
    gB (f_X8_ofProp a0 x3 (0 : Int32)) fun r103 =>
    f_X8_shownBy_33 (f_X8_shownBy_4 n) a0 x1 x3 x2 ((1 : Int32) <<< (r103 &&& 31))))
set_option maxHeartbeats 4000000 in
set_option maxRecDepth 100000 in
theorem b_X8_shownBy_4 {G : gG} {l : Launch} {p : Program} {e : Env} {s : State} {m : MethodId} {args : Array Value} {below : List Frame} {meth : Method} {c : Code} {h0 : g_H} {r : Int32} {h' : g_H} (X : gX G l yX8_shownBy.cls cX8_shownBy 4 (some .int) [] yX8_shownBy.name p s m args meth c) : ∀ n : Nat, w_X8_shownBy_4 G l p e s m args below meth c h0 r h' (f_X8_shownBy_4 n) := by
  have hx := X.1
  have hb := X.2.1
  have hown := X.2.2.2.1
  have hts := X.2.2.2.2.1
  intro n
  induction n with
  | zero =>
    intro a0 x1 x2 x3 h H locs cells slots ls hf hI hl
    exact (gFail_f hf).elim
  | succ n ih =>
    intro a0 x1 x2 x3 h H locs cells slots ls hf hI hl
    rw [f_X8_shownBy_4] at hf
    refine lv_iload_n hx hb dX8_shownBy_4 rfl (lv_at hl 3 rfl) ?_
    refine lv_aload_n hx hb dX8_shownBy_5 rfl (lv_at hl 0 rfl) ?_
    obtain ⟨hs, hf⟩ := gCk_b hf
    refine g_cBI hI hf (fun v9 h9 e9 l9 l9' => g_rV X hI l9 l9' ⟨Nat.le_refl _, Nat.le_refl _⟩ (As := []) (m_X8_props X.2.2.2.2.2.2.2.2.2.2.1 e9) ydX8_props hs rfl rfl q1626 q1628 qs53 q131 q1629 rfl (Nat.le_of_ble_eq_true rfl) (Nat.le_of_ble_eq_true rfl) hl.1 rfl (Nat.le_of_ble_eq_true rfl) dX8_shownBy_6) (fun r101 h H locs cells slots hf hI => ?_)
    refine lv_icmp_ge (tgt := 41) hx hb dX8_shownBy_9 (by decide) (fun c9 => ?_) (fun c9 => ?_)
    · have hf := g_t c9 hf
      exact b_X8_shownBy_41 X _ _ _ _ _ _ _ hf hI (lv_sub hl [2] rfl)
    · have hf := g_f c9 hf
      refine lv_iload_n hx hb dX8_shownBy_12 rfl (lv_at hl 2 rfl) ?_
      refine lv_iload_n hx hb dX8_shownBy_13 rfl (lv_at hl 1 rfl) ?_
      refine lv_iload_n hx hb dX8_shownBy_14 rfl (lv_at hl 3 rfl) ?_
      refine g_cBI hI hf (fun v9 h9 e9 l9 l9' => g_rS (b := 0) X hI l9 l9' ⟨Nat.le_refl _, Nat.le_refl _⟩ (As := [.int x1, .int x3]) (m_X8_has X.2.2.2.2.2.2.2.2.2.2.1 e9) ydX8_has q1637 q1638 q131 q1639 rfl (Nat.le_of_ble_eq_true rfl) (Nat.le_of_ble_eq_true rfl) hl.1 rfl (Nat.le_of_ble_eq_true rfl) dX8_shownBy_15) (fun r102 h H locs cells slots hf hI => ?_)
      refine lv_if_eq (tgt := 32) hx hb dX8_shownBy_18 (by decide) (fun c18 => ?_) (fun c18 => ?_)
      · have hf := g_t c18 hf
        refine lv_iconst (v := (0 : Int32)) hx hb dX8_shownBy_32 (by decide) ?_
        exact b_X8_shownBy_33 X ih _ _ _ _ _ _ _ _ _ _ _ hf hI (lv_sub hl [0, 1, 3] rfl)
      · have hf := g_f c18 hf
        refine lv_iconst (v := (1 : Int32)) hx hb dX8_shownBy_21 (by decide) ?_
        refine lv_aload_n hx hb dX8_shownBy_22 rfl (lv_at hl 0 rfl) ?_
        refine lv_iload_n hx hb dX8_shownBy_23 rfl (lv_at hl 3 rfl) ?_
        refine lv_iconst (v := (0 : Int32)) hx hb dX8_shownBy_24 (by decide) ?_
        obtain ⟨hs, hf⟩ := gCk_b hf
        refine g_cBI hI hf (fun v9 h9 e9 l9 l9' => g_rV X hI l9 l9' ⟨Nat.le_refl _, Nat.le_refl _⟩ (As := [.int x3, .int (0 : Int32)]) (m_X8_ofProp X.2.2.2.2.2.2.2.2.2.2.1 e9) ydX8_ofProp hs rfl rfl q1659 q1661 qs59 q131 q1662 rfl (Nat.le_of_ble_eq_true rfl) (Nat.le_of_ble_eq_true rfl) hl.1 rfl (Nat.le_of_ble_eq_true rfl) dX8_shownBy_25) (fun r103 h H locs cells slots hf hI => ?_)
        refine lv_ishl hx hb dX8_shownBy_28 ?_
        refine lv_goto (tgt := 33) hx hb dX8_shownBy_29 (by decide) ?_
        exact b_X8_shownBy_33 X ih _ _ _ _ _ _ _ _ _ _ _ hf hI (lv_sub hl [0, 1, 3] rfl)
def f_X8_shownBy (a0 : Nat) (x1 : Int32) : gM Int32 :=
    f_X8_shownBy_4 gN a0 x1 (0 : Int32) (0 : Int32)
set_option maxHeartbeats 4000000 in
set_option maxRecDepth 100000 in
theorem m_X8_shownBy {G : gG} {l : Launch} (hfl : l.stackTraces = false) {a0 : Nat} {x1 : Int32} {h h' : g_H} {r : Int32} (hf : (f_X8_shownBy a0 x1).1 h = some (r, h')) : gMet G l yX8_shownBy (Cond.code yX8_shownBy cX8_shownBy 4 (some .int)) 3 63 [.ref a0, .int x1] h (.inl (g_wI r)) h' := by
  refine g_head hfl ((f_X8_shownBy a0 x1).2 h r h' hf) (plainFor_of_name (by decide)) (Nat.le_of_ble_eq_true rfl) (fun p e s m below meth c H locs cells slots ls X hI hl9 => ?_)
  have hl : lv_has ls 4 [(0, .ref a0), (1, .int x1)] := hl9
  have hx := X.1
  have hb := X.2.1
  have hown := X.2.2.2.1
  have hts := X.2.2.2.2.1
  unfold f_X8_shownBy at hf
  refine lv_iconst (v := (0 : Int32)) hx hb dX8_shownBy_0 (by decide) ?_
  refine lv_istore_n (lv' := [(2, .int (0 : Int32)), (0, .ref a0), (1, .int x1)]) hx hb dX8_shownBy_1 rfl hl (by decide) rfl (fun ls hl => ?_)
  refine lv_iconst (v := (0 : Int32)) hx hb dX8_shownBy_2 (by decide) ?_
  refine lv_istore_n (lv' := [(3, .int (0 : Int32)), (2, .int (0 : Int32)), (0, .ref a0), (1, .int x1)]) hx hb dX8_shownBy_3 rfl hl (by decide) rfl (fun ls hl => ?_)
  exact b_X8_shownBy_4 X gN _ _ _ _ _ _ _ _ _ _ hf hI (lv_sub hl [2, 3, 1, 0] rfl)
/-! X8_cover -/
abbrev w_X8_cover_45 (G : gG) (l : Launch) (p : Program) (e : Env) (s : State) (m : MethodId) (args : Array Value) (below : List Frame) (meth : Method) (c : Code) (h0 : g_H) (r : Int32) (h' : g_H) (k : Nat → Int32 → Int32 → Int32 → Int32 → gM Int32) : Prop := ∀ (a0 : Nat) (x1 : Int32) (x3 : Int32) (u0 : Int32) (u1 : Int32) (h : g_H) (H : Heap) (locs : List Loc) (cells slots : Nat) (ls : Array Slot), (k a0 x1 x3 u0 u1).1 h = some (r, h') → gI G h0 h H locs cells slots → lv_has ls 4 [(0, .ref a0), (1, .int x1), (3, .int x3)] → W p l e (g_rm 4 86 h0 h') s m args below meth c H locs cells slots (gQ G below args s h0 h' (.inl (g_wI r))) (F0 m 45 ls [.int u1, .int u0])
abbrev w_X8_cover_95 (G : gG) (l : Launch) (p : Program) (e : Env) (s : State) (m : MethodId) (args : Array Value) (below : List Frame) (meth : Method) (c : Code) (h0 : g_H) (r : Int32) (h' : g_H) (k : Nat → Int32 → Int32 → Int32 → gM Int32) : Prop := ∀ (a0 : Nat) (x2 : Int32) (x3 : Int32) (u0 : Int32) (h : g_H) (H : Heap) (locs : List Loc) (cells slots : Nat) (ls : Array Slot), (k a0 x2 x3 u0).1 h = some (r, h') → gI G h0 h H locs cells slots → lv_has ls 4 [(0, .ref a0), (2, .int x2), (3, .int x3)] → W p l e (g_rm 4 86 h0 h') s m args below meth c H locs cells slots (gQ G below args s h0 h' (.inl (g_wI r))) (F0 m 95 ls [.int u0])
abbrev w_X8_cover_94 (G : gG) (l : Launch) (p : Program) (e : Env) (s : State) (m : MethodId) (args : Array Value) (below : List Frame) (meth : Method) (c : Code) (h0 : g_H) (r : Int32) (h' : g_H) (k : Nat → Int32 → Int32 → Int32 → gM Int32) : Prop := ∀ (a0 : Nat) (x1 : Int32) (x2 : Int32) (x3 : Int32) (h : g_H) (H : Heap) (locs : List Loc) (cells slots : Nat) (ls : Array Slot), (k a0 x1 x2 x3).1 h = some (r, h') → gI G h0 h H locs cells slots → lv_has ls 4 [(0, .ref a0), (1, .int x1), (2, .int x2), (3, .int x3)] → W p l e (g_rm 4 86 h0 h') s m args below meth c H locs cells slots (gQ G below args s h0 h' (.inl (g_wI r))) (F0 m 94 ls [])
abbrev w_X8_cover_102 (G : gG) (l : Launch) (p : Program) (e : Env) (s : State) (m : MethodId) (args : Array Value) (below : List Frame) (meth : Method) (c : Code) (h0 : g_H) (r : Int32) (h' : g_H) (k : Int32 → gM Int32) : Prop := ∀ (x1 : Int32) (h : g_H) (H : Heap) (locs : List Loc) (cells slots : Nat) (ls : Array Slot), (k x1).1 h = some (r, h') → gI G h0 h H locs cells slots → lv_has ls 4 [(1, .int x1)] → W p l e (g_rm 4 86 h0 h') s m args below meth c H locs cells slots (gQ G below args s h0 h' (.inl (g_wI r))) (F0 m 102 ls [])
abbrev w_X8_cover_63 (G : gG) (l : Launch) (p : Program) (e : Env) (s : State) (m : MethodId) (args : Array Value) (below : List Frame) (meth : Method) (c : Code) (h0 : g_H) (r : Int32) (h' : g_H) (k : Nat → Int32 → Int32 → Int32 → gM Int32) : Prop := ∀ (a0 : Nat) (x1 : Int32) (x2 : Int32) (x3 : Int32) (h : g_H) (H : Heap) (locs : List Loc) (cells slots : Nat) (ls : Array Slot), (k a0 x1 x2 x3).1 h = some (r, h') → gI G h0 h H locs cells slots → lv_has ls 4 [(0, .ref a0), (1, .int x1), (2, .int x2), (3, .int x3)] → W p l e (g_rm 4 86 h0 h') s m args below meth c H locs cells slots (gQ G below args s h0 h' (.inl (g_wI r))) (F0 m 63 ls [])
abbrev w_X8_cover_53 (G : gG) (l : Launch) (p : Program) (e : Env) (s : State) (m : MethodId) (args : Array Value) (below : List Frame) (meth : Method) (c : Code) (h0 : g_H) (r : Int32) (h' : g_H) (k : Nat → Int32 → Int32 → gM Int32) : Prop := ∀ (a0 : Nat) (x1 : Int32) (x2 : Int32) (h : g_H) (H : Heap) (locs : List Loc) (cells slots : Nat) (ls : Array Slot), (k a0 x1 x2).1 h = some (r, h') → gI G h0 h H locs cells slots → lv_has ls 4 [(0, .ref a0), (1, .int x1), (2, .int x2)] → W p l e (g_rm 4 86 h0 h') s m args below meth c H locs cells slots (gQ G below args s h0 h' (.inl (g_wI r))) (F0 m 53 ls [])
abbrev w_X8_cover_18 (G : gG) (l : Launch) (p : Program) (e : Env) (s : State) (m : MethodId) (args : Array Value) (below : List Frame) (meth : Method) (c : Code) (h0 : g_H) (r : Int32) (h' : g_H) (k : Nat → Int32 → Int32 → Int32 → gM Int32) : Prop := ∀ (a0 : Nat) (x1 : Int32) (x2 : Int32) (x3 : Int32) (h : g_H) (H : Heap) (locs : List Loc) (cells slots : Nat) (ls : Array Slot), (k a0 x1 x2 x3).1 h = some (r, h') → gI G h0 h H locs cells slots → lv_has ls 4 [(0, .ref a0), (1, .int x1), (2, .int x2), (3, .int x3)] → W p l e (g_rm 4 86 h0 h') s m args below meth c H locs cells slots (gQ G below args s h0 h' (.inl (g_wI r))) (F0 m 18 ls [])
def f_X8_cover_45 (k18 : Nat → Int32 → Int32 → Int32 → gM Int32) (a0 : Nat) (x1 : Int32) (x3 : Int32) (u0 : Int32) (u1 : Int32) : gM Int32 :=
    k18 a0 x1 (u0 ||| u1) (x3 + (1 : Int32))
set_option maxHeartbeats 4000000 in
set_option maxRecDepth 100000 in
theorem b_X8_cover_45 {G : gG} {l : Launch} {p : Program} {e : Env} {s : State} {m : MethodId} {args : Array Value} {below : List Frame} {meth : Method} {c : Code} {h0 : g_H} {r : Int32} {h' : g_H} (X : gX G l yX8_cover.cls cX8_cover 4 (some .int) [] yX8_cover.name p s m args meth c) {k18 : Nat → Int32 → Int32 → Int32 → gM Int32} (K18 : w_X8_cover_18 G l p e s m args below meth c h0 r h' k18) : w_X8_cover_45 G l p e s m args below meth c h0 r h' (f_X8_cover_45 k18) := by
  have hx := X.1
  have hb := X.2.1
  have hown := X.2.2.2.1
  have hts := X.2.2.2.2.1
  intro a0 x1 x3 u0 u1 h H locs cells slots ls hf hI hl
  unfold f_X8_cover_45 at hf
  refine lv_ior hx hb dX8_cover_45 ?_
  refine lv_istore_n (lv' := [(2, .int (u0 ||| u1)), (0, .ref a0), (1, .int x1), (3, .int x3)]) hx hb dX8_cover_46 rfl hl (by decide) rfl (fun ls hl => ?_)
  refine lv_iinc (v := (x3 + (1 : Int32))) (lv' := [(3, .int (x3 + (1 : Int32))), (2, .int (u0 ||| u1)), (0, .ref a0), (1, .int x1)]) hx hb dX8_cover_47 hl (k := 3) rfl rfl (by decide) rfl (fun ls hl => ?_)
  refine lv_goto (tgt := 18) hx hb dX8_cover_50 (by decide) ?_
  exact K18 _ _ _ _ _ _ _ _ _ _ hf hI (lv_sub hl [2, 3, 1, 0] rfl)
def f_X8_cover_95 (k63 : Nat → Int32 → Int32 → Int32 → gM Int32) (a0 : Nat) (x2 : Int32) (x3 : Int32) (u0 : Int32) : gM Int32 :=
    k63 a0 u0 x2 (x3 + (-1 : Int32))
set_option maxHeartbeats 4000000 in
set_option maxRecDepth 100000 in
theorem b_X8_cover_95 {G : gG} {l : Launch} {p : Program} {e : Env} {s : State} {m : MethodId} {args : Array Value} {below : List Frame} {meth : Method} {c : Code} {h0 : g_H} {r : Int32} {h' : g_H} (X : gX G l yX8_cover.cls cX8_cover 4 (some .int) [] yX8_cover.name p s m args meth c) {k63 : Nat → Int32 → Int32 → Int32 → gM Int32} (K63 : w_X8_cover_63 G l p e s m args below meth c h0 r h' k63) : w_X8_cover_95 G l p e s m args below meth c h0 r h' (f_X8_cover_95 k63) := by
  have hx := X.1
  have hb := X.2.1
  have hown := X.2.2.2.1
  have hts := X.2.2.2.2.1
  intro a0 x2 x3 u0 h H locs cells slots ls hf hI hl
  unfold f_X8_cover_95 at hf
  refine lv_istore_n (lv' := [(1, .int u0), (0, .ref a0), (2, .int x2), (3, .int x3)]) hx hb dX8_cover_95 rfl hl (by decide) rfl (fun ls hl => ?_)
  refine lv_iinc (v := (x3 + (-1 : Int32))) (lv' := [(3, .int (x3 + (-1 : Int32))), (1, .int u0), (0, .ref a0), (2, .int x2)]) hx hb dX8_cover_96 hl (k := 3) rfl rfl (by decide) rfl (fun ls hl => ?_)
  refine lv_goto (tgt := 63) hx hb dX8_cover_99 (by decide) ?_
  exact K63 _ _ _ _ _ _ _ _ _ _ hf hI (lv_sub hl [2, 1, 3, 0] rfl)
def f_X8_cover_94 (k63 : Nat → Int32 → Int32 → Int32 → gM Int32) (a0 : Nat) (x1 : Int32) (x2 : Int32) (x3 : Int32) : gM Int32 :=
    f_X8_cover_95 k63 a0 x2 x3 x1
set_option maxHeartbeats 4000000 in
set_option maxRecDepth 100000 in
theorem b_X8_cover_94 {G : gG} {l : Launch} {p : Program} {e : Env} {s : State} {m : MethodId} {args : Array Value} {below : List Frame} {meth : Method} {c : Code} {h0 : g_H} {r : Int32} {h' : g_H} (X : gX G l yX8_cover.cls cX8_cover 4 (some .int) [] yX8_cover.name p s m args meth c) {k63 : Nat → Int32 → Int32 → Int32 → gM Int32} (K63 : w_X8_cover_63 G l p e s m args below meth c h0 r h' k63) : w_X8_cover_94 G l p e s m args below meth c h0 r h' (f_X8_cover_94 k63) := by
  have hx := X.1
  have hb := X.2.1
  have hown := X.2.2.2.1
  have hts := X.2.2.2.2.1
  intro a0 x1 x2 x3 h H locs cells slots ls hf hI hl
  unfold f_X8_cover_94 at hf
  refine lv_iload_n hx hb dX8_cover_94 rfl (lv_at hl 1 rfl) ?_
  exact b_X8_cover_95 X K63 _ _ _ _ _ _ _ _ _ _ hf hI (lv_sub hl [0, 2, 3] rfl)
def f_X8_cover_102 (x1 : Int32) : gM Int32 :=
    (gRet x1)
set_option maxHeartbeats 4000000 in
set_option maxRecDepth 100000 in
theorem b_X8_cover_102 {G : gG} {l : Launch} {p : Program} {e : Env} {s : State} {m : MethodId} {args : Array Value} {below : List Frame} {meth : Method} {c : Code} {h0 : g_H} {r : Int32} {h' : g_H} (X : gX G l yX8_cover.cls cX8_cover 4 (some .int) [] yX8_cover.name p s m args meth c) : w_X8_cover_102 G l p e s m args below meth c h0 r h' (f_X8_cover_102) := by
  have hx := X.1
  have hb := X.2.1
  have hown := X.2.2.2.1
  have hts := X.2.2.2.2.1
  intro x1 h H locs cells slots ls hf hI hl
  unfold f_X8_cover_102 at hf
  refine lv_iload_n hx hb dX8_cover_102 rfl (lv_at hl 0 rfl) ?_
  cases gRet_e hf
  exact g_retI X hI rfl dX8_cover_103
def f_X8_cover_63 : Nat → Nat → Int32 → Int32 → Int32 → gM Int32
  | 0, _, _, _, _ => gFail
  | n + 1, a0, x1, x2, x3 =>
    gIf (x3 < 0)
    (f_X8_cover_102 x1)
    (gB (f_J7_bitCount x3) fun r101 =>
    gB (f_J7_bitCount x1) fun r102 =>
    gIf (r102 < r101)
    (f_X8_cover_94 (f_X8_cover_63 n) a0 x1 x2 x3)
    (gB (gCk a0 7) fun _ =>
    gB (f_X8_shownBy a0 x3) fun r103 =>
    gIf ((x2 &&& (r103 ^^^ (-1 : Int32))) = 0)
    (f_X8_cover_95 (f_X8_cover_63 n) a0 x2 x3 x3)
    (f_X8_cover_94 (f_X8_cover_63 n) a0 x1 x2 x3)))
set_option maxHeartbeats 4000000 in
set_option maxRecDepth 100000 in
theorem b_X8_cover_63 {G : gG} {l : Launch} {p : Program} {e : Env} {s : State} {m : MethodId} {args : Array Value} {below : List Frame} {meth : Method} {c : Code} {h0 : g_H} {r : Int32} {h' : g_H} (X : gX G l yX8_cover.cls cX8_cover 4 (some .int) [] yX8_cover.name p s m args meth c) : ∀ n : Nat, w_X8_cover_63 G l p e s m args below meth c h0 r h' (f_X8_cover_63 n) := by
  have hx := X.1
  have hb := X.2.1
  have hown := X.2.2.2.1
  have hts := X.2.2.2.2.1
  intro n
  induction n with
  | zero =>
    intro a0 x1 x2 x3 h H locs cells slots ls hf hI hl
    exact (gFail_f hf).elim
  | succ n ih =>
    intro a0 x1 x2 x3 h H locs cells slots ls hf hI hl
    rw [f_X8_cover_63] at hf
    refine lv_iload_n hx hb dX8_cover_63 rfl (lv_at hl 3 rfl) ?_
    refine lv_if_lt (tgt := 102) hx hb dX8_cover_64 (by decide) (fun c64 => ?_) (fun c64 => ?_)
    · have hf := g_t c64 hf
      exact b_X8_cover_102 X _ _ _ _ _ _ _ hf hI (lv_sub hl [1] rfl)
    · have hf := g_f c64 hf
      refine lv_iload_n hx hb dX8_cover_67 rfl (lv_at hl 3 rfl) ?_
      refine g_cBI hI hf (fun v9 h9 e9 l9 l9' => g_rS (b := 0) X hI l9 l9' ⟨Nat.le_refl _, Nat.le_refl _⟩ (As := [.int x3]) (m_J7_bitCount X.2.2.2.2.2.2.2.2.2.2.1 e9) ydJ7_bitCount q1640 q659 q137 q660 rfl (Nat.le_of_ble_eq_true rfl) (Nat.le_of_ble_eq_true rfl) hl.1 rfl (Nat.le_of_ble_eq_true rfl) dX8_cover_68) (fun r101 h H locs cells slots hf hI => ?_)
      refine lv_iload_n hx hb dX8_cover_71 rfl (lv_at hl 1 rfl) ?_
      refine g_cBI hI hf (fun v9 h9 e9 l9 l9' => g_rS (b := 0) X hI l9 l9' ⟨Nat.le_refl _, Nat.le_refl _⟩ (As := [.int x1]) (m_J7_bitCount X.2.2.2.2.2.2.2.2.2.2.1 e9) ydJ7_bitCount q1640 q659 q137 q660 rfl (Nat.le_of_ble_eq_true rfl) (Nat.le_of_ble_eq_true rfl) hl.1 rfl (Nat.le_of_ble_eq_true rfl) dX8_cover_72) (fun r102 h H locs cells slots hf hI => ?_)
      refine lv_icmp_gt (tgt := 94) hx hb dX8_cover_75 (by decide) (fun c75 => ?_) (fun c75 => ?_)
      · have hf := g_t c75 hf
        exact b_X8_cover_94 X ih _ _ _ _ _ _ _ _ _ _ hf hI (lv_sub hl [0, 1, 2, 3] rfl)
      · have hf := g_f c75 hf
        refine lv_iload_n hx hb dX8_cover_78 rfl (lv_at hl 2 rfl) ?_
        refine lv_aload_n hx hb dX8_cover_79 rfl (lv_at hl 0 rfl) ?_
        refine lv_iload_n hx hb dX8_cover_80 rfl (lv_at hl 3 rfl) ?_
        obtain ⟨hs, hf⟩ := gCk_b hf
        refine g_cBI hI hf (fun v9 h9 e9 l9 l9' => g_rV X hI l9 l9' ⟨Nat.le_refl _, Nat.le_refl _⟩ (As := [.int x3]) (m_X8_shownBy X.2.2.2.2.2.2.2.2.2.2.1 e9) ydX8_shownBy hs rfl rfl q2017 q2019 qs109 q131 q2020 rfl (Nat.le_of_ble_eq_true rfl) (Nat.le_of_ble_eq_true rfl) hl.1 rfl (Nat.le_of_ble_eq_true rfl) dX8_cover_81) (fun r103 h H locs cells slots hf hI => ?_)
        refine lv_iconst (v := (-1 : Int32)) hx hb dX8_cover_84 (by decide) ?_
        refine lv_ixor hx hb dX8_cover_85 ?_
        refine lv_iand hx hb dX8_cover_86 ?_
        refine lv_if_ne (tgt := 94) hx hb dX8_cover_87 (by decide) (fun c87 => ?_) (fun c87 => ?_)
        · have hf := g_f c87 hf
          exact b_X8_cover_94 X ih _ _ _ _ _ _ _ _ _ _ hf hI (lv_sub hl [0, 1, 2, 3] rfl)
        · have hf := g_t c87 hf
          refine lv_iload_n hx hb dX8_cover_90 rfl (lv_at hl 3 rfl) ?_
          refine lv_goto (tgt := 95) hx hb dX8_cover_91 (by decide) ?_
          exact b_X8_cover_95 X ih _ _ _ _ _ _ _ _ _ _ hf hI (lv_sub hl [0, 2, 3] rfl)
def f_X8_cover_53 (a0 : Nat) (x1 : Int32) (x2 : Int32) : gM Int32 :=
    gB (gCk a0 7) fun _ =>
    gB (f_X8_shownBy a0 x1) fun r101 =>
    f_X8_cover_63 gN a0 x1 (x2 &&& r101) x1
set_option maxHeartbeats 4000000 in
set_option maxRecDepth 100000 in
theorem b_X8_cover_53 {G : gG} {l : Launch} {p : Program} {e : Env} {s : State} {m : MethodId} {args : Array Value} {below : List Frame} {meth : Method} {c : Code} {h0 : g_H} {r : Int32} {h' : g_H} (X : gX G l yX8_cover.cls cX8_cover 4 (some .int) [] yX8_cover.name p s m args meth c) : w_X8_cover_53 G l p e s m args below meth c h0 r h' (f_X8_cover_53) := by
  have hx := X.1
  have hb := X.2.1
  have hown := X.2.2.2.1
  have hts := X.2.2.2.2.1
  intro a0 x1 x2 h H locs cells slots ls hf hI hl
  unfold f_X8_cover_53 at hf
  refine lv_iload_n hx hb dX8_cover_53 rfl (lv_at hl 2 rfl) ?_
  refine lv_aload_n hx hb dX8_cover_54 rfl (lv_at hl 0 rfl) ?_
  refine lv_iload_n hx hb dX8_cover_55 rfl (lv_at hl 1 rfl) ?_
  obtain ⟨hs, hf⟩ := gCk_b hf
  refine g_cBI hI hf (fun v9 h9 e9 l9 l9' => g_rV X hI l9 l9' ⟨Nat.le_refl _, Nat.le_refl _⟩ (As := [.int x1]) (m_X8_shownBy X.2.2.2.2.2.2.2.2.2.2.1 e9) ydX8_shownBy hs rfl rfl q2017 q2019 qs109 q131 q2020 rfl (Nat.le_of_ble_eq_true rfl) (Nat.le_of_ble_eq_true rfl) hl.1 rfl (Nat.le_of_ble_eq_true rfl) dX8_cover_56) (fun r101 h H locs cells slots hf hI => ?_)
  refine lv_iand hx hb dX8_cover_59 ?_
  refine lv_istore_n (lv' := [(2, .int (x2 &&& r101)), (0, .ref a0), (1, .int x1)]) hx hb dX8_cover_60 rfl hl (by decide) rfl (fun ls hl => ?_)
  refine lv_iload_n hx hb dX8_cover_61 rfl (lv_at hl 2 rfl) ?_
  refine lv_istore_n (lv' := [(3, .int x1), (2, .int (x2 &&& r101)), (0, .ref a0), (1, .int x1)]) hx hb dX8_cover_62 rfl hl (by decide) rfl (fun ls hl => ?_)
  exact b_X8_cover_63 X gN _ _ _ _ _ _ _ _ _ _ hf hI (lv_sub hl [2, 3, 1, 0] rfl)
def f_X8_cover_18 : Nat → Nat → Int32 → Int32 → Int32 → gM Int32
  | 0, _, _, _, _ => gFail
  | n + 1, a0, x1, x2, x3 =>
    gB (gCk a0 7) fun _ =>
    gB (f_X8_oneCount a0) fun r101 =>
    gIf (r101 ≤ x3)
    (f_X8_cover_53 a0 x1 x2)
    (gB (gCk a0 7) fun _ =>
    gB (f_X8_waits a0 x3) fun r102 =>
    gIf (r102 = 0)
    (f_X8_cover_45 (f_X8_cover_18 n) a0 x1 x3 x2 (0 : Int32))
    (gB (gCk a0 7) fun _ =>
    gB (f_X8_of a0 x3 (0 : Int32)) fun r103 =>
    f_X8_cover_45 (f_X8_cover_18 n) a0 x1 x3 x2 r103))
set_option maxHeartbeats 4000000 in
set_option maxRecDepth 100000 in
theorem b_X8_cover_18 {G : gG} {l : Launch} {p : Program} {e : Env} {s : State} {m : MethodId} {args : Array Value} {below : List Frame} {meth : Method} {c : Code} {h0 : g_H} {r : Int32} {h' : g_H} (X : gX G l yX8_cover.cls cX8_cover 4 (some .int) [] yX8_cover.name p s m args meth c) : ∀ n : Nat, w_X8_cover_18 G l p e s m args below meth c h0 r h' (f_X8_cover_18 n) := by
  have hx := X.1
  have hb := X.2.1
  have hown := X.2.2.2.1
  have hts := X.2.2.2.2.1
  intro n
  induction n with
  | zero =>
    intro a0 x1 x2 x3 h H locs cells slots ls hf hI hl
    exact (gFail_f hf).elim
  | succ n ih =>
    intro a0 x1 x2 x3 h H locs cells slots ls hf hI hl
    rw [f_X8_cover_18] at hf
    refine lv_iload_n hx hb dX8_cover_18 rfl (lv_at hl 3 rfl) ?_
    refine lv_aload_n hx hb dX8_cover_19 rfl (lv_at hl 0 rfl) ?_
    obtain ⟨hs, hf⟩ := gCk_b hf
    refine g_cBI hI hf (fun v9 h9 e9 l9 l9' => g_rV X hI l9 l9' ⟨Nat.le_refl _, Nat.le_refl _⟩ (As := []) (m_X8_oneCount X.2.2.2.2.2.2.2.2.2.2.1 e9) ydX8_oneCount hs rfl rfl q1673 q1675 qs61 q131 q1676 rfl (Nat.le_of_ble_eq_true rfl) (Nat.le_of_ble_eq_true rfl) hl.1 rfl (Nat.le_of_ble_eq_true rfl) dX8_cover_20) (fun r101 h H locs cells slots hf hI => ?_)
    refine lv_icmp_ge (tgt := 53) hx hb dX8_cover_23 (by decide) (fun c23 => ?_) (fun c23 => ?_)
    · have hf := g_t c23 hf
      exact b_X8_cover_53 X _ _ _ _ _ _ _ _ _ hf hI (lv_sub hl [0, 1, 2] rfl)
    · have hf := g_f c23 hf
      refine lv_iload_n hx hb dX8_cover_26 rfl (lv_at hl 2 rfl) ?_
      refine lv_aload_n hx hb dX8_cover_27 rfl (lv_at hl 0 rfl) ?_
      refine lv_iload_n hx hb dX8_cover_28 rfl (lv_at hl 3 rfl) ?_
      obtain ⟨hs, hf⟩ := gCk_b hf
      refine g_cBI hI hf (fun v9 h9 e9 l9 l9' => g_rV X hI l9 l9' ⟨Nat.le_refl _, Nat.le_refl _⟩ (As := [.int x3]) (m_X8_waits X.2.2.2.2.2.2.2.2.2.2.1 e9) ydX8_waits hs rfl rfl q1804 q1806 qs82 q131 q1807 rfl (Nat.le_of_ble_eq_true rfl) (Nat.le_of_ble_eq_true rfl) hl.1 rfl (Nat.le_of_ble_eq_true rfl) dX8_cover_29) (fun r102 h H locs cells slots hf hI => ?_)
      refine lv_if_eq (tgt := 44) hx hb dX8_cover_32 (by decide) (fun c32 => ?_) (fun c32 => ?_)
      · have hf := g_t c32 hf
        refine lv_iconst (v := (0 : Int32)) hx hb dX8_cover_44 (by decide) ?_
        exact b_X8_cover_45 X ih _ _ _ _ _ _ _ _ _ _ _ hf hI (lv_sub hl [0, 1, 3] rfl)
      · have hf := g_f c32 hf
        refine lv_aload_n hx hb dX8_cover_35 rfl (lv_at hl 0 rfl) ?_
        refine lv_iload_n hx hb dX8_cover_36 rfl (lv_at hl 3 rfl) ?_
        refine lv_iconst (v := (0 : Int32)) hx hb dX8_cover_37 (by decide) ?_
        obtain ⟨hs, hf⟩ := gCk_b hf
        refine g_cBI hI hf (fun v9 h9 e9 l9 l9' => g_rV X hI l9 l9' ⟨Nat.le_refl _, Nat.le_refl _⟩ (As := [.int x3, .int (0 : Int32)]) (m_X8_of X.2.2.2.2.2.2.2.2.2.2.1 e9) ydX8_of hs rfl rfl q1767 q1769 qs75 q131 q1770 rfl (Nat.le_of_ble_eq_true rfl) (Nat.le_of_ble_eq_true rfl) hl.1 rfl (Nat.le_of_ble_eq_true rfl) dX8_cover_38) (fun r103 h H locs cells slots hf hI => ?_)
        refine lv_goto (tgt := 45) hx hb dX8_cover_41 (by decide) ?_
        exact b_X8_cover_45 X ih _ _ _ _ _ _ _ _ _ _ _ hf hI (lv_sub hl [0, 1, 3] rfl)
def f_X8_cover (a0 : Nat) : gM Int32 :=
    gB (gPI a0 7 0 (0 : Int32)) fun _ =>
    gB (gCk a0 7) fun _ =>
    gB (f_X8_props a0) fun r1 =>
    gB (gRet (((1 : Int32) <<< (r1 &&& 31)) - (1 : Int32))) fun v2 =>
    f_X8_cover_18 gN a0 v2 (0 : Int32) (0 : Int32)
set_option maxHeartbeats 4000000 in
set_option maxRecDepth 100000 in
theorem m_X8_cover {G : gG} {l : Launch} (hfl : l.stackTraces = false) {a0 : Nat} {h h' : g_H} {r : Int32} (hf : (f_X8_cover a0).1 h = some (r, h')) : gMet G l yX8_cover (Cond.code yX8_cover cX8_cover 4 (some .int)) 4 86 [.ref a0] h (.inl (g_wI r)) h' := by
  refine g_head hfl ((f_X8_cover a0).2 h r h' hf) (plainFor_of_name (by decide)) (Nat.le_of_ble_eq_true rfl) (fun p e s m below meth c H locs cells slots ls X hI hl9 => ?_)
  have hl : lv_has ls 4 [(0, .ref a0)] := hl9
  have hx := X.1
  have hb := X.2.1
  have hown := X.2.2.2.1
  have hts := X.2.2.2.2.1
  unfold f_X8_cover at hf
  refine lv_aload_n hx hb dX8_cover_0 rfl (lv_at hl 0 rfl) ?_
  refine lv_iconst (v := (0 : Int32)) hx hb dX8_cover_1 (by decide) ?_
  refine g_pi X hI hf fX8_0 q1444 rfl dX8_cover_2 (fun h H locs hf hI => ?_)
  refine lv_iconst (v := (1 : Int32)) hx hb dX8_cover_5 (by decide) ?_
  refine lv_aload_n hx hb dX8_cover_6 rfl (lv_at hl 0 rfl) ?_
  obtain ⟨hs, hf⟩ := gCk_b hf
  refine g_cBI hI hf (fun v9 h9 e9 l9 l9' => g_rV X hI l9 l9' ⟨Nat.le_refl _, Nat.le_refl _⟩ (As := []) (m_X8_props X.2.2.2.2.2.2.2.2.2.2.1 e9) ydX8_props hs rfl rfl q1626 q1628 qs53 q131 q1629 rfl (Nat.le_of_ble_eq_true rfl) (Nat.le_of_ble_eq_true rfl) hl.1 rfl (Nat.le_of_ble_eq_true rfl) dX8_cover_7) (fun r1 h H locs cells slots hf hI => ?_)
  refine lv_ishl hx hb dX8_cover_10 ?_
  refine lv_iconst (v := (1 : Int32)) hx hb dX8_cover_11 (by decide) ?_
  refine lv_isub hx hb dX8_cover_12 ?_
  refine g_let hf (fun v2 hf => ?_)
  refine lv_istore_n (lv' := [(1, .int v2), (0, .ref a0)]) hx hb dX8_cover_13 rfl hl (by decide) rfl (fun ls hl => ?_)
  refine lv_iconst (v := (0 : Int32)) hx hb dX8_cover_14 (by decide) ?_
  refine lv_istore_n (lv' := [(2, .int (0 : Int32)), (1, .int v2), (0, .ref a0)]) hx hb dX8_cover_15 rfl hl (by decide) rfl (fun ls hl => ?_)
  refine lv_iconst (v := (0 : Int32)) hx hb dX8_cover_16 (by decide) ?_
  refine lv_istore_n (lv' := [(3, .int (0 : Int32)), (2, .int (0 : Int32)), (1, .int v2), (0, .ref a0)]) hx hb dX8_cover_17 rfl hl (by decide) rfl (fun ls hl => ?_)
  exact b_X8_cover_18 X gN _ _ _ _ _ _ _ _ _ _ hf hI (lv_sub hl [3, 2, 1, 0] rfl)
/-! X1_corners -/
abbrev w_X1_corners_79 (G : gG) (l : Launch) (p : Program) (e : Env) (s : State) (m : MethodId) (args : Array Value) (below : List Frame) (meth : Method) (c : Code) (h0 : g_H) (r : (Int32 ⊕ gE)) (h' : g_H) (k : Nat → Nat → Int32 → Int32 → Int32 → Int32 → gM (Int32 ⊕ gE)) : Prop := ∀ (a0 : Nat) (a2 : Nat) (x4 : Int32) (x5 : Int32) (u0 : Int32) (u1 : Int32) (h : g_H) (H : Heap) (locs : List Loc) (cells slots : Nat) (ls : Array Slot), (k a0 a2 x4 x5 u0 u1).1 h = some (r, h') → gI G h0 h H locs cells slots → lv_has ls 6 [(0, .ref a0), (2, .ref a2), (4, .int x4), (5, .int x5)] → W p l e (g_rm 101 1866 h0 h') s m args below meth c H locs cells slots (gQ G below args s h0 h' (g_w g_wI r)) (F0 m 79 ls [.int u1, .int u0])
abbrev w_X1_corners_78 (G : gG) (l : Launch) (p : Program) (e : Env) (s : State) (m : MethodId) (args : Array Value) (below : List Frame) (meth : Method) (c : Code) (h0 : g_H) (r : (Int32 ⊕ gE)) (h' : g_H) (k : Nat → Nat → Int32 → Int32 → Int32 → gM (Int32 ⊕ gE)) : Prop := ∀ (a0 : Nat) (a2 : Nat) (x4 : Int32) (x5 : Int32) (u0 : Int32) (h : g_H) (H : Heap) (locs : List Loc) (cells slots : Nat) (ls : Array Slot), (k a0 a2 x4 x5 u0).1 h = some (r, h') → gI G h0 h H locs cells slots → lv_has ls 6 [(0, .ref a0), (2, .ref a2), (4, .int x4), (5, .int x5)] → W p l e (g_rm 101 1866 h0 h') s m args below meth c H locs cells slots (gQ G below args s h0 h' (g_w g_wI r)) (F0 m 78 ls [.int u0])
abbrev w_X1_corners_87 (G : gG) (l : Launch) (p : Program) (e : Env) (s : State) (m : MethodId) (args : Array Value) (below : List Frame) (meth : Method) (c : Code) (h0 : g_H) (r : (Int32 ⊕ gE)) (h' : g_H) (k : Int32 → gM (Int32 ⊕ gE)) : Prop := ∀ (x3 : Int32) (h : g_H) (H : Heap) (locs : List Loc) (cells slots : Nat) (ls : Array Slot), (k x3).1 h = some (r, h') → gI G h0 h H locs cells slots → lv_has ls 6 [(3, .int x3)] → W p l e (g_rm 101 1866 h0 h') s m args below meth c H locs cells slots (gQ G below args s h0 h' (g_w g_wI r)) (F0 m 87 ls [])
abbrev w_X1_corners_14 (G : gG) (l : Launch) (p : Program) (e : Env) (s : State) (m : MethodId) (args : Array Value) (below : List Frame) (meth : Method) (c : Code) (h0 : g_H) (r : (Int32 ⊕ gE)) (h' : g_H) (k : Nat → Nat → Int32 → Int32 → Int32 → gM (Int32 ⊕ gE)) : Prop := ∀ (a0 : Nat) (a2 : Nat) (x3 : Int32) (x4 : Int32) (x5 : Int32) (h : g_H) (H : Heap) (locs : List Loc) (cells slots : Nat) (ls : Array Slot), (k a0 a2 x3 x4 x5).1 h = some (r, h') → gI G h0 h H locs cells slots → lv_has ls 6 [(0, .ref a0), (2, .ref a2), (3, .int x3), (4, .int x4), (5, .int x5)] → W p l e (g_rm 101 1866 h0 h') s m args below meth c H locs cells slots (gQ G below args s h0 h' (g_w g_wI r)) (F0 m 14 ls [])
def f_X1_corners_79 (k14 : Nat → Nat → Int32 → Int32 → Int32 → gM (Int32 ⊕ gE)) (a0 : Nat) (a2 : Nat) (x4 : Int32) (x5 : Int32) (u0 : Int32) (u1 : Int32) : gM (Int32 ⊕ gE) :=
    k14 a0 a2 (u0 ||| u1) x4 (x5 + (1 : Int32))
set_option maxHeartbeats 4000000 in
set_option maxRecDepth 100000 in
theorem b_X1_corners_79 {G : gG} {l : Launch} {p : Program} {e : Env} {s : State} {m : MethodId} {args : Array Value} {below : List Frame} {meth : Method} {c : Code} {h0 : g_H} {r : (Int32 ⊕ gE)} {h' : g_H} (X : gX G l yX1_corners.cls cX1_corners 6 (some .int) [] yX1_corners.name p s m args meth c) {k14 : Nat → Nat → Int32 → Int32 → Int32 → gM (Int32 ⊕ gE)} (K14 : w_X1_corners_14 G l p e s m args below meth c h0 r h' k14) : w_X1_corners_79 G l p e s m args below meth c h0 r h' (f_X1_corners_79 k14) := by
  have hx := X.1
  have hb := X.2.1
  have hown := X.2.2.2.1
  have hts := X.2.2.2.2.1
  intro a0 a2 x4 x5 u0 u1 h H locs cells slots ls hf hI hl
  unfold f_X1_corners_79 at hf
  refine lv_ior hx hb dX1_corners_79 ?_
  refine lv_istore_n (lv' := [(3, .int (u0 ||| u1)), (0, .ref a0), (2, .ref a2), (4, .int x4), (5, .int x5)]) hx hb dX1_corners_80 rfl hl (by decide) rfl (fun ls hl => ?_)
  refine lv_iinc (v := (x5 + (1 : Int32))) (lv' := [(5, .int (x5 + (1 : Int32))), (3, .int (u0 ||| u1)), (0, .ref a0), (2, .ref a2), (4, .int x4)]) hx hb dX1_corners_81 hl (k := 4) rfl rfl (by decide) rfl (fun ls hl => ?_)
  refine lv_goto (tgt := 14) hx hb dX1_corners_84 (by decide) ?_
  exact K14 _ _ _ _ _ _ _ _ _ _ _ hf hI (lv_sub hl [2, 3, 1, 4, 0] rfl)
def f_X1_corners_78 (k14 : Nat → Nat → Int32 → Int32 → Int32 → gM (Int32 ⊕ gE)) (a0 : Nat) (a2 : Nat) (x4 : Int32) (x5 : Int32) (u0 : Int32) : gM (Int32 ⊕ gE) :=
    f_X1_corners_79 k14 a0 a2 x4 x5 u0 (0 : Int32)
set_option maxHeartbeats 4000000 in
set_option maxRecDepth 100000 in
theorem b_X1_corners_78 {G : gG} {l : Launch} {p : Program} {e : Env} {s : State} {m : MethodId} {args : Array Value} {below : List Frame} {meth : Method} {c : Code} {h0 : g_H} {r : (Int32 ⊕ gE)} {h' : g_H} (X : gX G l yX1_corners.cls cX1_corners 6 (some .int) [] yX1_corners.name p s m args meth c) {k14 : Nat → Nat → Int32 → Int32 → Int32 → gM (Int32 ⊕ gE)} (K14 : w_X1_corners_14 G l p e s m args below meth c h0 r h' k14) : w_X1_corners_78 G l p e s m args below meth c h0 r h' (f_X1_corners_78 k14) := by
  have hx := X.1
  have hb := X.2.1
  have hown := X.2.2.2.1
  have hts := X.2.2.2.2.1
  intro a0 a2 x4 x5 u0 h H locs cells slots ls hf hI hl
  unfold f_X1_corners_78 at hf
  refine lv_iconst (v := (0 : Int32)) hx hb dX1_corners_78 (by decide) ?_
  exact b_X1_corners_79 X K14 _ _ _ _ _ _ _ _ _ _ _ _ hf hI (lv_sub hl [0, 1, 2, 3] rfl)
def f_X1_corners_87 (x3 : Int32) : gM (Int32 ⊕ gE) :=
    (gRet (.inl x3))
set_option maxHeartbeats 4000000 in
set_option maxRecDepth 100000 in
theorem b_X1_corners_87 {G : gG} {l : Launch} {p : Program} {e : Env} {s : State} {m : MethodId} {args : Array Value} {below : List Frame} {meth : Method} {c : Code} {h0 : g_H} {r : (Int32 ⊕ gE)} {h' : g_H} (X : gX G l yX1_corners.cls cX1_corners 6 (some .int) [] yX1_corners.name p s m args meth c) : w_X1_corners_87 G l p e s m args below meth c h0 r h' (f_X1_corners_87) := by
  have hx := X.1
  have hb := X.2.1
  have hown := X.2.2.2.1
  have hts := X.2.2.2.2.1
  intro x3 h H locs cells slots ls hf hI hl
  unfold f_X1_corners_87 at hf
  refine lv_iload_n hx hb dX1_corners_87 rfl (lv_at hl 0 rfl) ?_
  cases gRet_e hf
  exact g_retI X hI rfl dX1_corners_88
def f_X1_corners_14 : Nat → Nat → Nat → Int32 → Int32 → Int32 → gM (Int32 ⊕ gE)
  | 0, _, _, _, _, _ => gFail
  | n + 1, a0, a2, x3, x4, x5 =>
    gIf ((10 : Int32) ≤ x5)
    (f_X1_corners_87 x3)
    (gB (gFI a2 4 1) fun v101 =>
    gIf (v101 < x4)
    (f_X1_corners_87 x3)
    (gB (gFR a0 0 1) fun v102 =>
    gB (gCk v102 2) fun _ =>
    gB (f_X3_behind v102 a2 x5 x4 (1 : Int32)) fun r103 =>
    gB (gFR a0 0 1) fun v104 =>
    gB (gFR v104 2 3) fun v105 =>
    gB (gAI v105 0 x5) fun v106 =>
    gIf (v106 = (-1 : Int32))
    (gB (gFI a2 4 1) fun v107 =>
    gIf (r103 < (v107 / (2 : Int32)))
    (f_X1_corners_78 (f_X1_corners_14 n) a0 a2 r103 x5 x3)
    (f_X1_corners_79 (f_X1_corners_14 n) a0 a2 r103 x5 x3 ((1 : Int32) <<< (x5 &&& 31))))
    (f_X1_corners_78 (f_X1_corners_14 n) a0 a2 r103 x5 x3)))
set_option maxHeartbeats 4000000 in
set_option maxRecDepth 100000 in
theorem b_X1_corners_14 {G : gG} {l : Launch} {p : Program} {e : Env} {s : State} {m : MethodId} {args : Array Value} {below : List Frame} {meth : Method} {c : Code} {h0 : g_H} {r : (Int32 ⊕ gE)} {h' : g_H} (X : gX G l yX1_corners.cls cX1_corners 6 (some .int) [] yX1_corners.name p s m args meth c) : ∀ n : Nat, w_X1_corners_14 G l p e s m args below meth c h0 r h' (f_X1_corners_14 n) := by
  have hx := X.1
  have hb := X.2.1
  have hown := X.2.2.2.1
  have hts := X.2.2.2.2.1
  intro n
  induction n with
  | zero =>
    intro a0 a2 x3 x4 x5 h H locs cells slots ls hf hI hl
    exact (gFail_f hf).elim
  | succ n ih =>
    intro a0 a2 x3 x4 x5 h H locs cells slots ls hf hI hl
    rw [f_X1_corners_14] at hf
    refine lv_iload hx hb dX1_corners_14 (lv_at hl 4 rfl) ?_
    refine lv_bipush (v := (10 : Int32)) hx hb dX1_corners_16 (by decide) ?_
    refine lv_icmp_ge (tgt := 87) hx hb dX1_corners_18 (by decide) (fun c18 => ?_) (fun c18 => ?_)
    · have hf := g_t c18 hf
      exact b_X1_corners_87 X _ _ _ _ _ _ _ hf hI (lv_sub hl [2] rfl)
    · have hf := g_f c18 hf
      refine lv_iload hx hb dX1_corners_21 (lv_at hl 3 rfl) ?_
      refine lv_aload_n hx hb dX1_corners_23 rfl (lv_at hl 1 rfl) ?_
      refine g_fiN X hI hf fX5_1 q235 rfl rfl dX1_corners_24 (fun v101 hf => ?_)
      refine lv_icmp_gt (tgt := 87) hx hb dX1_corners_27 (by decide) (fun c27 => ?_) (fun c27 => ?_)
      · have hf := g_t c27 hf
        exact b_X1_corners_87 X _ _ _ _ _ _ _ hf hI (lv_sub hl [2] rfl)
      · have hf := g_f c27 hf
        refine lv_aload_n hx hb dX1_corners_30 rfl (lv_at hl 0 rfl) ?_
        refine g_fr X hI hf fX1_1 q461 rfl rfl dX1_corners_31 (fun v102 hf => ?_)
        refine lv_aload_n hx hb dX1_corners_34 rfl (lv_at hl 1 rfl) ?_
        refine lv_iload hx hb dX1_corners_35 (lv_at hl 4 rfl) ?_
        refine lv_iload hx hb dX1_corners_37 (lv_at hl 3 rfl) ?_
        refine lv_iconst (v := (1 : Int32)) hx hb dX1_corners_39 (by decide) ?_
        obtain ⟨hs, hf⟩ := gCk_b hf
        refine g_cBI hI hf (fun v9 h9 e9 l9 l9' => g_rV X hI l9 l9' ⟨Nat.le_refl _, Nat.le_refl _⟩ (As := [.ref a2, .int x5, .int x4, .int (1 : Int32)]) (m_X3_behind X.2.2.2.2.2.2.2.2.2.2.1 e9) ydX3_behind hs rfl rfl q717 q560 q561 q123 q562 rfl (Nat.le_of_ble_eq_true rfl) (Nat.le_of_ble_eq_true rfl) hl.1 rfl (Nat.le_of_ble_eq_true rfl) dX1_corners_40) (fun r103 h H locs cells slots hf hI => ?_)
        refine lv_istore (lv' := [(4, .int r103), (0, .ref a0), (2, .ref a2), (3, .int x3), (5, .int x5)]) hx hb dX1_corners_43 hl (by decide) rfl (fun ls hl => ?_)
        refine lv_iload_n hx hb dX1_corners_45 rfl (lv_at hl 3 rfl) ?_
        refine lv_aload_n hx hb dX1_corners_46 rfl (lv_at hl 1 rfl) ?_
        refine g_fr X hI hf fX1_1 q461 rfl rfl dX1_corners_47 (fun v104 hf => ?_)
        refine g_frN X hI hf fX3_3 q264 rfl rfl dX1_corners_50 (fun v105 hf => ?_)
        refine lv_iload hx hb dX1_corners_53 (lv_at hl 4 rfl) ?_
        refine g_ai0 X hI hf dX1_corners_55 (fun v106 hf => ?_)
        refine lv_iconst (v := (-1 : Int32)) hx hb dX1_corners_56 (by decide) ?_
        refine lv_icmp_ne (tgt := 78) hx hb dX1_corners_57 (by decide) (fun c57 => ?_) (fun c57 => ?_)
        · have hf := g_f c57 hf
          exact b_X1_corners_78 X ih _ _ _ _ _ _ _ _ _ _ _ hf hI (lv_sub hl [1, 2, 0, 4] rfl)
        · have hf := g_t c57 hf
          refine lv_iload hx hb dX1_corners_60 (lv_at hl 0 rfl) ?_
          refine lv_aload_n hx hb dX1_corners_62 rfl (lv_at hl 2 rfl) ?_
          refine g_fiN X hI hf fX5_1 q235 rfl rfl dX1_corners_63 (fun v107 hf => ?_)
          refine lv_iconst (v := (2 : Int32)) hx hb dX1_corners_66 (by decide) ?_
          refine lv_idiv hx hb dX1_corners_67 (by decide) ?_
          refine lv_icmp_lt (tgt := 78) hx hb dX1_corners_68 (by decide) (fun c68 => ?_) (fun c68 => ?_)
          · have hf := g_t c68 hf
            exact b_X1_corners_78 X ih _ _ _ _ _ _ _ _ _ _ _ hf hI (lv_sub hl [1, 2, 0, 4] rfl)
          · have hf := g_f c68 hf
            refine lv_iconst (v := (1 : Int32)) hx hb dX1_corners_71 (by decide) ?_
            refine lv_iload hx hb dX1_corners_72 (lv_at hl 4 rfl) ?_
            refine lv_ishl hx hb dX1_corners_74 ?_
            refine lv_goto (tgt := 79) hx hb dX1_corners_75 (by decide) ?_
            exact b_X1_corners_79 X ih _ _ _ _ _ _ _ _ _ _ _ _ hf hI (lv_sub hl [1, 2, 0, 4] rfl)
def f_X1_corners (a0 : Nat) (x1 : Int32) : gM (Int32 ⊕ gE) :=
    gB (gCk a0 0) fun _ =>
    gT (f_X1_oneAt a0 x1) fun r1 =>
    f_X1_corners_14 gN a0 r1 (0 : Int32) (0 : Int32) (0 : Int32)
set_option maxHeartbeats 4000000 in
set_option maxRecDepth 100000 in
theorem m_X1_corners {G : gG} {l : Launch} (hfl : l.stackTraces = false) {a0 : Nat} {x1 : Int32} {h h' : g_H} {r : (Int32 ⊕ gE)} (hf : (f_X1_corners a0 x1).1 h = some (r, h')) : gMet G l yX1_corners (Cond.code yX1_corners cX1_corners 6 (some .int)) 101 1866 [.ref a0, .int x1] h (g_w g_wI r) h' := by
  refine g_head hfl ((f_X1_corners a0 x1).2 h r h' hf) (plainFor_of_name (by decide)) (Nat.le_of_ble_eq_true rfl) (fun p e s m below meth c H locs cells slots ls X hI hl9 => ?_)
  have hl : lv_has ls 6 [(0, .ref a0), (1, .int x1)] := hl9
  have hx := X.1
  have hb := X.2.1
  have hown := X.2.2.2.1
  have hts := X.2.2.2.2.1
  unfold f_X1_corners at hf
  refine lv_aload_n hx hb dX1_corners_0 rfl (lv_at hl 0 rfl) ?_
  refine lv_iload_n hx hb dX1_corners_1 rfl (lv_at hl 1 rfl) ?_
  obtain ⟨hs, hf⟩ := gCk_b hf
  refine g_cTR X hI (by decide) hf (fun v9 h9 e9 l9 l9' => g_rV X hI l9 l9' ⟨Nat.le_refl _, Nat.le_refl _⟩ (As := [.int x1]) (m_X1_oneAt X.2.2.2.2.2.2.2.2.2.2.1 e9) ydX1_oneAt hs rfl rfl q1189 q1191 qs37 q121 q1192 rfl (Nat.le_of_ble_eq_true rfl) (Nat.le_of_ble_eq_true rfl) hl.1 rfl (Nat.le_of_ble_eq_true rfl) dX1_corners_2) (fun r1 h H locs cells slots hf hI => ?_)
  refine lv_astore_n (lv' := [(2, .ref r1), (0, .ref a0), (1, .int x1)]) hx hb dX1_corners_5 rfl hl (by decide) rfl (fun ls hl => ?_)
  refine lv_iconst (v := (0 : Int32)) hx hb dX1_corners_6 (by decide) ?_
  refine lv_istore_n (lv' := [(3, .int (0 : Int32)), (2, .ref r1), (0, .ref a0), (1, .int x1)]) hx hb dX1_corners_7 rfl hl (by decide) rfl (fun ls hl => ?_)
  refine lv_iconst (v := (0 : Int32)) hx hb dX1_corners_8 (by decide) ?_
  refine lv_istore (lv' := [(4, .int (0 : Int32)), (3, .int (0 : Int32)), (2, .ref r1), (0, .ref a0), (1, .int x1)]) hx hb dX1_corners_9 hl (by decide) rfl (fun ls hl => ?_)
  refine lv_iconst (v := (0 : Int32)) hx hb dX1_corners_11 (by decide) ?_
  refine lv_istore (lv' := [(5, .int (0 : Int32)), (4, .int (0 : Int32)), (3, .int (0 : Int32)), (2, .ref r1), (0, .ref a0), (1, .int x1)]) hx hb dX1_corners_12 hl (by decide) rfl (fun ls hl => ?_)
  exact b_X1_corners_14 X gN _ _ _ _ _ _ _ _ _ _ _ hf hI (lv_sub hl [4, 3, 2, 1, 0] rfl)
/-! X0_corners -/
def f_X0_corners (a0 : Nat) (x1 : Int32) (a2 : Nat) : gM Int32 :=
    gB (gCk a0 0) fun _ =>
    gB (f_X1_corners a0 x1) fun r9 => match r9 with
    | .inl r1 => (gB (gSI a2 2 (0 : Int32) (r1)) fun _ =>
    (gRet (0 : Int32)))
    | .inr x9 => (gIf (x9.1 = 19)
    ((gRet (1 : Int32)))
    (gFail))
set_option maxHeartbeats 4000000 in
set_option maxRecDepth 100000 in
theorem m_X0_corners {G : gG} {l : Launch} (hfl : l.stackTraces = false) {a0 : Nat} {x1 : Int32} {a2 : Nat} {h h' : g_H} {r : Int32} (hf : (f_X0_corners a0 x1 a2).1 h = some (r, h')) : gMet G l yX0_corners (Cond.codeWith yX0_corners cX0_corners 4 (some .int) [(0, 9, 12, 24)]) 102 1891 [.ref a0, .int x1, .ref a2] h (.inl (g_wI r)) h' := by
  refine g_headW hfl ((f_X0_corners a0 x1 a2).2 h r h' hf) (plainFor_of_name (by decide)) (Nat.le_of_ble_eq_true rfl) (fun p e s m below meth c H locs cells slots ls X hI hl9 => ?_)
  have hl : lv_has ls 4 [(0, .ref a0), (1, .int x1), (2, .ref a2)] := hl9
  have hx := X.1
  have hb := X.2.1
  have hown := X.2.2.2.1
  have hts := X.2.2.2.2.1
  unfold f_X0_corners at hf
  refine lv_aload_n hx hb dX0_corners_0 rfl (lv_at hl 2 rfl) ?_
  refine lv_iconst (v := (0 : Int32)) hx hb dX0_corners_1 (by decide) ?_
  refine lv_aload_n hx hb dX0_corners_2 rfl (lv_at hl 0 rfl) ?_
  refine lv_iload_n hx hb dX0_corners_3 rfl (lv_at hl 1 rfl) ?_
  obtain ⟨hs, hf⟩ := gCk_b hf
  refine g_cHI hI hf (fun v9 h9 e9 l9 l9' => g_rV X hI l9 l9' ⟨Nat.le_refl _, Nat.le_refl _⟩ (As := [.int x1]) (m_X1_corners X.2.2.2.2.2.2.2.2.2.2.1 e9) ydX1_corners hs rfl rfl q1356 q1357 q1358 q121 q1359 rfl (Nat.le_of_ble_eq_true rfl) (Nat.le_of_ble_eq_true rfl) hl.1 rfl (Nat.le_of_ble_eq_true rfl) dX0_corners_4) (fun r1 h H locs cells slots hf hI => ?_) ?_
  · refine lv_i2l hx hb dX0_corners_7 rfl ?_
    refine g_si2 X hI hf dX0_corners_8 (fun h H locs hf hI => ?_)
    refine lv_goto (tgt := 15) hx hb dX0_corners_9 (by decide) ?_
    refine lv_iconst (v := (0 : Int32)) hx hb dX0_corners_15 (by decide) ?_
    cases gRet_e hf
    exact g_retI X hI rfl dX0_corners_16
  · intro ci9 x9 h H locs cells slots r9 ce9 hf hr9 hI hce hcv hcl
    by_cases k0 : ci9 = 19
    · subst k0
      cases hr9
      have hf := g_t rfl hf
      refine g_catch0 X hI (name := "java/lang/IndexOutOfBoundsException") rfl (by rfl) (by decide) (by decide) q1098 q1144 hce hcv hcl ?_
      refine lv_astore_n (lv' := [(3, .ref x9), (0, .ref a0), (1, .int x1), (2, .ref a2)]) hx hb dX0_corners_12 rfl hl (by decide) rfl (fun ls hl => ?_)
      refine lv_iconst (v := (1 : Int32)) hx hb dX0_corners_13 (by decide) ?_
      cases gRet_e hf
      exact g_retI X hI rfl dX0_corners_14
    have hf := g_f k0 hf
    exact (gFail_f hf).elim
/-! X8_corners -/
abbrev w_X8_corners_78 (G : gG) (l : Launch) (p : Program) (e : Env) (s : State) (m : MethodId) (args : Array Value) (below : List Frame) (meth : Method) (c : Code) (h0 : g_H) (r : Int32) (h' : g_H) (k : Nat → Int32 → Int32 → Int32 → gM Int32) : Prop := ∀ (a0 : Nat) (x3 : Int32) (u0 : Int32) (u1 : Int32) (h : g_H) (H : Heap) (locs : List Loc) (cells slots : Nat) (ls : Array Slot), (k a0 x3 u0 u1).1 h = some (r, h') → gI G h0 h H locs cells slots → lv_has ls 4 [(0, .ref a0), (3, .int x3)] → W p l e (g_rm 11 249 h0 h') s m args below meth c H locs cells slots (gQ G below args s h0 h' (.inl (g_wI r))) (F0 m 78 ls [.int u1, .int u0])
abbrev w_X8_corners_77 (G : gG) (l : Launch) (p : Program) (e : Env) (s : State) (m : MethodId) (args : Array Value) (below : List Frame) (meth : Method) (c : Code) (h0 : g_H) (r : Int32) (h' : g_H) (k : Nat → Int32 → Int32 → gM Int32) : Prop := ∀ (a0 : Nat) (x3 : Int32) (u0 : Int32) (h : g_H) (H : Heap) (locs : List Loc) (cells slots : Nat) (ls : Array Slot), (k a0 x3 u0).1 h = some (r, h') → gI G h0 h H locs cells slots → lv_has ls 4 [(0, .ref a0), (3, .int x3)] → W p l e (g_rm 11 249 h0 h') s m args below meth c H locs cells slots (gQ G below args s h0 h' (.inl (g_wI r))) (F0 m 77 ls [.int u0])
abbrev w_X8_corners_86 (G : gG) (l : Launch) (p : Program) (e : Env) (s : State) (m : MethodId) (args : Array Value) (below : List Frame) (meth : Method) (c : Code) (h0 : g_H) (r : Int32) (h' : g_H) (k : Int32 → gM Int32) : Prop := ∀ (x2 : Int32) (h : g_H) (H : Heap) (locs : List Loc) (cells slots : Nat) (ls : Array Slot), (k x2).1 h = some (r, h') → gI G h0 h H locs cells slots → lv_has ls 4 [(2, .int x2)] → W p l e (g_rm 11 249 h0 h') s m args below meth c H locs cells slots (gQ G below args s h0 h' (.inl (g_wI r))) (F0 m 86 ls [])
abbrev w_X8_corners_30 (G : gG) (l : Launch) (p : Program) (e : Env) (s : State) (m : MethodId) (args : Array Value) (below : List Frame) (meth : Method) (c : Code) (h0 : g_H) (r : Int32) (h' : g_H) (k : Nat → Int32 → Int32 → gM Int32) : Prop := ∀ (a0 : Nat) (x2 : Int32) (x3 : Int32) (h : g_H) (H : Heap) (locs : List Loc) (cells slots : Nat) (ls : Array Slot), (k a0 x2 x3).1 h = some (r, h') → gI G h0 h H locs cells slots → lv_has ls 4 [(0, .ref a0), (2, .int x2), (3, .int x3)] → W p l e (g_rm 11 249 h0 h') s m args below meth c H locs cells slots (gQ G below args s h0 h' (.inl (g_wI r))) (F0 m 30 ls [])
def f_X8_corners_78 (k30 : Nat → Int32 → Int32 → gM Int32) (a0 : Nat) (x3 : Int32) (u0 : Int32) (u1 : Int32) : gM Int32 :=
    k30 a0 (u0 ||| u1) (x3 + (1 : Int32))
set_option maxHeartbeats 4000000 in
set_option maxRecDepth 100000 in
theorem b_X8_corners_78 {G : gG} {l : Launch} {p : Program} {e : Env} {s : State} {m : MethodId} {args : Array Value} {below : List Frame} {meth : Method} {c : Code} {h0 : g_H} {r : Int32} {h' : g_H} (X : gX G l yX8_corners.cls cX8_corners 4 (some .int) [] yX8_corners.name p s m args meth c) {k30 : Nat → Int32 → Int32 → gM Int32} (K30 : w_X8_corners_30 G l p e s m args below meth c h0 r h' k30) : w_X8_corners_78 G l p e s m args below meth c h0 r h' (f_X8_corners_78 k30) := by
  have hx := X.1
  have hb := X.2.1
  have hown := X.2.2.2.1
  have hts := X.2.2.2.2.1
  intro a0 x3 u0 u1 h H locs cells slots ls hf hI hl
  unfold f_X8_corners_78 at hf
  refine lv_ior hx hb dX8_corners_78 ?_
  refine lv_istore_n (lv' := [(2, .int (u0 ||| u1)), (0, .ref a0), (3, .int x3)]) hx hb dX8_corners_79 rfl hl (by decide) rfl (fun ls hl => ?_)
  refine lv_iinc (v := (x3 + (1 : Int32))) (lv' := [(3, .int (x3 + (1 : Int32))), (2, .int (u0 ||| u1)), (0, .ref a0)]) hx hb dX8_corners_80 hl (k := 2) rfl rfl (by decide) rfl (fun ls hl => ?_)
  refine lv_goto (tgt := 30) hx hb dX8_corners_83 (by decide) ?_
  exact K30 _ _ _ _ _ _ _ _ _ hf hI (lv_sub hl [2, 1, 0] rfl)
def f_X8_corners_77 (k30 : Nat → Int32 → Int32 → gM Int32) (a0 : Nat) (x3 : Int32) (u0 : Int32) : gM Int32 :=
    f_X8_corners_78 k30 a0 x3 u0 (0 : Int32)
set_option maxHeartbeats 4000000 in
set_option maxRecDepth 100000 in
theorem b_X8_corners_77 {G : gG} {l : Launch} {p : Program} {e : Env} {s : State} {m : MethodId} {args : Array Value} {below : List Frame} {meth : Method} {c : Code} {h0 : g_H} {r : Int32} {h' : g_H} (X : gX G l yX8_corners.cls cX8_corners 4 (some .int) [] yX8_corners.name p s m args meth c) {k30 : Nat → Int32 → Int32 → gM Int32} (K30 : w_X8_corners_30 G l p e s m args below meth c h0 r h' k30) : w_X8_corners_77 G l p e s m args below meth c h0 r h' (f_X8_corners_77 k30) := by
  have hx := X.1
  have hb := X.2.1
  have hown := X.2.2.2.1
  have hts := X.2.2.2.2.1
  intro a0 x3 u0 h H locs cells slots ls hf hI hl
  unfold f_X8_corners_77 at hf
  refine lv_iconst (v := (0 : Int32)) hx hb dX8_corners_77 (by decide) ?_
  exact b_X8_corners_78 X K30 _ _ _ _ _ _ _ _ _ _ hf hI (lv_sub hl [0, 1] rfl)
def f_X8_corners_86 (x2 : Int32) : gM Int32 :=
    (gRet x2)
set_option maxHeartbeats 4000000 in
set_option maxRecDepth 100000 in
theorem b_X8_corners_86 {G : gG} {l : Launch} {p : Program} {e : Env} {s : State} {m : MethodId} {args : Array Value} {below : List Frame} {meth : Method} {c : Code} {h0 : g_H} {r : Int32} {h' : g_H} (X : gX G l yX8_corners.cls cX8_corners 4 (some .int) [] yX8_corners.name p s m args meth c) : w_X8_corners_86 G l p e s m args below meth c h0 r h' (f_X8_corners_86) := by
  have hx := X.1
  have hb := X.2.1
  have hown := X.2.2.2.1
  have hts := X.2.2.2.2.1
  intro x2 h H locs cells slots ls hf hI hl
  unfold f_X8_corners_86 at hf
  refine lv_iload_n hx hb dX8_corners_86 rfl (lv_at hl 0 rfl) ?_
  cases gRet_e hf
  exact g_retI X hI rfl dX8_corners_87
def f_X8_corners_30 : Nat → Nat → Int32 → Int32 → gM Int32
  | 0, _, _, _ => gFail
  | n + 1, a0, x2, x3 =>
    gIf ((10 : Int32) ≤ x3)
    (f_X8_corners_86 x2)
    (gB (gCk a0 7) fun _ =>
    gB (f_X8_propIn a0 x3) fun r101 =>
    gIf (r101 = (-1 : Int32))
    (gB (gFR a0 7 25) fun v102 =>
    gB (gAI v102 0 x3) fun v103 =>
    gIf (v103 = (-1 : Int32))
    (f_X8_corners_77 (f_X8_corners_30 n) a0 x3 x2)
    (gB (gFR a0 7 25) fun v104 =>
    gB (gAI v104 0 x3) fun v105 =>
    gB (gFI a0 7 19) fun v106 =>
    gIf (v105 < (v106 / (2 : Int32)))
    (f_X8_corners_77 (f_X8_corners_30 n) a0 x3 x2)
    (f_X8_corners_78 (f_X8_corners_30 n) a0 x3 x2 ((1 : Int32) <<< (x3 &&& 31)))))
    (f_X8_corners_77 (f_X8_corners_30 n) a0 x3 x2))
set_option maxHeartbeats 4000000 in
set_option maxRecDepth 100000 in
theorem b_X8_corners_30 {G : gG} {l : Launch} {p : Program} {e : Env} {s : State} {m : MethodId} {args : Array Value} {below : List Frame} {meth : Method} {c : Code} {h0 : g_H} {r : Int32} {h' : g_H} (X : gX G l yX8_corners.cls cX8_corners 4 (some .int) [] yX8_corners.name p s m args meth c) : ∀ n : Nat, w_X8_corners_30 G l p e s m args below meth c h0 r h' (f_X8_corners_30 n) := by
  have hx := X.1
  have hb := X.2.1
  have hown := X.2.2.2.1
  have hts := X.2.2.2.2.1
  intro n
  induction n with
  | zero =>
    intro a0 x2 x3 h H locs cells slots ls hf hI hl
    exact (gFail_f hf).elim
  | succ n ih =>
    intro a0 x2 x3 h H locs cells slots ls hf hI hl
    rw [f_X8_corners_30] at hf
    refine lv_iload_n hx hb dX8_corners_30 rfl (lv_at hl 2 rfl) ?_
    refine lv_bipush (v := (10 : Int32)) hx hb dX8_corners_31 (by decide) ?_
    refine lv_icmp_ge (tgt := 86) hx hb dX8_corners_33 (by decide) (fun c33 => ?_) (fun c33 => ?_)
    · have hf := g_t c33 hf
      exact b_X8_corners_86 X _ _ _ _ _ _ _ hf hI (lv_sub hl [1] rfl)
    · have hf := g_f c33 hf
      refine lv_iload_n hx hb dX8_corners_36 rfl (lv_at hl 1 rfl) ?_
      refine lv_aload_n hx hb dX8_corners_37 rfl (lv_at hl 0 rfl) ?_
      refine lv_iload_n hx hb dX8_corners_38 rfl (lv_at hl 2 rfl) ?_
      obtain ⟨hs, hf⟩ := gCk_b hf
      refine g_cBI hI hf (fun v9 h9 e9 l9 l9' => g_rV X hI l9 l9' ⟨Nat.le_refl _, Nat.le_refl _⟩ (As := [.int x3]) (m_X8_propIn X.2.2.2.2.2.2.2.2.2.2.1 e9) ydX8_propIn hs rfl rfl q1655 q1657 qs58 q131 q1658 rfl (Nat.le_of_ble_eq_true rfl) (Nat.le_of_ble_eq_true rfl) hl.1 rfl (Nat.le_of_ble_eq_true rfl) dX8_corners_39) (fun r101 h H locs cells slots hf hI => ?_)
      refine lv_iconst (v := (-1 : Int32)) hx hb dX8_corners_42 (by decide) ?_
      refine lv_icmp_ne (tgt := 77) hx hb dX8_corners_43 (by decide) (fun c43 => ?_) (fun c43 => ?_)
      · have hf := g_f c43 hf
        exact b_X8_corners_77 X ih _ _ _ _ _ _ _ _ _ hf hI (lv_sub hl [0, 2] rfl)
      · have hf := g_t c43 hf
        refine lv_aload_n hx hb dX8_corners_46 rfl (lv_at hl 0 rfl) ?_
        refine g_fr X hI hf fX8_25 q1469 rfl rfl dX8_corners_47 (fun v102 hf => ?_)
        refine lv_iload_n hx hb dX8_corners_50 rfl (lv_at hl 2 rfl) ?_
        refine g_ai0 X hI hf dX8_corners_51 (fun v103 hf => ?_)
        refine lv_iconst (v := (-1 : Int32)) hx hb dX8_corners_52 (by decide) ?_
        refine lv_icmp_eq (tgt := 77) hx hb dX8_corners_53 (by decide) (fun c53 => ?_) (fun c53 => ?_)
        · have hf := g_t c53 hf
          exact b_X8_corners_77 X ih _ _ _ _ _ _ _ _ _ hf hI (lv_sub hl [0, 2] rfl)
        · have hf := g_f c53 hf
          refine lv_aload_n hx hb dX8_corners_56 rfl (lv_at hl 0 rfl) ?_
          refine g_fr X hI hf fX8_25 q1469 rfl rfl dX8_corners_57 (fun v104 hf => ?_)
          refine lv_iload_n hx hb dX8_corners_60 rfl (lv_at hl 2 rfl) ?_
          refine g_ai0 X hI hf dX8_corners_61 (fun v105 hf => ?_)
          refine lv_aload_n hx hb dX8_corners_62 rfl (lv_at hl 0 rfl) ?_
          refine g_fi X hI hf fX8_19 q1463 rfl rfl dX8_corners_63 (fun v106 hf => ?_)
          refine lv_iconst (v := (2 : Int32)) hx hb dX8_corners_66 (by decide) ?_
          refine lv_idiv hx hb dX8_corners_67 (by decide) ?_
          refine lv_icmp_lt (tgt := 77) hx hb dX8_corners_68 (by decide) (fun c68 => ?_) (fun c68 => ?_)
          · have hf := g_t c68 hf
            exact b_X8_corners_77 X ih _ _ _ _ _ _ _ _ _ hf hI (lv_sub hl [0, 2] rfl)
          · have hf := g_f c68 hf
            refine lv_iconst (v := (1 : Int32)) hx hb dX8_corners_71 (by decide) ?_
            refine lv_iload_n hx hb dX8_corners_72 rfl (lv_at hl 2 rfl) ?_
            refine lv_ishl hx hb dX8_corners_73 ?_
            refine lv_goto (tgt := 78) hx hb dX8_corners_74 (by decide) ?_
            exact b_X8_corners_78 X ih _ _ _ _ _ _ _ _ _ _ hf hI (lv_sub hl [0, 2] rfl)
def f_X8_corners (a0 : Nat) (x1 : Int32) : gM Int32 :=
    gB (gPI a0 7 0 (0 : Int32)) fun _ =>
    gB (gCk a0 7) fun _ =>
    gB (f_X8_noOne a0 x1) fun r1 =>
    gB (gCk a0 7) fun _ =>
    gB (f_X8_throwsIf a0 r1 (1 : Int32)) fun r2 =>
    gIf (r2 = 0)
    (gB (gCk a0 7) fun _ =>
    gB (f_X8_ridesStraight a0 x1) fun r3 =>
    f_X8_corners_30 gN a0 (0 : Int32) (0 : Int32))
    ((gRet (0 : Int32)))
set_option maxHeartbeats 4000000 in
set_option maxRecDepth 100000 in
theorem m_X8_corners {G : gG} {l : Launch} (hfl : l.stackTraces = false) {a0 : Nat} {x1 : Int32} {h h' : g_H} {r : Int32} (hf : (f_X8_corners a0 x1).1 h = some (r, h')) : gMet G l yX8_corners (Cond.code yX8_corners cX8_corners 4 (some .int)) 11 249 [.ref a0, .int x1] h (.inl (g_wI r)) h' := by
  refine g_head hfl ((f_X8_corners a0 x1).2 h r h' hf) (plainFor_of_name (by decide)) (Nat.le_of_ble_eq_true rfl) (fun p e s m below meth c H locs cells slots ls X hI hl9 => ?_)
  have hl : lv_has ls 4 [(0, .ref a0), (1, .int x1)] := hl9
  have hx := X.1
  have hb := X.2.1
  have hown := X.2.2.2.1
  have hts := X.2.2.2.2.1
  unfold f_X8_corners at hf
  refine lv_aload_n hx hb dX8_corners_0 rfl (lv_at hl 0 rfl) ?_
  refine lv_iconst (v := (0 : Int32)) hx hb dX8_corners_1 (by decide) ?_
  refine g_pi X hI hf fX8_0 q1444 rfl dX8_corners_2 (fun h H locs hf hI => ?_)
  refine lv_aload_n hx hb dX8_corners_5 rfl (lv_at hl 0 rfl) ?_
  refine lv_aload_n hx hb dX8_corners_6 rfl (lv_at hl 0 rfl) ?_
  refine lv_iload_n hx hb dX8_corners_7 rfl (lv_at hl 1 rfl) ?_
  obtain ⟨hs, hf⟩ := gCk_b hf
  refine g_cBI hI hf (fun v9 h9 e9 l9 l9' => g_rV X hI l9 l9' ⟨Nat.le_refl _, Nat.le_refl _⟩ (As := [.int x1]) (m_X8_noOne X.2.2.2.2.2.2.2.2.2.2.1 e9) ydX8_noOne hs rfl rfl q1763 q1765 qs74 q131 q1766 rfl (Nat.le_of_ble_eq_true rfl) (Nat.le_of_ble_eq_true rfl) hl.1 rfl (Nat.le_of_ble_eq_true rfl) dX8_corners_8) (fun r1 h H locs cells slots hf hI => ?_)
  refine lv_iconst (v := (1 : Int32)) hx hb dX8_corners_11 (by decide) ?_
  obtain ⟨hs, hf⟩ := gCk_b hf
  refine g_cBI hI hf (fun v9 h9 e9 l9 l9' => g_rV X hI l9 l9' ⟨Nat.le_refl _, Nat.le_refl _⟩ (As := [.int r1, .int (1 : Int32)]) (m_X8_throwsIf X.2.2.2.2.2.2.2.2.2.2.1 e9) ydX8_throwsIf hs rfl rfl q1736 q1738 qs72 q131 q1739 rfl (Nat.le_of_ble_eq_true rfl) (Nat.le_of_ble_eq_true rfl) hl.1 rfl (Nat.le_of_ble_eq_true rfl) dX8_corners_12) (fun r2 h H locs cells slots hf hI => ?_)
  refine lv_if_eq (tgt := 20) hx hb dX8_corners_15 (by decide) (fun c15 => ?_) (fun c15 => ?_)
  · have hf := g_t c15 hf
    refine lv_aload_n hx hb dX8_corners_20 rfl (lv_at hl 0 rfl) ?_
    refine lv_iload_n hx hb dX8_corners_21 rfl (lv_at hl 1 rfl) ?_
    obtain ⟨hs, hf⟩ := gCk_b hf
    refine g_cBI hI hf (fun v9 h9 e9 l9 l9' => g_rV X hI l9 l9' ⟨Nat.le_refl _, Nat.le_refl _⟩ (As := [.int x1]) (m_X8_ridesStraight X.2.2.2.2.2.2.2.2.2.2.1 e9) ydX8_ridesStraight hs rfl rfl q1886 q1888 qs94 q131 q1889 rfl (Nat.le_of_ble_eq_true rfl) (Nat.le_of_ble_eq_true rfl) hl.1 rfl (Nat.le_of_ble_eq_true rfl) dX8_corners_22) (fun r3 h H locs cells slots hf hI => ?_)
    refine lv_pop hx hb dX8_corners_25 rfl ?_
    refine lv_iconst (v := (0 : Int32)) hx hb dX8_corners_26 (by decide) ?_
    refine lv_istore_n (lv' := [(2, .int (0 : Int32)), (0, .ref a0), (1, .int x1)]) hx hb dX8_corners_27 rfl hl (by decide) rfl (fun ls hl => ?_)
    refine lv_iconst (v := (0 : Int32)) hx hb dX8_corners_28 (by decide) ?_
    refine lv_istore_n (lv' := [(3, .int (0 : Int32)), (2, .int (0 : Int32)), (0, .ref a0), (1, .int x1)]) hx hb dX8_corners_29 rfl hl (by decide) rfl (fun ls hl => ?_)
    exact b_X8_corners_30 X gN _ _ _ _ _ _ _ _ _ hf hI (lv_sub hl [2, 1, 0] rfl)
  · have hf := g_f c15 hf
    refine lv_iconst (v := (0 : Int32)) hx hb dX8_corners_18 (by decide) ?_
    cases gRet_e hf
    exact g_retI X hI rfl dX8_corners_19
/-! X1_car -/
abbrev w_X1_car_147 (G : gG) (l : Launch) (p : Program) (e : Env) (s : State) (m : MethodId) (args : Array Value) (below : List Frame) (meth : Method) (c : Code) (h0 : g_H) (r : (Int32 ⊕ gE)) (h' : g_H) (k : Nat → Nat → Nat → Int32 → Int32 → Int32 → Int32 → gM (Int32 ⊕ gE)) : Prop := ∀ (a0 : Nat) (a3 : Nat) (a4 : Nat) (x5 : Int32) (x6 : Int32) (x7 : Int32) (x8 : Int32) (h : g_H) (H : Heap) (locs : List Loc) (cells slots : Nat) (ls : Array Slot), (k a0 a3 a4 x5 x6 x7 x8).1 h = some (r, h') → gI G h0 h H locs cells slots → lv_has ls 10 [(0, .ref a0), (3, .ref a3), (4, .ref a4), (5, .int x5), (6, .int x6), (7, .int x7), (8, .int x8)] → W p l e (g_rm 101 1866 h0 h') s m args below meth c H locs cells slots (gQ G below args s h0 h' (g_w g_wI r)) (F0 m 147 ls [])
abbrev w_X1_car_144 (G : gG) (l : Launch) (p : Program) (e : Env) (s : State) (m : MethodId) (args : Array Value) (below : List Frame) (meth : Method) (c : Code) (h0 : g_H) (r : (Int32 ⊕ gE)) (h' : g_H) (k : Nat → Nat → Nat → Int32 → Int32 → Int32 → Int32 → Int32 → gM (Int32 ⊕ gE)) : Prop := ∀ (a0 : Nat) (a3 : Nat) (a4 : Nat) (x6 : Int32) (x7 : Int32) (x8 : Int32) (u0 : Int32) (u1 : Int32) (h : g_H) (H : Heap) (locs : List Loc) (cells slots : Nat) (ls : Array Slot), (k a0 a3 a4 x6 x7 x8 u0 u1).1 h = some (r, h') → gI G h0 h H locs cells slots → lv_has ls 10 [(0, .ref a0), (3, .ref a3), (4, .ref a4), (6, .int x6), (7, .int x7), (8, .int x8)] → W p l e (g_rm 101 1866 h0 h') s m args below meth c H locs cells slots (gQ G below args s h0 h' (g_w g_wI r)) (F0 m 144 ls [.int u1, .int u0])
abbrev w_X1_car_77 (G : gG) (l : Launch) (p : Program) (e : Env) (s : State) (m : MethodId) (args : Array Value) (below : List Frame) (meth : Method) (c : Code) (h0 : g_H) (r : (Int32 ⊕ gE)) (h' : g_H) (k : Nat → Nat → Nat → Int32 → Int32 → Int32 → Int32 → Nat → gM (Int32 ⊕ gE)) : Prop := ∀ (a0 : Nat) (a3 : Nat) (a4 : Nat) (x5 : Int32) (x6 : Int32) (x7 : Int32) (x8 : Int32) (b0 : Nat) (h : g_H) (H : Heap) (locs : List Loc) (cells slots : Nat) (ls : Array Slot), (k a0 a3 a4 x5 x6 x7 x8 b0).1 h = some (r, h') → gI G h0 h H locs cells slots → lv_has ls 10 [(0, .ref a0), (3, .ref a3), (4, .ref a4), (5, .int x5), (6, .int x6), (7, .int x7), (8, .int x8)] → W p l e (g_rm 101 1866 h0 h') s m args below meth c H locs cells slots (gQ G below args s h0 h' (g_w g_wI r)) (F0 m 77 ls [.ref b0])
abbrev w_X1_car_237 (G : gG) (l : Launch) (p : Program) (e : Env) (s : State) (m : MethodId) (args : Array Value) (below : List Frame) (meth : Method) (c : Code) (h0 : g_H) (r : (Int32 ⊕ gE)) (h' : g_H) (k : Nat → Nat → Nat → Int32 → Int32 → gM (Int32 ⊕ gE)) : Prop := ∀ (a0 : Nat) (a3 : Nat) (a4 : Nat) (x5 : Int32) (x6 : Int32) (h : g_H) (H : Heap) (locs : List Loc) (cells slots : Nat) (ls : Array Slot), (k a0 a3 a4 x5 x6).1 h = some (r, h') → gI G h0 h H locs cells slots → lv_has ls 10 [(0, .ref a0), (3, .ref a3), (4, .ref a4), (5, .int x5), (6, .int x6)] → W p l e (g_rm 101 1866 h0 h') s m args below meth c H locs cells slots (gQ G below args s h0 h' (g_w g_wI r)) (F0 m 237 ls [])
abbrev w_X1_car_234 (G : gG) (l : Launch) (p : Program) (e : Env) (s : State) (m : MethodId) (args : Array Value) (below : List Frame) (meth : Method) (c : Code) (h0 : g_H) (r : (Int32 ⊕ gE)) (h' : g_H) (k : Nat → Nat → Nat → Int32 → Int32 → Int32 → gM (Int32 ⊕ gE)) : Prop := ∀ (a0 : Nat) (a3 : Nat) (a4 : Nat) (x6 : Int32) (u0 : Int32) (u1 : Int32) (h : g_H) (H : Heap) (locs : List Loc) (cells slots : Nat) (ls : Array Slot), (k a0 a3 a4 x6 u0 u1).1 h = some (r, h') → gI G h0 h H locs cells slots → lv_has ls 10 [(0, .ref a0), (3, .ref a3), (4, .ref a4), (6, .int x6)] → W p l e (g_rm 101 1866 h0 h') s m args below meth c H locs cells slots (gQ G below args s h0 h' (g_w g_wI r)) (F0 m 234 ls [.int u1, .int u0])
abbrev w_X1_car_220 (G : gG) (l : Launch) (p : Program) (e : Env) (s : State) (m : MethodId) (args : Array Value) (below : List Frame) (meth : Method) (c : Code) (h0 : g_H) (r : (Int32 ⊕ gE)) (h' : g_H) (k : Nat → Nat → Nat → Int32 → Int32 → Int32 → Int32 → Nat → gM (Int32 ⊕ gE)) : Prop := ∀ (a0 : Nat) (a3 : Nat) (a4 : Nat) (x6 : Int32) (x8 : Int32) (u0 : Int32) (u1 : Int32) (b2 : Nat) (h : g_H) (H : Heap) (locs : List Loc) (cells slots : Nat) (ls : Array Slot), (k a0 a3 a4 x6 x8 u0 u1 b2).1 h = some (r, h') → gI G h0 h H locs cells slots → lv_has ls 10 [(0, .ref a0), (3, .ref a3), (4, .ref a4), (6, .int x6), (8, .int x8)] → W p l e (g_rm 101 1866 h0 h') s m args below meth c H locs cells slots (gQ G below args s h0 h' (g_w g_wI r)) (F0 m 220 ls [.ref b2, .int u1, .int u0])
abbrev w_X1_car_181 (G : gG) (l : Launch) (p : Program) (e : Env) (s : State) (m : MethodId) (args : Array Value) (below : List Frame) (meth : Method) (c : Code) (h0 : g_H) (r : (Int32 ⊕ gE)) (h' : g_H) (k : Nat → Nat → Nat → Int32 → Int32 → Int32 → gM (Int32 ⊕ gE)) : Prop := ∀ (a0 : Nat) (a3 : Nat) (a4 : Nat) (x5 : Int32) (x6 : Int32) (u0 : Int32) (h : g_H) (H : Heap) (locs : List Loc) (cells slots : Nat) (ls : Array Slot), (k a0 a3 a4 x5 x6 u0).1 h = some (r, h') → gI G h0 h H locs cells slots → lv_has ls 10 [(0, .ref a0), (3, .ref a3), (4, .ref a4), (5, .int x5), (6, .int x6)] → W p l e (g_rm 101 1866 h0 h') s m args below meth c H locs cells slots (gQ G below args s h0 h' (g_w g_wI r)) (F0 m 181 ls [.int u0])
abbrev w_X1_car_153 (G : gG) (l : Launch) (p : Program) (e : Env) (s : State) (m : MethodId) (args : Array Value) (below : List Frame) (meth : Method) (c : Code) (h0 : g_H) (r : (Int32 ⊕ gE)) (h' : g_H) (k : Nat → Nat → Nat → Int32 → Int32 → Int32 → gM (Int32 ⊕ gE)) : Prop := ∀ (a0 : Nat) (a3 : Nat) (a4 : Nat) (x5 : Int32) (x6 : Int32) (x7 : Int32) (h : g_H) (H : Heap) (locs : List Loc) (cells slots : Nat) (ls : Array Slot), (k a0 a3 a4 x5 x6 x7).1 h = some (r, h') → gI G h0 h H locs cells slots → lv_has ls 10 [(0, .ref a0), (3, .ref a3), (4, .ref a4), (5, .int x5), (6, .int x6), (7, .int x7)] → W p l e (g_rm 101 1866 h0 h') s m args below meth c H locs cells slots (gQ G below args s h0 h' (g_w g_wI r)) (F0 m 153 ls [])
abbrev w_X1_car_60 (G : gG) (l : Launch) (p : Program) (e : Env) (s : State) (m : MethodId) (args : Array Value) (below : List Frame) (meth : Method) (c : Code) (h0 : g_H) (r : (Int32 ⊕ gE)) (h' : g_H) (k : Nat → Nat → Nat → Int32 → Int32 → Int32 → Int32 → gM (Int32 ⊕ gE)) : Prop := ∀ (a0 : Nat) (a3 : Nat) (a4 : Nat) (x5 : Int32) (x6 : Int32) (x7 : Int32) (x8 : Int32) (h : g_H) (H : Heap) (locs : List Loc) (cells slots : Nat) (ls : Array Slot), (k a0 a3 a4 x5 x6 x7 x8).1 h = some (r, h') → gI G h0 h H locs cells slots → lv_has ls 10 [(0, .ref a0), (3, .ref a3), (4, .ref a4), (5, .int x5), (6, .int x6), (7, .int x7), (8, .int x8)] → W p l e (g_rm 101 1866 h0 h') s m args below meth c H locs cells slots (gQ G below args s h0 h' (g_w g_wI r)) (F0 m 60 ls [])
abbrev w_X1_car_243 (G : gG) (l : Launch) (p : Program) (e : Env) (s : State) (m : MethodId) (args : Array Value) (below : List Frame) (meth : Method) (c : Code) (h0 : g_H) (r : (Int32 ⊕ gE)) (h' : g_H) (k : Int32 → gM (Int32 ⊕ gE)) : Prop := ∀ (x5 : Int32) (h : g_H) (H : Heap) (locs : List Loc) (cells slots : Nat) (ls : Array Slot), (k x5).1 h = some (r, h') → gI G h0 h H locs cells slots → lv_has ls 10 [(5, .int x5)] → W p l e (g_rm 101 1866 h0 h') s m args below meth c H locs cells slots (gQ G below args s h0 h' (g_w g_wI r)) (F0 m 243 ls [])
abbrev w_X1_car_46 (G : gG) (l : Launch) (p : Program) (e : Env) (s : State) (m : MethodId) (args : Array Value) (below : List Frame) (meth : Method) (c : Code) (h0 : g_H) (r : (Int32 ⊕ gE)) (h' : g_H) (k : Nat → Nat → Nat → Int32 → Int32 → gM (Int32 ⊕ gE)) : Prop := ∀ (a0 : Nat) (a3 : Nat) (a4 : Nat) (x5 : Int32) (x6 : Int32) (h : g_H) (H : Heap) (locs : List Loc) (cells slots : Nat) (ls : Array Slot), (k a0 a3 a4 x5 x6).1 h = some (r, h') → gI G h0 h H locs cells slots → lv_has ls 10 [(0, .ref a0), (3, .ref a3), (4, .ref a4), (5, .int x5), (6, .int x6)] → W p l e (g_rm 101 1866 h0 h') s m args below meth c H locs cells slots (gQ G below args s h0 h' (g_w g_wI r)) (F0 m 46 ls [])
abbrev w_X1_car_23 (G : gG) (l : Launch) (p : Program) (e : Env) (s : State) (m : MethodId) (args : Array Value) (below : List Frame) (meth : Method) (c : Code) (h0 : g_H) (r : (Int32 ⊕ gE)) (h' : g_H) (k : Nat → Nat → Nat → Int32 → gM (Int32 ⊕ gE)) : Prop := ∀ (a0 : Nat) (a3 : Nat) (a4 : Nat) (u0 : Int32) (h : g_H) (H : Heap) (locs : List Loc) (cells slots : Nat) (ls : Array Slot), (k a0 a3 a4 u0).1 h = some (r, h') → gI G h0 h H locs cells slots → lv_has ls 10 [(0, .ref a0), (3, .ref a3), (4, .ref a4)] → W p l e (g_rm 101 1866 h0 h') s m args below meth c H locs cells slots (gQ G below args s h0 h' (g_w g_wI r)) (F0 m 23 ls [.int u0])
def f_X1_car_147 (k60 : Nat → Nat → Nat → Int32 → Int32 → Int32 → Int32 → gM (Int32 ⊕ gE)) (a0 : Nat) (a3 : Nat) (a4 : Nat) (x5 : Int32) (x6 : Int32) (x7 : Int32) (x8 : Int32) : gM (Int32 ⊕ gE) :=
    k60 a0 a3 a4 x5 x6 x7 (x8 + (1 : Int32))
set_option maxHeartbeats 4000000 in
set_option maxRecDepth 100000 in
theorem b_X1_car_147 {G : gG} {l : Launch} {p : Program} {e : Env} {s : State} {m : MethodId} {args : Array Value} {below : List Frame} {meth : Method} {c : Code} {h0 : g_H} {r : (Int32 ⊕ gE)} {h' : g_H} (X : gX G l yX1_car.cls cX1_car 10 (some .int) [] yX1_car.name p s m args meth c) {k60 : Nat → Nat → Nat → Int32 → Int32 → Int32 → Int32 → gM (Int32 ⊕ gE)} (K60 : w_X1_car_60 G l p e s m args below meth c h0 r h' k60) : w_X1_car_147 G l p e s m args below meth c h0 r h' (f_X1_car_147 k60) := by
  have hx := X.1
  have hb := X.2.1
  have hown := X.2.2.2.1
  have hts := X.2.2.2.2.1
  intro a0 a3 a4 x5 x6 x7 x8 h H locs cells slots ls hf hI hl
  unfold f_X1_car_147 at hf
  refine lv_iinc (v := (x8 + (1 : Int32))) (lv' := [(8, .int (x8 + (1 : Int32))), (0, .ref a0), (3, .ref a3), (4, .ref a4), (5, .int x5), (6, .int x6), (7, .int x7)]) hx hb dX1_car_147 hl (k := 6) rfl rfl (by decide) rfl (fun ls hl => ?_)
  refine lv_goto (tgt := 60) hx hb dX1_car_150 (by decide) ?_
  exact K60 _ _ _ _ _ _ _ _ _ _ _ _ _ hf hI (lv_sub hl [1, 2, 3, 4, 5, 6, 0] rfl)
def f_X1_car_144 (k60 : Nat → Nat → Nat → Int32 → Int32 → Int32 → Int32 → gM (Int32 ⊕ gE)) (a0 : Nat) (a3 : Nat) (a4 : Nat) (x6 : Int32) (x7 : Int32) (x8 : Int32) (u0 : Int32) (u1 : Int32) : gM (Int32 ⊕ gE) :=
    f_X1_car_147 k60 a0 a3 a4 (u0 ||| u1) x6 x7 x8
set_option maxHeartbeats 4000000 in
set_option maxRecDepth 100000 in
theorem b_X1_car_144 {G : gG} {l : Launch} {p : Program} {e : Env} {s : State} {m : MethodId} {args : Array Value} {below : List Frame} {meth : Method} {c : Code} {h0 : g_H} {r : (Int32 ⊕ gE)} {h' : g_H} (X : gX G l yX1_car.cls cX1_car 10 (some .int) [] yX1_car.name p s m args meth c) {k60 : Nat → Nat → Nat → Int32 → Int32 → Int32 → Int32 → gM (Int32 ⊕ gE)} (K60 : w_X1_car_60 G l p e s m args below meth c h0 r h' k60) : w_X1_car_144 G l p e s m args below meth c h0 r h' (f_X1_car_144 k60) := by
  have hx := X.1
  have hb := X.2.1
  have hown := X.2.2.2.1
  have hts := X.2.2.2.2.1
  intro a0 a3 a4 x6 x7 x8 u0 u1 h H locs cells slots ls hf hI hl
  unfold f_X1_car_144 at hf
  refine lv_ior hx hb dX1_car_144 ?_
  refine lv_istore (lv' := [(5, .int (u0 ||| u1)), (0, .ref a0), (3, .ref a3), (4, .ref a4), (6, .int x6), (7, .int x7), (8, .int x8)]) hx hb dX1_car_145 hl (by decide) rfl (fun ls hl => ?_)
  exact b_X1_car_147 X K60 _ _ _ _ _ _ _ _ _ _ _ _ _ hf hI (lv_sub hl [1, 2, 3, 0, 4, 5, 6] rfl)
def f_X1_car_77 (k60 : Nat → Nat → Nat → Int32 → Int32 → Int32 → Int32 → gM (Int32 ⊕ gE)) (a0 : Nat) (a3 : Nat) (a4 : Nat) (x5 : Int32) (x6 : Int32) (x7 : Int32) (x8 : Int32) (b0 : Nat) : gM (Int32 ⊕ gE) :=
    gIf (((x7 >>> (x8 &&& 31)) &&& (1 : Int32)) = (1 : Int32))
    (f_X1_car_147 k60 a0 a3 a4 x5 x6 x7 x8)
    (gB (gFR a0 0 7) fun v101 =>
    gB (gFR a0 0 1) fun v102 =>
    gB (gFR a0 0 7) fun v103 =>
    gB (gAI v103 0 x8) fun v104 =>
    gB (gCk v102 2) fun _ =>
    gB (f_X3_behind v102 b0 x6 v104 (1 : Int32)) fun r105 =>
    gB (gSI v101 0 x8 r105) fun _ =>
    gB (gFR a0 0 7) fun v106 =>
    gB (gAI v106 0 x8) fun v107 =>
    gB (gFI b0 4 1) fun v108 =>
    gIf (v107 ≤ v108)
    (f_X1_car_144 k60 a0 a3 a4 x6 x7 x8 x5 (0 : Int32))
    (f_X1_car_144 k60 a0 a3 a4 x6 x7 x8 x5 ((1 : Int32) <<< (x8 &&& 31))))
set_option maxHeartbeats 4000000 in
set_option maxRecDepth 100000 in
theorem b_X1_car_77 {G : gG} {l : Launch} {p : Program} {e : Env} {s : State} {m : MethodId} {args : Array Value} {below : List Frame} {meth : Method} {c : Code} {h0 : g_H} {r : (Int32 ⊕ gE)} {h' : g_H} (X : gX G l yX1_car.cls cX1_car 10 (some .int) [] yX1_car.name p s m args meth c) {k60 : Nat → Nat → Nat → Int32 → Int32 → Int32 → Int32 → gM (Int32 ⊕ gE)} (K60 : w_X1_car_60 G l p e s m args below meth c h0 r h' k60) : w_X1_car_77 G l p e s m args below meth c h0 r h' (f_X1_car_77 k60) := by
  have hx := X.1
  have hb := X.2.1
  have hown := X.2.2.2.1
  have hts := X.2.2.2.2.1
  intro a0 a3 a4 x5 x6 x7 x8 b0 h H locs cells slots ls hf hI hl
  unfold f_X1_car_77 at hf
  refine lv_astore (lv' := [(9, .ref b0), (0, .ref a0), (3, .ref a3), (4, .ref a4), (5, .int x5), (6, .int x6), (7, .int x7), (8, .int x8)]) hx hb dX1_car_77 hl (by decide) rfl (fun ls hl => ?_)
  refine lv_iload hx hb dX1_car_79 (lv_at hl 6 rfl) ?_
  refine lv_iload hx hb dX1_car_81 (lv_at hl 7 rfl) ?_
  refine lv_ishr hx hb dX1_car_83 ?_
  refine lv_iconst (v := (1 : Int32)) hx hb dX1_car_84 (by decide) ?_
  refine lv_iand hx hb dX1_car_85 ?_
  refine lv_iconst (v := (1 : Int32)) hx hb dX1_car_86 (by decide) ?_
  refine lv_icmp_ne (tgt := 93) hx hb dX1_car_87 (by decide) (fun c87 => ?_) (fun c87 => ?_)
  · have hf := g_f c87 hf
    refine lv_aload_n hx hb dX1_car_93 rfl (lv_at hl 1 rfl) ?_
    refine g_fr X hI hf fX1_7 q468 rfl rfl dX1_car_94 (fun v101 hf => ?_)
    refine lv_iload hx hb dX1_car_97 (lv_at hl 7 rfl) ?_
    refine lv_aload_n hx hb dX1_car_99 rfl (lv_at hl 1 rfl) ?_
    refine g_fr X hI hf fX1_1 q461 rfl rfl dX1_car_100 (fun v102 hf => ?_)
    refine lv_aload hx hb dX1_car_103 (lv_at hl 0 rfl) ?_
    refine lv_iload hx hb dX1_car_105 (lv_at hl 5 rfl) ?_
    refine lv_aload_n hx hb dX1_car_107 rfl (lv_at hl 1 rfl) ?_
    refine g_fr X hI hf fX1_7 q468 rfl rfl dX1_car_108 (fun v103 hf => ?_)
    refine lv_iload hx hb dX1_car_111 (lv_at hl 7 rfl) ?_
    refine g_ai0 X hI hf dX1_car_113 (fun v104 hf => ?_)
    refine lv_iconst (v := (1 : Int32)) hx hb dX1_car_114 (by decide) ?_
    obtain ⟨hs, hf⟩ := gCk_b hf
    refine g_cBI hI hf (fun v9 h9 e9 l9 l9' => g_rV X hI l9 l9' ⟨Nat.le_refl _, Nat.le_refl _⟩ (As := [.ref b0, .int x6, .int v104, .int (1 : Int32)]) (m_X3_behind X.2.2.2.2.2.2.2.2.2.2.1 e9) ydX3_behind hs rfl rfl q717 q560 q561 q123 q562 rfl (Nat.le_of_ble_eq_true rfl) (Nat.le_of_ble_eq_true rfl) hl.1 rfl (Nat.le_of_ble_eq_true rfl) dX1_car_115) (fun r105 h H locs cells slots hf hI => ?_)
    refine g_si0 X hI hf dX1_car_118 (fun h H locs hf hI => ?_)
    refine lv_iload hx hb dX1_car_119 (lv_at hl 4 rfl) ?_
    refine lv_aload_n hx hb dX1_car_121 rfl (lv_at hl 1 rfl) ?_
    refine g_fr X hI hf fX1_7 q468 rfl rfl dX1_car_122 (fun v106 hf => ?_)
    refine lv_iload hx hb dX1_car_125 (lv_at hl 7 rfl) ?_
    refine g_ai0 X hI hf dX1_car_127 (fun v107 hf => ?_)
    refine lv_aload hx hb dX1_car_128 (lv_at hl 0 rfl) ?_
    refine g_fiN X hI hf fX5_1 q235 rfl rfl dX1_car_130 (fun v108 hf => ?_)
    refine lv_icmp_le (tgt := 143) hx hb dX1_car_133 (by decide) (fun c133 => ?_) (fun c133 => ?_)
    · have hf := g_t c133 hf
      refine lv_iconst (v := (0 : Int32)) hx hb dX1_car_143 (by decide) ?_
      exact b_X1_car_144 X K60 _ _ _ _ _ _ _ _ _ _ _ _ _ _ hf hI (lv_sub hl [1, 2, 3, 5, 6, 7] rfl)
    · have hf := g_f c133 hf
      refine lv_iconst (v := (1 : Int32)) hx hb dX1_car_136 (by decide) ?_
      refine lv_iload hx hb dX1_car_137 (lv_at hl 7 rfl) ?_
      refine lv_ishl hx hb dX1_car_139 ?_
      refine lv_goto (tgt := 144) hx hb dX1_car_140 (by decide) ?_
      exact b_X1_car_144 X K60 _ _ _ _ _ _ _ _ _ _ _ _ _ _ hf hI (lv_sub hl [1, 2, 3, 5, 6, 7] rfl)
  · have hf := g_t c87 hf
    refine lv_goto (tgt := 147) hx hb dX1_car_90 (by decide) ?_
    exact b_X1_car_147 X K60 _ _ _ _ _ _ _ _ _ _ _ _ _ hf hI (lv_sub hl [1, 2, 3, 4, 5, 6, 7] rfl)
def f_X1_car_237 (k46 : Nat → Nat → Nat → Int32 → Int32 → gM (Int32 ⊕ gE)) (a0 : Nat) (a3 : Nat) (a4 : Nat) (x5 : Int32) (x6 : Int32) : gM (Int32 ⊕ gE) :=
    k46 a0 a3 a4 x5 (x6 + (1 : Int32))
set_option maxHeartbeats 4000000 in
set_option maxRecDepth 100000 in
theorem b_X1_car_237 {G : gG} {l : Launch} {p : Program} {e : Env} {s : State} {m : MethodId} {args : Array Value} {below : List Frame} {meth : Method} {c : Code} {h0 : g_H} {r : (Int32 ⊕ gE)} {h' : g_H} (X : gX G l yX1_car.cls cX1_car 10 (some .int) [] yX1_car.name p s m args meth c) {k46 : Nat → Nat → Nat → Int32 → Int32 → gM (Int32 ⊕ gE)} (K46 : w_X1_car_46 G l p e s m args below meth c h0 r h' k46) : w_X1_car_237 G l p e s m args below meth c h0 r h' (f_X1_car_237 k46) := by
  have hx := X.1
  have hb := X.2.1
  have hown := X.2.2.2.1
  have hts := X.2.2.2.2.1
  intro a0 a3 a4 x5 x6 h H locs cells slots ls hf hI hl
  unfold f_X1_car_237 at hf
  refine lv_iinc (v := (x6 + (1 : Int32))) (lv' := [(6, .int (x6 + (1 : Int32))), (0, .ref a0), (3, .ref a3), (4, .ref a4), (5, .int x5)]) hx hb dX1_car_237 hl (k := 4) rfl rfl (by decide) rfl (fun ls hl => ?_)
  refine lv_goto (tgt := 46) hx hb dX1_car_240 (by decide) ?_
  exact K46 _ _ _ _ _ _ _ _ _ _ _ hf hI (lv_sub hl [1, 2, 3, 4, 0] rfl)
def f_X1_car_234 (k46 : Nat → Nat → Nat → Int32 → Int32 → gM (Int32 ⊕ gE)) (a0 : Nat) (a3 : Nat) (a4 : Nat) (x6 : Int32) (u0 : Int32) (u1 : Int32) : gM (Int32 ⊕ gE) :=
    f_X1_car_237 k46 a0 a3 a4 (u0 ||| u1) x6
set_option maxHeartbeats 4000000 in
set_option maxRecDepth 100000 in
theorem b_X1_car_234 {G : gG} {l : Launch} {p : Program} {e : Env} {s : State} {m : MethodId} {args : Array Value} {below : List Frame} {meth : Method} {c : Code} {h0 : g_H} {r : (Int32 ⊕ gE)} {h' : g_H} (X : gX G l yX1_car.cls cX1_car 10 (some .int) [] yX1_car.name p s m args meth c) {k46 : Nat → Nat → Nat → Int32 → Int32 → gM (Int32 ⊕ gE)} (K46 : w_X1_car_46 G l p e s m args below meth c h0 r h' k46) : w_X1_car_234 G l p e s m args below meth c h0 r h' (f_X1_car_234 k46) := by
  have hx := X.1
  have hb := X.2.1
  have hown := X.2.2.2.1
  have hts := X.2.2.2.2.1
  intro a0 a3 a4 x6 u0 u1 h H locs cells slots ls hf hI hl
  unfold f_X1_car_234 at hf
  refine lv_ior hx hb dX1_car_234 ?_
  refine lv_istore (lv' := [(5, .int (u0 ||| u1)), (0, .ref a0), (3, .ref a3), (4, .ref a4), (6, .int x6)]) hx hb dX1_car_235 hl (by decide) rfl (fun ls hl => ?_)
  exact b_X1_car_237 X K46 _ _ _ _ _ _ _ _ _ _ _ hf hI (lv_sub hl [1, 2, 3, 0, 4] rfl)
def f_X1_car_220 (k46 : Nat → Nat → Nat → Int32 → Int32 → gM (Int32 ⊕ gE)) (a0 : Nat) (a3 : Nat) (a4 : Nat) (x6 : Int32) (x8 : Int32) (u0 : Int32) (u1 : Int32) (b2 : Nat) : gM (Int32 ⊕ gE) :=
    gB (gFI b2 4 1) fun v101 =>
    gIf (u1 ≤ v101)
    (f_X1_car_234 k46 a0 a3 a4 x6 u0 (0 : Int32))
    (f_X1_car_234 k46 a0 a3 a4 x6 u0 ((1 : Int32) <<< (x8 &&& 31)))
set_option maxHeartbeats 4000000 in
set_option maxRecDepth 100000 in
theorem b_X1_car_220 {G : gG} {l : Launch} {p : Program} {e : Env} {s : State} {m : MethodId} {args : Array Value} {below : List Frame} {meth : Method} {c : Code} {h0 : g_H} {r : (Int32 ⊕ gE)} {h' : g_H} (X : gX G l yX1_car.cls cX1_car 10 (some .int) [] yX1_car.name p s m args meth c) {k46 : Nat → Nat → Nat → Int32 → Int32 → gM (Int32 ⊕ gE)} (K46 : w_X1_car_46 G l p e s m args below meth c h0 r h' k46) : w_X1_car_220 G l p e s m args below meth c h0 r h' (f_X1_car_220 k46) := by
  have hx := X.1
  have hb := X.2.1
  have hown := X.2.2.2.1
  have hts := X.2.2.2.2.1
  intro a0 a3 a4 x6 x8 u0 u1 b2 h H locs cells slots ls hf hI hl
  unfold f_X1_car_220 at hf
  refine g_fiN X hI hf fX5_1 q235 rfl rfl dX1_car_220 (fun v101 hf => ?_)
  refine lv_icmp_le (tgt := 233) hx hb dX1_car_223 (by decide) (fun c223 => ?_) (fun c223 => ?_)
  · have hf := g_t c223 hf
    refine lv_iconst (v := (0 : Int32)) hx hb dX1_car_233 (by decide) ?_
    exact b_X1_car_234 X K46 _ _ _ _ _ _ _ _ _ _ _ _ hf hI (lv_sub hl [0, 1, 2, 3] rfl)
  · have hf := g_f c223 hf
    refine lv_iconst (v := (1 : Int32)) hx hb dX1_car_226 (by decide) ?_
    refine lv_iload hx hb dX1_car_227 (lv_at hl 4 rfl) ?_
    refine lv_ishl hx hb dX1_car_229 ?_
    refine lv_goto (tgt := 234) hx hb dX1_car_230 (by decide) ?_
    exact b_X1_car_234 X K46 _ _ _ _ _ _ _ _ _ _ _ _ hf hI (lv_sub hl [0, 1, 2, 3] rfl)
def f_X1_car_181 (k46 : Nat → Nat → Nat → Int32 → Int32 → gM (Int32 ⊕ gE)) (a0 : Nat) (a3 : Nat) (a4 : Nat) (x5 : Int32) (x6 : Int32) (u0 : Int32) : gM (Int32 ⊕ gE) :=
    gB (gFR a0 0 7) fun v101 =>
    gB (gAI v101 0 u0) fun v102 =>
    gB (gFR a0 0 1) fun v103 =>
    gB (gFI v103 2 12) fun v104 =>
    gB (gSI v101 0 u0 (v102 + v104)) fun _ =>
    gB (gFR a0 0 7) fun v105 =>
    gB (gAI v105 0 u0) fun v106 =>
    gIf (u0 = 0)
    (f_X1_car_220 k46 a0 a3 a4 x6 u0 x5 v106 a3)
    (f_X1_car_220 k46 a0 a3 a4 x6 u0 x5 v106 a4)
set_option maxHeartbeats 4000000 in
set_option maxRecDepth 100000 in
theorem b_X1_car_181 {G : gG} {l : Launch} {p : Program} {e : Env} {s : State} {m : MethodId} {args : Array Value} {below : List Frame} {meth : Method} {c : Code} {h0 : g_H} {r : (Int32 ⊕ gE)} {h' : g_H} (X : gX G l yX1_car.cls cX1_car 10 (some .int) [] yX1_car.name p s m args meth c) {k46 : Nat → Nat → Nat → Int32 → Int32 → gM (Int32 ⊕ gE)} (K46 : w_X1_car_46 G l p e s m args below meth c h0 r h' k46) : w_X1_car_181 G l p e s m args below meth c h0 r h' (f_X1_car_181 k46) := by
  have hx := X.1
  have hb := X.2.1
  have hown := X.2.2.2.1
  have hts := X.2.2.2.2.1
  intro a0 a3 a4 x5 x6 u0 h H locs cells slots ls hf hI hl
  unfold f_X1_car_181 at hf
  refine lv_istore (lv' := [(8, .int u0), (0, .ref a0), (3, .ref a3), (4, .ref a4), (5, .int x5), (6, .int x6)]) hx hb dX1_car_181 hl (by decide) rfl (fun ls hl => ?_)
  refine lv_aload_n hx hb dX1_car_183 rfl (lv_at hl 1 rfl) ?_
  refine g_fr X hI hf fX1_7 q468 rfl rfl dX1_car_184 (fun v101 hf => ?_)
  refine lv_iload hx hb dX1_car_187 (lv_at hl 0 rfl) ?_
  refine lv_dup2_11 hx hb dX1_car_189 rfl rfl ?_
  refine g_ai0 X hI hf dX1_car_190 (fun v102 hf => ?_)
  refine lv_aload_n hx hb dX1_car_191 rfl (lv_at hl 1 rfl) ?_
  refine g_fr X hI hf fX1_1 q461 rfl rfl dX1_car_192 (fun v103 hf => ?_)
  refine g_fiN X hI hf fX3_12 q285 rfl rfl dX1_car_195 (fun v104 hf => ?_)
  refine lv_iadd hx hb dX1_car_198 ?_
  refine g_si0 X hI hf dX1_car_199 (fun h H locs hf hI => ?_)
  refine lv_iload hx hb dX1_car_200 (lv_at hl 4 rfl) ?_
  refine lv_aload_n hx hb dX1_car_202 rfl (lv_at hl 1 rfl) ?_
  refine g_fr X hI hf fX1_7 q468 rfl rfl dX1_car_203 (fun v105 hf => ?_)
  refine lv_iload hx hb dX1_car_206 (lv_at hl 0 rfl) ?_
  refine g_ai0 X hI hf dX1_car_208 (fun v106 hf => ?_)
  refine lv_iload hx hb dX1_car_209 (lv_at hl 0 rfl) ?_
  refine lv_if_ne (tgt := 218) hx hb dX1_car_211 (by decide) (fun c211 => ?_) (fun c211 => ?_)
  · have hf := g_f c211 hf
    refine lv_aload hx hb dX1_car_218 (lv_at hl 3 rfl) ?_
    exact b_X1_car_220 X K46 _ _ _ _ _ _ _ _ _ _ _ _ _ _ hf hI (lv_sub hl [1, 2, 3, 5, 0] rfl)
  · have hf := g_t c211 hf
    refine lv_aload_n hx hb dX1_car_214 rfl (lv_at hl 2 rfl) ?_
    refine lv_goto (tgt := 220) hx hb dX1_car_215 (by decide) ?_
    exact b_X1_car_220 X K46 _ _ _ _ _ _ _ _ _ _ _ _ _ _ hf hI (lv_sub hl [1, 2, 3, 5, 0] rfl)
def f_X1_car_153 (k46 : Nat → Nat → Nat → Int32 → Int32 → gM (Int32 ⊕ gE)) (a0 : Nat) (a3 : Nat) (a4 : Nat) (x5 : Int32) (x6 : Int32) (x7 : Int32) : gM (Int32 ⊕ gE) :=
    gIf (x7 = 0)
    (gB (f_J7_bitCount x5) fun r101 =>
    gIf (r101 = (1 : Int32))
    (gIf (x5 = (1 : Int32))
    (f_X1_car_181 k46 a0 a3 a4 x5 x6 (1 : Int32))
    (f_X1_car_181 k46 a0 a3 a4 x5 x6 (0 : Int32)))
    (f_X1_car_237 k46 a0 a3 a4 x5 x6))
    (f_X1_car_237 k46 a0 a3 a4 x5 x6)
set_option maxHeartbeats 4000000 in
set_option maxRecDepth 100000 in
theorem b_X1_car_153 {G : gG} {l : Launch} {p : Program} {e : Env} {s : State} {m : MethodId} {args : Array Value} {below : List Frame} {meth : Method} {c : Code} {h0 : g_H} {r : (Int32 ⊕ gE)} {h' : g_H} (X : gX G l yX1_car.cls cX1_car 10 (some .int) [] yX1_car.name p s m args meth c) {k46 : Nat → Nat → Nat → Int32 → Int32 → gM (Int32 ⊕ gE)} (K46 : w_X1_car_46 G l p e s m args below meth c h0 r h' k46) : w_X1_car_153 G l p e s m args below meth c h0 r h' (f_X1_car_153 k46) := by
  have hx := X.1
  have hb := X.2.1
  have hown := X.2.2.2.1
  have hts := X.2.2.2.2.1
  intro a0 a3 a4 x5 x6 x7 h H locs cells slots ls hf hI hl
  unfold f_X1_car_153 at hf
  refine lv_iload hx hb dX1_car_153 (lv_at hl 5 rfl) ?_
  refine lv_if_ne (tgt := 237) hx hb dX1_car_155 (by decide) (fun c155 => ?_) (fun c155 => ?_)
  · have hf := g_f c155 hf
    exact b_X1_car_237 X K46 _ _ _ _ _ _ _ _ _ _ _ hf hI (lv_sub hl [0, 1, 2, 3, 4] rfl)
  · have hf := g_t c155 hf
    refine lv_iload hx hb dX1_car_158 (lv_at hl 3 rfl) ?_
    refine g_cBI hI hf (fun v9 h9 e9 l9 l9' => g_rS (b := 0) X hI l9 l9' ⟨Nat.le_refl _, Nat.le_refl _⟩ (As := [.int x5]) (m_J7_bitCount X.2.2.2.2.2.2.2.2.2.2.1 e9) ydJ7_bitCount q658 q659 q137 q660 rfl (Nat.le_of_ble_eq_true rfl) (Nat.le_of_ble_eq_true rfl) hl.1 rfl (Nat.le_of_ble_eq_true rfl) dX1_car_160) (fun r101 h H locs cells slots hf hI => ?_)
    refine lv_iconst (v := (1 : Int32)) hx hb dX1_car_163 (by decide) ?_
    refine lv_icmp_eq (tgt := 170) hx hb dX1_car_164 (by decide) (fun c164 => ?_) (fun c164 => ?_)
    · have hf := g_t c164 hf
      refine lv_iload hx hb dX1_car_170 (lv_at hl 3 rfl) ?_
      refine lv_iconst (v := (1 : Int32)) hx hb dX1_car_172 (by decide) ?_
      refine lv_icmp_ne (tgt := 180) hx hb dX1_car_173 (by decide) (fun c173 => ?_) (fun c173 => ?_)
      · have hf := g_f c173 hf
        refine lv_iconst (v := (0 : Int32)) hx hb dX1_car_180 (by decide) ?_
        exact b_X1_car_181 X K46 _ _ _ _ _ _ _ _ _ _ _ _ hf hI (lv_sub hl [0, 1, 2, 3, 4] rfl)
      · have hf := g_t c173 hf
        refine lv_iconst (v := (1 : Int32)) hx hb dX1_car_176 (by decide) ?_
        refine lv_goto (tgt := 181) hx hb dX1_car_177 (by decide) ?_
        exact b_X1_car_181 X K46 _ _ _ _ _ _ _ _ _ _ _ _ hf hI (lv_sub hl [0, 1, 2, 3, 4] rfl)
    · have hf := g_f c164 hf
      refine lv_goto (tgt := 237) hx hb dX1_car_167 (by decide) ?_
      exact b_X1_car_237 X K46 _ _ _ _ _ _ _ _ _ _ _ hf hI (lv_sub hl [0, 1, 2, 3, 4] rfl)
def f_X1_car_60 (k46 : Nat → Nat → Nat → Int32 → Int32 → gM (Int32 ⊕ gE)) : Nat → Nat → Nat → Nat → Int32 → Int32 → Int32 → Int32 → gM (Int32 ⊕ gE)
  | 0, _, _, _, _, _, _, _ => gFail
  | n + 1, a0, a3, a4, x5, x6, x7, x8 =>
    gIf ((2 : Int32) ≤ x8)
    (f_X1_car_153 k46 a0 a3 a4 x5 x6 x7)
    (gIf (x8 = 0)
    (f_X1_car_77 (f_X1_car_60 k46 n) a0 a3 a4 x5 x6 x7 x8 a3)
    (f_X1_car_77 (f_X1_car_60 k46 n) a0 a3 a4 x5 x6 x7 x8 a4))
set_option maxHeartbeats 4000000 in
set_option maxRecDepth 100000 in
theorem b_X1_car_60 {G : gG} {l : Launch} {p : Program} {e : Env} {s : State} {m : MethodId} {args : Array Value} {below : List Frame} {meth : Method} {c : Code} {h0 : g_H} {r : (Int32 ⊕ gE)} {h' : g_H} (X : gX G l yX1_car.cls cX1_car 10 (some .int) [] yX1_car.name p s m args meth c) {k46 : Nat → Nat → Nat → Int32 → Int32 → gM (Int32 ⊕ gE)} (K46 : w_X1_car_46 G l p e s m args below meth c h0 r h' k46) : ∀ n : Nat, w_X1_car_60 G l p e s m args below meth c h0 r h' (f_X1_car_60 k46 n) := by
  have hx := X.1
  have hb := X.2.1
  have hown := X.2.2.2.1
  have hts := X.2.2.2.2.1
  intro n
  induction n with
  | zero =>
    intro a0 a3 a4 x5 x6 x7 x8 h H locs cells slots ls hf hI hl
    exact (gFail_f hf).elim
  | succ n ih =>
    intro a0 a3 a4 x5 x6 x7 x8 h H locs cells slots ls hf hI hl
    rw [f_X1_car_60] at hf
    refine lv_iload hx hb dX1_car_60 (lv_at hl 6 rfl) ?_
    refine lv_iconst (v := (2 : Int32)) hx hb dX1_car_62 (by decide) ?_
    refine lv_icmp_ge (tgt := 153) hx hb dX1_car_63 (by decide) (fun c63 => ?_) (fun c63 => ?_)
    · have hf := g_t c63 hf
      exact b_X1_car_153 X K46 _ _ _ _ _ _ _ _ _ _ _ _ hf hI (lv_sub hl [0, 1, 2, 3, 4, 5] rfl)
    · have hf := g_f c63 hf
      refine lv_iload hx hb dX1_car_66 (lv_at hl 6 rfl) ?_
      refine lv_if_ne (tgt := 75) hx hb dX1_car_68 (by decide) (fun c68 => ?_) (fun c68 => ?_)
      · have hf := g_f c68 hf
        refine lv_aload hx hb dX1_car_75 (lv_at hl 2 rfl) ?_
        exact b_X1_car_77 X ih _ _ _ _ _ _ _ _ _ _ _ _ _ _ hf hI (lv_sub hl [0, 1, 2, 3, 4, 5, 6] rfl)
      · have hf := g_t c68 hf
        refine lv_aload_n hx hb dX1_car_71 rfl (lv_at hl 1 rfl) ?_
        refine lv_goto (tgt := 77) hx hb dX1_car_72 (by decide) ?_
        exact b_X1_car_77 X ih _ _ _ _ _ _ _ _ _ _ _ _ _ _ hf hI (lv_sub hl [0, 1, 2, 3, 4, 5, 6] rfl)
def f_X1_car_243 (x5 : Int32) : gM (Int32 ⊕ gE) :=
    (gRet (.inl x5))
set_option maxHeartbeats 4000000 in
set_option maxRecDepth 100000 in
theorem b_X1_car_243 {G : gG} {l : Launch} {p : Program} {e : Env} {s : State} {m : MethodId} {args : Array Value} {below : List Frame} {meth : Method} {c : Code} {h0 : g_H} {r : (Int32 ⊕ gE)} {h' : g_H} (X : gX G l yX1_car.cls cX1_car 10 (some .int) [] yX1_car.name p s m args meth c) : w_X1_car_243 G l p e s m args below meth c h0 r h' (f_X1_car_243) := by
  have hx := X.1
  have hb := X.2.1
  have hown := X.2.2.2.1
  have hts := X.2.2.2.2.1
  intro x5 h H locs cells slots ls hf hI hl
  unfold f_X1_car_243 at hf
  refine lv_iload hx hb dX1_car_243 (lv_at hl 0 rfl) ?_
  cases gRet_e hf
  exact g_retI X hI rfl dX1_car_245
def f_X1_car_46 : Nat → Nat → Nat → Nat → Int32 → Int32 → gM (Int32 ⊕ gE)
  | 0, _, _, _, _, _ => gFail
  | n + 1, a0, a3, a4, x5, x6 =>
    gIf ((10 : Int32) ≤ x6)
    (f_X1_car_243 x5)
    (f_X1_car_60 (f_X1_car_46 n) gN a0 a3 a4 x5 x6 x5 (0 : Int32))
set_option maxHeartbeats 4000000 in
set_option maxRecDepth 100000 in
theorem b_X1_car_46 {G : gG} {l : Launch} {p : Program} {e : Env} {s : State} {m : MethodId} {args : Array Value} {below : List Frame} {meth : Method} {c : Code} {h0 : g_H} {r : (Int32 ⊕ gE)} {h' : g_H} (X : gX G l yX1_car.cls cX1_car 10 (some .int) [] yX1_car.name p s m args meth c) : ∀ n : Nat, w_X1_car_46 G l p e s m args below meth c h0 r h' (f_X1_car_46 n) := by
  have hx := X.1
  have hb := X.2.1
  have hown := X.2.2.2.1
  have hts := X.2.2.2.2.1
  intro n
  induction n with
  | zero =>
    intro a0 a3 a4 x5 x6 h H locs cells slots ls hf hI hl
    exact (gFail_f hf).elim
  | succ n ih =>
    intro a0 a3 a4 x5 x6 h H locs cells slots ls hf hI hl
    rw [f_X1_car_46] at hf
    refine lv_iload hx hb dX1_car_46 (lv_at hl 4 rfl) ?_
    refine lv_bipush (v := (10 : Int32)) hx hb dX1_car_48 (by decide) ?_
    refine lv_icmp_ge (tgt := 243) hx hb dX1_car_50 (by decide) (fun c50 => ?_) (fun c50 => ?_)
    · have hf := g_t c50 hf
      exact b_X1_car_243 X _ _ _ _ _ _ _ hf hI (lv_sub hl [3] rfl)
    · have hf := g_f c50 hf
      refine lv_iload hx hb dX1_car_53 (lv_at hl 3 rfl) ?_
      refine lv_istore (lv' := [(7, .int x5), (0, .ref a0), (3, .ref a3), (4, .ref a4), (5, .int x5), (6, .int x6)]) hx hb dX1_car_55 hl (by decide) rfl (fun ls hl => ?_)
      refine lv_iconst (v := (0 : Int32)) hx hb dX1_car_57 (by decide) ?_
      refine lv_istore (lv' := [(8, .int (0 : Int32)), (7, .int x5), (0, .ref a0), (3, .ref a3), (4, .ref a4), (5, .int x5), (6, .int x6)]) hx hb dX1_car_58 hl (by decide) rfl (fun ls hl => ?_)
      exact b_X1_car_60 X ih gN _ _ _ _ _ _ _ _ _ _ _ _ _ hf hI (lv_sub hl [2, 3, 4, 5, 6, 1, 0] rfl)
def f_X1_car_23 (a0 : Nat) (a3 : Nat) (a4 : Nat) (u0 : Int32) : gM (Int32 ⊕ gE) :=
    gT (f_X1_must u0) fun _ =>
    gB (gFR a0 0 7) fun v102 =>
    gB (gSI v102 0 (0 : Int32) (0 : Int32)) fun _ =>
    gB (gFR a0 0 7) fun v103 =>
    gB (gSI v103 0 (1 : Int32) (0 : Int32)) fun _ =>
    f_X1_car_46 gN a0 a3 a4 (0 : Int32) (0 : Int32)
set_option maxHeartbeats 4000000 in
set_option maxRecDepth 100000 in
theorem b_X1_car_23 {G : gG} {l : Launch} {p : Program} {e : Env} {s : State} {m : MethodId} {args : Array Value} {below : List Frame} {meth : Method} {c : Code} {h0 : g_H} {r : (Int32 ⊕ gE)} {h' : g_H} (X : gX G l yX1_car.cls cX1_car 10 (some .int) [] yX1_car.name p s m args meth c) : w_X1_car_23 G l p e s m args below meth c h0 r h' (f_X1_car_23) := by
  have hx := X.1
  have hb := X.2.1
  have hown := X.2.2.2.1
  have hts := X.2.2.2.2.1
  intro a0 a3 a4 u0 h H locs cells slots ls hf hI hl
  unfold f_X1_car_23 at hf
  refine g_cTU X hI (by decide) hf (fun v9 h9 e9 l9 l9' => g_rS (b := 0) X hI l9 l9' ⟨Nat.le_refl _, Nat.le_refl _⟩ (As := [.int u0]) (m_X1_must X.2.2.2.2.2.2.2.2.2.2.1 e9) ydX1_must q1200 q1201 q121 q1202 rfl (Nat.le_of_ble_eq_true rfl) (Nat.le_of_ble_eq_true rfl) hl.1 rfl (Nat.le_of_ble_eq_true rfl) dX1_car_23) (fun r101 h H locs cells slots hf hI => ?_)
  refine lv_iconst (v := (0 : Int32)) hx hb dX1_car_26 (by decide) ?_
  refine lv_istore (lv' := [(5, .int (0 : Int32)), (0, .ref a0), (3, .ref a3), (4, .ref a4)]) hx hb dX1_car_27 hl (by decide) rfl (fun ls hl => ?_)
  refine lv_aload_n hx hb dX1_car_29 rfl (lv_at hl 1 rfl) ?_
  refine g_fr X hI hf fX1_7 q468 rfl rfl dX1_car_30 (fun v102 hf => ?_)
  refine lv_iconst (v := (0 : Int32)) hx hb dX1_car_33 (by decide) ?_
  refine lv_iconst (v := (0 : Int32)) hx hb dX1_car_34 (by decide) ?_
  refine g_si0 X hI hf dX1_car_35 (fun h H locs hf hI => ?_)
  refine lv_aload_n hx hb dX1_car_36 rfl (lv_at hl 1 rfl) ?_
  refine g_fr X hI hf fX1_7 q468 rfl rfl dX1_car_37 (fun v103 hf => ?_)
  refine lv_iconst (v := (1 : Int32)) hx hb dX1_car_40 (by decide) ?_
  refine lv_iconst (v := (0 : Int32)) hx hb dX1_car_41 (by decide) ?_
  refine g_si0 X hI hf dX1_car_42 (fun h H locs hf hI => ?_)
  refine lv_iconst (v := (0 : Int32)) hx hb dX1_car_43 (by decide) ?_
  refine lv_istore (lv' := [(6, .int (0 : Int32)), (5, .int (0 : Int32)), (0, .ref a0), (3, .ref a3), (4, .ref a4)]) hx hb dX1_car_44 hl (by decide) rfl (fun ls hl => ?_)
  exact b_X1_car_46 X gN _ _ _ _ _ _ _ _ _ _ _ hf hI (lv_sub hl [2, 3, 4, 1, 0] rfl)
def f_X1_car (a0 : Nat) (x1 : Int32) (x2 : Int32) : gM (Int32 ⊕ gE) :=
    gB (gCk a0 0) fun _ =>
    gT (f_X1_oneAt a0 x1) fun r1 =>
    gB (gCk a0 0) fun _ =>
    gT (f_X1_oneAt a0 x2) fun r2 =>
    gIf (x1 = x2)
    (f_X1_car_23 a0 r1 r2 (0 : Int32))
    (f_X1_car_23 a0 r1 r2 (1 : Int32))
set_option maxHeartbeats 4000000 in
set_option maxRecDepth 100000 in
theorem m_X1_car {G : gG} {l : Launch} (hfl : l.stackTraces = false) {a0 : Nat} {x1 : Int32} {x2 : Int32} {h h' : g_H} {r : (Int32 ⊕ gE)} (hf : (f_X1_car a0 x1 x2).1 h = some (r, h')) : gMet G l yX1_car (Cond.code yX1_car cX1_car 10 (some .int)) 101 1866 [.ref a0, .int x1, .int x2] h (g_w g_wI r) h' := by
  refine g_head hfl ((f_X1_car a0 x1 x2).2 h r h' hf) (plainFor_of_name (by decide)) (Nat.le_of_ble_eq_true rfl) (fun p e s m below meth c H locs cells slots ls X hI hl9 => ?_)
  have hl : lv_has ls 10 [(0, .ref a0), (1, .int x1), (2, .int x2)] := hl9
  have hx := X.1
  have hb := X.2.1
  have hown := X.2.2.2.1
  have hts := X.2.2.2.2.1
  unfold f_X1_car at hf
  refine lv_aload_n hx hb dX1_car_0 rfl (lv_at hl 0 rfl) ?_
  refine lv_iload_n hx hb dX1_car_1 rfl (lv_at hl 1 rfl) ?_
  obtain ⟨hs, hf⟩ := gCk_b hf
  refine g_cTR X hI (by decide) hf (fun v9 h9 e9 l9 l9' => g_rV X hI l9 l9' ⟨Nat.le_refl _, Nat.le_refl _⟩ (As := [.int x1]) (m_X1_oneAt X.2.2.2.2.2.2.2.2.2.2.1 e9) ydX1_oneAt hs rfl rfl q1189 q1191 qs37 q121 q1192 rfl (Nat.le_of_ble_eq_true rfl) (Nat.le_of_ble_eq_true rfl) hl.1 rfl (Nat.le_of_ble_eq_true rfl) dX1_car_2) (fun r1 h H locs cells slots hf hI => ?_)
  refine lv_astore_n (lv' := [(3, .ref r1), (0, .ref a0), (1, .int x1), (2, .int x2)]) hx hb dX1_car_5 rfl hl (by decide) rfl (fun ls hl => ?_)
  refine lv_aload_n hx hb dX1_car_6 rfl (lv_at hl 1 rfl) ?_
  refine lv_iload_n hx hb dX1_car_7 rfl (lv_at hl 3 rfl) ?_
  obtain ⟨hs, hf⟩ := gCk_b hf
  refine g_cTR X hI (by decide) hf (fun v9 h9 e9 l9 l9' => g_rV X hI l9 l9' ⟨Nat.le_refl _, Nat.le_refl _⟩ (As := [.int x2]) (m_X1_oneAt X.2.2.2.2.2.2.2.2.2.2.1 e9) ydX1_oneAt hs rfl rfl q1189 q1191 qs37 q121 q1192 rfl (Nat.le_of_ble_eq_true rfl) (Nat.le_of_ble_eq_true rfl) hl.1 rfl (Nat.le_of_ble_eq_true rfl) dX1_car_8) (fun r2 h H locs cells slots hf hI => ?_)
  refine lv_astore (lv' := [(4, .ref r2), (3, .ref r1), (0, .ref a0), (1, .int x1), (2, .int x2)]) hx hb dX1_car_11 hl (by decide) rfl (fun ls hl => ?_)
  refine lv_iload_n hx hb dX1_car_13 rfl (lv_at hl 3 rfl) ?_
  refine lv_iload_n hx hb dX1_car_14 rfl (lv_at hl 4 rfl) ?_
  refine lv_icmp_eq (tgt := 22) hx hb dX1_car_15 (by decide) (fun c15 => ?_) (fun c15 => ?_)
  · have hf := g_t c15 hf
    refine lv_iconst (v := (0 : Int32)) hx hb dX1_car_22 (by decide) ?_
    exact b_X1_car_23 X _ _ _ _ _ _ _ _ _ _ hf hI (lv_sub hl [2, 1, 0] rfl)
  · have hf := g_f c15 hf
    refine lv_iconst (v := (1 : Int32)) hx hb dX1_car_18 (by decide) ?_
    refine lv_goto (tgt := 23) hx hb dX1_car_19 (by decide) ?_
    exact b_X1_car_23 X _ _ _ _ _ _ _ _ _ _ hf hI (lv_sub hl [2, 1, 0] rfl)
/-! X0_car -/
def f_X0_car (a0 : Nat) (x1 : Int32) (x2 : Int32) (a3 : Nat) : gM Int32 :=
    gB (gCk a0 0) fun _ =>
    gB (f_X1_car a0 x1 x2) fun r9 => match r9 with
    | .inl r1 => (gB (gSI a3 2 (0 : Int32) (r1)) fun _ =>
    (gRet (0 : Int32)))
    | .inr x9 => (gIf (x9.1 = 19)
    ((gRet (1 : Int32)))
    (gIf (x9.1 = 17)
    ((gRet (2 : Int32)))
    (gFail)))
set_option maxHeartbeats 4000000 in
set_option maxRecDepth 100000 in
theorem m_X0_car {G : gG} {l : Launch} (hfl : l.stackTraces = false) {a0 : Nat} {x1 : Int32} {x2 : Int32} {a3 : Nat} {h h' : g_H} {r : Int32} (hf : (f_X0_car a0 x1 x2 a3).1 h = some (r, h')) : gMet G l yX0_car (Cond.codeWith yX0_car cX0_car 5 (some .int) [(0, 10, 13, 24), (0, 10, 17, 13)]) 102 1895 [.ref a0, .int x1, .int x2, .ref a3] h (.inl (g_wI r)) h' := by
  refine g_headW hfl ((f_X0_car a0 x1 x2 a3).2 h r h' hf) (plainFor_of_name (by decide)) (Nat.le_of_ble_eq_true rfl) (fun p e s m below meth c H locs cells slots ls X hI hl9 => ?_)
  have hl : lv_has ls 5 [(0, .ref a0), (1, .int x1), (2, .int x2), (3, .ref a3)] := hl9
  have hx := X.1
  have hb := X.2.1
  have hown := X.2.2.2.1
  have hts := X.2.2.2.2.1
  unfold f_X0_car at hf
  refine lv_aload_n hx hb dX0_car_0 rfl (lv_at hl 3 rfl) ?_
  refine lv_iconst (v := (0 : Int32)) hx hb dX0_car_1 (by decide) ?_
  refine lv_aload_n hx hb dX0_car_2 rfl (lv_at hl 0 rfl) ?_
  refine lv_iload_n hx hb dX0_car_3 rfl (lv_at hl 1 rfl) ?_
  refine lv_iload_n hx hb dX0_car_4 rfl (lv_at hl 2 rfl) ?_
  obtain ⟨hs, hf⟩ := gCk_b hf
  refine g_cHI hI hf (fun v9 h9 e9 l9 l9' => g_rV X hI l9 l9' ⟨Nat.le_refl _, Nat.le_refl _⟩ (As := [.int x1, .int x2]) (m_X1_car X.2.2.2.2.2.2.2.2.2.2.1 e9) ydX1_car hs rfl rfl q1349 q1350 q1351 q121 q1352 rfl (Nat.le_of_ble_eq_true rfl) (Nat.le_of_ble_eq_true rfl) hl.1 rfl (Nat.le_of_ble_eq_true rfl) dX0_car_5) (fun r1 h H locs cells slots hf hI => ?_) ?_
  · refine lv_i2l hx hb dX0_car_8 rfl ?_
    refine g_si2 X hI hf dX0_car_9 (fun h H locs hf hI => ?_)
    refine lv_goto (tgt := 21) hx hb dX0_car_10 (by decide) ?_
    refine lv_iconst (v := (0 : Int32)) hx hb dX0_car_21 (by decide) ?_
    cases gRet_e hf
    exact g_retI X hI rfl dX0_car_22
  · intro ci9 x9 h H locs cells slots r9 ce9 hf hr9 hI hce hcv hcl
    by_cases k0 : ci9 = 19
    · subst k0
      cases hr9
      have hf := g_t rfl hf
      refine g_catch0 X hI (name := "java/lang/IndexOutOfBoundsException") rfl (by rfl) (by decide) (by decide) q1098 q1144 hce hcv hcl ?_
      refine lv_astore (lv' := [(4, .ref x9), (0, .ref a0), (1, .int x1), (2, .int x2), (3, .ref a3)]) hx hb dX0_car_13 hl (by decide) rfl (fun ls hl => ?_)
      refine lv_iconst (v := (1 : Int32)) hx hb dX0_car_15 (by decide) ?_
      cases gRet_e hf
      exact g_retI X hI rfl dX0_car_16
    have hf := g_f k0 hf
    by_cases k1 : ci9 = 17
    · subst k1
      cases hr9
      have hf := g_t rfl hf
      refine g_catch1 X hI (name := "java/lang/IllegalArgumentException") rfl (by rfl) (by decide) (by decide) q785 q922 q1098 (List.mem_of_getElem? (i := 2) rfl) hce hcv hcl ?_
      refine lv_astore (lv' := [(4, .ref x9), (0, .ref a0), (1, .int x1), (2, .int x2), (3, .ref a3)]) hx hb dX0_car_17 hl (by decide) rfl (fun ls hl => ?_)
      refine lv_iconst (v := (2 : Int32)) hx hb dX0_car_19 (by decide) ?_
      cases gRet_e hf
      exact g_retI X hI rfl dX0_car_20
    have hf := g_f k1 hf
    exact (gFail_f hf).elim
/-! X8_carStep -/
abbrev w_X8_carStep_37 (G : gG) (l : Launch) (p : Program) (e : Env) (s : State) (m : MethodId) (args : Array Value) (below : List Frame) (meth : Method) (c : Code) (h0 : g_H) (r : Int32) (h' : g_H) (k : Int32 → gM Int32) : Prop := ∀ (u0 : Int32) (h : g_H) (H : Heap) (locs : List Loc) (cells slots : Nat) (ls : Array Slot), (k u0).1 h = some (r, h') → gI G h0 h H locs cells slots → lv_has ls 5 [] → W p l e (g_rm 7 158 h0 h') s m args below meth c H locs cells slots (gQ G below args s h0 h' (.inl (g_wI r))) (F0 m 37 ls [.int u0])
def f_X8_carStep_37 (u0 : Int32) : gM Int32 :=
    (gRet u0)
set_option maxHeartbeats 4000000 in
set_option maxRecDepth 100000 in
theorem b_X8_carStep_37 {G : gG} {l : Launch} {p : Program} {e : Env} {s : State} {m : MethodId} {args : Array Value} {below : List Frame} {meth : Method} {c : Code} {h0 : g_H} {r : Int32} {h' : g_H} (X : gX G l yX8_carStep.cls cX8_carStep 5 (some .int) [] yX8_carStep.name p s m args meth c) : w_X8_carStep_37 G l p e s m args below meth c h0 r h' (f_X8_carStep_37) := by
  have hx := X.1
  have hb := X.2.1
  have hown := X.2.2.2.1
  have hts := X.2.2.2.2.1
  intro u0 h H locs cells slots ls hf hI hl
  unfold f_X8_carStep_37 at hf
  cases gRet_e hf
  exact g_retI X hI rfl dX8_carStep_37
def f_X8_carStep (a0 : Nat) (x1 : Int32) (x2 : Int32) (x3 : Int32) : gM Int32 :=
    gB (gCk a0 7) fun _ =>
    gB (f_X8_looksAt a0 x1) fun _ =>
    gB (gCk a0 7) fun _ =>
    gB (f_X8_propIn a0 x2) fun r2 =>
    gIf (r2 = (-1 : Int32))
    (gB (gCk a0 7) fun _ =>
    gB (f_X8_calmer a0 x3) fun r4 =>
    f_X8_carStep_37 r4)
    (gB (gCk a0 7) fun _ =>
    gB (f_X8_frightsBy a0 r2 x3) fun r3 =>
    f_X8_carStep_37 ((x3 + r3) + (1 : Int32)))
set_option maxHeartbeats 4000000 in
set_option maxRecDepth 100000 in
theorem m_X8_carStep {G : gG} {l : Launch} (hfl : l.stackTraces = false) {a0 : Nat} {x1 : Int32} {x2 : Int32} {x3 : Int32} {h h' : g_H} {r : Int32} (hf : (f_X8_carStep a0 x1 x2 x3).1 h = some (r, h')) : gMet G l yX8_carStep (Cond.code yX8_carStep cX8_carStep 5 (some .int)) 7 158 [.ref a0, .int x1, .int x2, .int x3] h (.inl (g_wI r)) h' := by
  refine g_head hfl ((f_X8_carStep a0 x1 x2 x3).2 h r h' hf) (plainFor_of_name (by decide)) (Nat.le_of_ble_eq_true rfl) (fun p e s m below meth c H locs cells slots ls X hI hl9 => ?_)
  have hl : lv_has ls 5 [(0, .ref a0), (1, .int x1), (2, .int x2), (3, .int x3)] := hl9
  have hx := X.1
  have hb := X.2.1
  have hown := X.2.2.2.1
  have hts := X.2.2.2.2.1
  unfold f_X8_carStep at hf
  refine lv_aload_n hx hb dX8_carStep_0 rfl (lv_at hl 0 rfl) ?_
  refine lv_iload_n hx hb dX8_carStep_1 rfl (lv_at hl 1 rfl) ?_
  obtain ⟨hs, hf⟩ := gCk_b hf
  refine g_cBU hI hf (fun v9 h9 e9 l9 l9' => g_rV X hI l9 l9' ⟨Nat.le_refl _, Nat.le_refl _⟩ (As := [.int x1]) (m_X8_looksAt X.2.2.2.2.2.2.2.2.2.2.1 e9) ydX8_looksAt hs rfl rfl q1775 q1777 qs76 q131 q1778 rfl (Nat.le_of_ble_eq_true rfl) (Nat.le_of_ble_eq_true rfl) hl.1 rfl (Nat.le_of_ble_eq_true rfl) dX8_carStep_2) (fun r1 h H locs cells slots hf hI => ?_)
  refine lv_aload_n hx hb dX8_carStep_5 rfl (lv_at hl 0 rfl) ?_
  refine lv_iload_n hx hb dX8_carStep_6 rfl (lv_at hl 2 rfl) ?_
  obtain ⟨hs, hf⟩ := gCk_b hf
  refine g_cBI hI hf (fun v9 h9 e9 l9 l9' => g_rV X hI l9 l9' ⟨Nat.le_refl _, Nat.le_refl _⟩ (As := [.int x2]) (m_X8_propIn X.2.2.2.2.2.2.2.2.2.2.1 e9) ydX8_propIn hs rfl rfl q1655 q1657 qs58 q131 q1658 rfl (Nat.le_of_ble_eq_true rfl) (Nat.le_of_ble_eq_true rfl) hl.1 rfl (Nat.le_of_ble_eq_true rfl) dX8_carStep_7) (fun r2 h H locs cells slots hf hI => ?_)
  refine lv_istore (lv' := [(4, .int r2), (0, .ref a0), (1, .int x1), (2, .int x2), (3, .int x3)]) hx hb dX8_carStep_10 hl (by decide) rfl (fun ls hl => ?_)
  refine lv_iload hx hb dX8_carStep_12 (lv_at hl 0 rfl) ?_
  refine lv_iconst (v := (-1 : Int32)) hx hb dX8_carStep_14 (by decide) ?_
  refine lv_icmp_ne (tgt := 26) hx hb dX8_carStep_15 (by decide) (fun c15 => ?_) (fun c15 => ?_)
  · have hf := g_f c15 hf
    refine lv_iload_n hx hb dX8_carStep_26 rfl (lv_at hl 4 rfl) ?_
    refine lv_aload_n hx hb dX8_carStep_27 rfl (lv_at hl 1 rfl) ?_
    refine lv_iload hx hb dX8_carStep_28 (lv_at hl 0 rfl) ?_
    refine lv_iload_n hx hb dX8_carStep_30 rfl (lv_at hl 4 rfl) ?_
    obtain ⟨hs, hf⟩ := gCk_b hf
    refine g_cBI hI hf (fun v9 h9 e9 l9 l9' => g_rV X hI l9 l9' ⟨Nat.le_refl _, Nat.le_refl _⟩ (As := [.int r2, .int x3]) (m_X8_frightsBy X.2.2.2.2.2.2.2.2.2.2.1 e9) ydX8_frightsBy hs rfl rfl q1795 q1797 qs81 q131 q1798 rfl (Nat.le_of_ble_eq_true rfl) (Nat.le_of_ble_eq_true rfl) hl.1 rfl (Nat.le_of_ble_eq_true rfl) dX8_carStep_31) (fun r3 h H locs cells slots hf hI => ?_)
    refine lv_iadd hx hb dX8_carStep_34 ?_
    refine lv_iconst (v := (1 : Int32)) hx hb dX8_carStep_35 (by decide) ?_
    refine lv_iadd hx hb dX8_carStep_36 ?_
    exact b_X8_carStep_37 X _ _ _ _ _ _ _ hf hI (lv_sub hl [] rfl)
  · have hf := g_t c15 hf
    refine lv_aload_n hx hb dX8_carStep_18 rfl (lv_at hl 1 rfl) ?_
    refine lv_iload_n hx hb dX8_carStep_19 rfl (lv_at hl 4 rfl) ?_
    obtain ⟨hs, hf⟩ := gCk_b hf
    refine g_cBI hI hf (fun v9 h9 e9 l9 l9' => g_rV X hI l9 l9' ⟨Nat.le_refl _, Nat.le_refl _⟩ (As := [.int x3]) (m_X8_calmer X.2.2.2.2.2.2.2.2.2.2.1 e9) ydX8_calmer hs rfl rfl q1828 q1830 qs88 q131 q1831 rfl (Nat.le_of_ble_eq_true rfl) (Nat.le_of_ble_eq_true rfl) hl.1 rfl (Nat.le_of_ble_eq_true rfl) dX8_carStep_20) (fun r4 h H locs cells slots hf hI => ?_)
    refine lv_goto (tgt := 37) hx hb dX8_carStep_23 (by decide) ?_
    exact b_X8_carStep_37 X _ _ _ _ _ _ _ hf hI (lv_sub hl [] rfl)
/-! X8_screams -/
abbrev w_X8_screams_15 (G : gG) (l : Launch) (p : Program) (e : Env) (s : State) (m : MethodId) (args : Array Value) (below : List Frame) (meth : Method) (c : Code) (h0 : g_H) (r : Int32) (h' : g_H) (k : Int32 → gM Int32) : Prop := ∀ (u0 : Int32) (h : g_H) (H : Heap) (locs : List Loc) (cells slots : Nat) (ls : Array Slot), (k u0).1 h = some (r, h') → gI G h0 h H locs cells slots → lv_has ls 3 [] → W p l e (g_rm 3 63 h0 h') s m args below meth c H locs cells slots (gQ G below args s h0 h' (.inl (g_wI r))) (F0 m 15 ls [.int u0])
def f_X8_screams_15 (u0 : Int32) : gM Int32 :=
    gB (gGd (u0 = 0 ∨ u0 = 1)) fun _ =>
    (gRet u0)
set_option maxHeartbeats 4000000 in
set_option maxRecDepth 100000 in
theorem b_X8_screams_15 {G : gG} {l : Launch} {p : Program} {e : Env} {s : State} {m : MethodId} {args : Array Value} {below : List Frame} {meth : Method} {c : Code} {h0 : g_H} {r : Int32} {h' : g_H} (X : gX G l yX8_screams.cls cX8_screams 3 (some .boolean) [] yX8_screams.name p s m args meth c) : w_X8_screams_15 G l p e s m args below meth c h0 r h' (f_X8_screams_15) := by
  have hx := X.1
  have hb := X.2.1
  have hown := X.2.2.2.1
  have hts := X.2.2.2.2.1
  intro u0 h H locs cells slots ls hf hI hl
  unfold f_X8_screams_15 at hf
  obtain ⟨hz, hf⟩ := gB_gd hf
  cases gRet_e hf
  exact g_retZ X hI hz rfl dX8_screams_15
def f_X8_screams (a0 : Nat) (x1 : Int32) (x2 : Int32) : gM Int32 :=
    gB (gCk a0 7) fun _ =>
    gB (f_X8_of a0 x1 (1 : Int32)) fun r1 =>
    gIf (x2 ≤ r1)
    (f_X8_screams_15 (0 : Int32))
    (f_X8_screams_15 (1 : Int32))
set_option maxHeartbeats 4000000 in
set_option maxRecDepth 100000 in
theorem m_X8_screams {G : gG} {l : Launch} (hfl : l.stackTraces = false) {a0 : Nat} {x1 : Int32} {x2 : Int32} {h h' : g_H} {r : Int32} (hf : (f_X8_screams a0 x1 x2).1 h = some (r, h')) : gMet G l yX8_screams (Cond.code yX8_screams cX8_screams 3 (some .boolean)) 3 63 [.ref a0, .int x1, .int x2] h (.inl (g_wI r)) h' := by
  refine g_head hfl ((f_X8_screams a0 x1 x2).2 h r h' hf) (plainFor_of_name (by decide)) (Nat.le_of_ble_eq_true rfl) (fun p e s m below meth c H locs cells slots ls X hI hl9 => ?_)
  have hl : lv_has ls 3 [(0, .ref a0), (1, .int x1), (2, .int x2)] := hl9
  have hx := X.1
  have hb := X.2.1
  have hown := X.2.2.2.1
  have hts := X.2.2.2.2.1
  unfold f_X8_screams at hf
  refine lv_iload_n hx hb dX8_screams_0 rfl (lv_at hl 2 rfl) ?_
  refine lv_aload_n hx hb dX8_screams_1 rfl (lv_at hl 0 rfl) ?_
  refine lv_iload_n hx hb dX8_screams_2 rfl (lv_at hl 1 rfl) ?_
  refine lv_iconst (v := (1 : Int32)) hx hb dX8_screams_3 (by decide) ?_
  obtain ⟨hs, hf⟩ := gCk_b hf
  refine g_cBI hI hf (fun v9 h9 e9 l9 l9' => g_rV X hI l9 l9' ⟨Nat.le_refl _, Nat.le_refl _⟩ (As := [.int x1, .int (1 : Int32)]) (m_X8_of X.2.2.2.2.2.2.2.2.2.2.1 e9) ydX8_of hs rfl rfl q1767 q1769 qs75 q131 q1770 rfl (Nat.le_of_ble_eq_true rfl) (Nat.le_of_ble_eq_true rfl) hl.1 rfl (Nat.le_of_ble_eq_true rfl) dX8_screams_4) (fun r1 h H locs cells slots hf hI => ?_)
  refine lv_icmp_le (tgt := 14) hx hb dX8_screams_7 (by decide) (fun c7 => ?_) (fun c7 => ?_)
  · have hf := g_t c7 hf
    refine lv_iconst (v := (0 : Int32)) hx hb dX8_screams_14 (by decide) ?_
    exact b_X8_screams_15 X _ _ _ _ _ _ _ hf hI (lv_sub hl [] rfl)
  · have hf := g_f c7 hf
    refine lv_iconst (v := (1 : Int32)) hx hb dX8_screams_10 (by decide) ?_
    refine lv_goto (tgt := 15) hx hb dX8_screams_11 (by decide) ?_
    exact b_X8_screams_15 X _ _ _ _ _ _ _ hf hI (lv_sub hl [] rfl)
end
