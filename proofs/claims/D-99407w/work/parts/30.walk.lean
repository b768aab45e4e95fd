noncomputable section
/-! X8_swap -/
abbrev w_X8_swap_69 (G : gG) (l : Launch) (p : Program) (e : Env) (s : State) (m : MethodId) (args : Array Value) (below : List Frame) (meth : Method) (c : Code) (h0 : g_H) (r : Int32) (h' : g_H) (k : Nat → Int32 → Int32 → Int32 → Int32 → Int32 → gM Int32) : Prop := ∀ (a0 : Nat) (x2 : Int32) (x3 : Int32) (x4 : Int32) (x5 : Int32) (u0 : Int32) (h : g_H) (H : Heap) (locs : List Loc) (cells slots : Nat) (ls : Array Slot), (k a0 x2 x3 x4 x5 u0).1 h = some (r, h') → gI G h0 h H locs cells slots → lv_has ls 6 [(0, .ref a0), (2, .int x2), (3, .int x3), (4, .int x4), (5, .int x5)] → W p l e (g_rm 12 271 h0 h') s m args below meth c H locs cells slots (gQ G below args s h0 h' (.inl (g_wI r))) (F0 m 69 ls [.int u0])
abbrev w_X8_swap_83 (G : gG) (l : Launch) (p : Program) (e : Env) (s : State) (m : MethodId) (args : Array Value) (below : List Frame) (meth : Method) (c : Code) (h0 : g_H) (r : Int32) (h' : g_H) (k : Nat → Int32 → Int32 → Int32 → gM Int32) : Prop := ∀ (a0 : Nat) (x1 : Int32) (x2 : Int32) (x3 : Int32) (h : g_H) (H : Heap) (locs : List Loc) (cells slots : Nat) (ls : Array Slot), (k a0 x1 x2 x3).1 h = some (r, h') → gI G h0 h H locs cells slots → lv_has ls 6 [(0, .ref a0), (1, .int x1), (2, .int x2), (3, .int x3)] → W p l e (g_rm 12 271 h0 h') s m args below meth c H locs cells slots (gQ G below args s h0 h' (.inl (g_wI r))) (F0 m 83 ls [])
abbrev w_X8_swap_25 (G : gG) (l : Launch) (p : Program) (e : Env) (s : State) (m : MethodId) (args : Array Value) (below : List Frame) (meth : Method) (c : Code) (h0 : g_H) (r : Int32) (h' : g_H) (k : Nat → Int32 → Int32 → Int32 → Int32 → gM Int32) : Prop := ∀ (a0 : Nat) (x1 : Int32) (x2 : Int32) (x3 : Int32) (x4 : Int32) (h : g_H) (H : Heap) (locs : List Loc) (cells slots : Nat) (ls : Array Slot), (k a0 x1 x2 x3 x4).1 h = some (r, h') → gI G h0 h H locs cells slots → lv_has ls 6 [(0, .ref a0), (1, .int x1), (2, .int x2), (3, .int x3), (4, .int x4)] → W p l e (g_rm 12 271 h0 h') s m args below meth c H locs cells slots (gQ G below args s h0 h' (.inl (g_wI r))) (F0 m 25 ls [])
abbrev w_X8_swap_89 (G : gG) (l : Launch) (p : Program) (e : Env) (s : State) (m : MethodId) (args : Array Value) (below : List Frame) (meth : Method) (c : Code) (h0 : g_H) (r : Int32) (h' : g_H) (k : Int32 → gM Int32) : Prop := ∀ (x1 : Int32) (h : g_H) (H : Heap) (locs : List Loc) (cells slots : Nat) (ls : Array Slot), (k x1).1 h = some (r, h') → gI G h0 h H locs cells slots → lv_has ls 6 [(1, .int x1)] → W p l e (g_rm 12 271 h0 h') s m args below meth c H locs cells slots (gQ G below args s h0 h' (.inl (g_wI r))) (F0 m 89 ls [])
abbrev w_X8_swap_14 (G : gG) (l : Launch) (p : Program) (e : Env) (s : State) (m : MethodId) (args : Array Value) (below : List Frame) (meth : Method) (c : Code) (h0 : g_H) (r : Int32) (h' : g_H) (k : Nat → Int32 → Int32 → Int32 → gM Int32) : Prop := ∀ (a0 : Nat) (x1 : Int32) (x2 : Int32) (x3 : Int32) (h : g_H) (H : Heap) (locs : List Loc) (cells slots : Nat) (ls : Array Slot), (k a0 x1 x2 x3).1 h = some (r, h') → gI G h0 h H locs cells slots → lv_has ls 6 [(0, .ref a0), (1, .int x1), (2, .int x2), (3, .int x3)] → W p l e (g_rm 12 271 h0 h') s m args below meth c H locs cells slots (gQ G below args s h0 h' (.inl (g_wI r))) (F0 m 14 ls [])
def f_X8_swap_69 (k25 : Nat → Int32 → Int32 → Int32 → Int32 → gM Int32) (a0 : Nat) (x2 : Int32) (x3 : Int32) (x4 : Int32) (x5 : Int32) (u0 : Int32) : gM Int32 :=
    gB (f_J13_max x2 x5) fun r101 =>
    k25 a0 u0 r101 x3 (x4 + (1 : Int32))
set_option maxHeartbeats 4000000 in
set_option maxRecDepth 100000 in
theorem b_X8_swap_69 {G : gG} {l : Launch} {p : Program} {e : Env} {s : State} {m : MethodId} {args : Array Value} {below : List Frame} {meth : Method} {c : Code} {h0 : g_H} {r : Int32} {h' : g_H} (X : gX G l yX8_swap.cls cX8_swap 6 (some .int) [] yX8_swap.name p s m args meth c) {k25 : Nat → Int32 → Int32 → Int32 → Int32 → gM Int32} (K25 : w_X8_swap_25 G l p e s m args below meth c h0 r h' k25) : w_X8_swap_69 G l p e s m args below meth c h0 r h' (f_X8_swap_69 k25) := by
  have hx := X.1
  have hb := X.2.1
  have hown := X.2.2.2.1
  have hts := X.2.2.2.2.1
  intro a0 x2 x3 x4 x5 u0 h H locs cells slots ls hf hI hl
  unfold f_X8_swap_69 at hf
  refine lv_istore_n (lv' := [(1, .int u0), (0, .ref a0), (2, .int x2), (3, .int x3), (4, .int x4), (5, .int x5)]) hx hb dX8_swap_69 rfl hl (by decide) rfl (fun ls hl => ?_)
  refine lv_iload_n hx hb dX8_swap_70 rfl (lv_at hl 2 rfl) ?_
  refine lv_iload hx hb dX8_swap_71 (lv_at hl 5 rfl) ?_
  refine g_cBI hI hf (fun v9 h9 e9 l9 l9' => g_rS (b := 0) X hI l9 l9' ⟨Nat.le_refl _, Nat.le_refl _⟩ (As := [.int x2, .int x5]) (m_J13_max X.2.2.2.2.2.2.2.2.2.2.1 e9) ydJ13_max q1799 q564 q151 q565 rfl (Nat.le_of_ble_eq_true rfl) (Nat.le_of_ble_eq_true rfl) hl.1 rfl (Nat.le_of_ble_eq_true rfl) dX8_swap_73) (fun r101 h H locs cells slots hf hI => ?_)
  refine lv_istore_n (lv' := [(2, .int r101), (1, .int u0), (0, .ref a0), (3, .int x3), (4, .int x4), (5, .int x5)]) hx hb dX8_swap_76 rfl hl (by decide) rfl (fun ls hl => ?_)
  refine lv_iinc (v := (x4 + (1 : Int32))) (lv' := [(4, .int (x4 + (1 : Int32))), (2, .int r101), (1, .int u0), (0, .ref a0), (3, .int x3), (5, .int x5)]) hx hb dX8_swap_77 hl (k := 4) rfl rfl (by decide) rfl (fun ls hl => ?_)
  refine lv_goto (tgt := 25) hx hb dX8_swap_80 (by decide) ?_
  exact K25 _ _ _ _ _ _ _ _ _ _ _ hf hI (lv_sub hl [3, 2, 1, 4, 0] rfl)
def f_X8_swap_83 (k14 : Nat → Int32 → Int32 → Int32 → gM Int32) (a0 : Nat) (x1 : Int32) (x2 : Int32) (x3 : Int32) : gM Int32 :=
    k14 a0 x1 x2 (x3 + (1 : Int32))
set_option maxHeartbeats 4000000 in
set_option maxRecDepth 100000 in
theorem b_X8_swap_83 {G : gG} {l : Launch} {p : Program} {e : Env} {s : State} {m : MethodId} {args : Array Value} {below : List Frame} {meth : Method} {c : Code} {h0 : g_H} {r : Int32} {h' : g_H} (X : gX G l yX8_swap.cls cX8_swap 6 (some .int) [] yX8_swap.name p s m args meth c) {k14 : Nat → Int32 → Int32 → Int32 → gM Int32} (K14 : w_X8_swap_14 G l p e s m args below meth c h0 r h' k14) : w_X8_swap_83 G l p e s m args below meth c h0 r h' (f_X8_swap_83 k14) := by
  have hx := X.1
  have hb := X.2.1
  have hown := X.2.2.2.1
  have hts := X.2.2.2.2.1
  intro a0 x1 x2 x3 h H locs cells slots ls hf hI hl
  unfold f_X8_swap_83 at hf
  refine lv_iinc (v := (x3 + (1 : Int32))) (lv' := [(3, .int (x3 + (1 : Int32))), (0, .ref a0), (1, .int x1), (2, .int x2)]) hx hb dX8_swap_83 hl (k := 3) rfl rfl (by decide) rfl (fun ls hl => ?_)
  refine lv_goto (tgt := 14) hx hb dX8_swap_86 (by decide) ?_
  exact K14 _ _ _ _ _ _ _ _ _ _ hf hI (lv_sub hl [1, 2, 3, 0] rfl)
def f_X8_swap_25 (k14 : Nat → Int32 → Int32 → Int32 → gM Int32) : Nat → Nat → Int32 → Int32 → Int32 → Int32 → gM Int32
  | 0, _, _, _, _, _ => gFail
  | n + 1, a0, x1, x2, x3, x4 =>
    gIf ((10 : Int32) ≤ x4)
    (f_X8_swap_83 k14 a0 x1 x2 x3)
    (gB (gCk a0 7) fun _ =>
    gB (f_X8_changes a0 x3 x4) fun _ =>
    gB (gCk a0 7) fun _ =>
    gB (f_X8_gapNow a0) fun r102 =>
    gB (gCk a0 7) fun _ =>
    gB (f_X8_changes a0 x3 x4) fun _ =>
    gIf (r102 ≤ x2)
    (f_X8_swap_69 (f_X8_swap_25 k14 n) a0 x2 x3 x4 r102 x1)
    (f_X8_swap_69 (f_X8_swap_25 k14 n) a0 x2 x3 x4 r102 (((10 : Int32) * x3) + x4)))
set_option maxHeartbeats 4000000 in
set_option maxRecDepth 100000 in
theorem b_X8_swap_25 {G : gG} {l : Launch} {p : Program} {e : Env} {s : State} {m : MethodId} {args : Array Value} {below : List Frame} {meth : Method} {c : Code} {h0 : g_H} {r : Int32} {h' : g_H} (X : gX G l yX8_swap.cls cX8_swap 6 (some .int) [] yX8_swap.name p s m args meth c) {k14 : Nat → Int32 → Int32 → Int32 → gM Int32} (K14 : w_X8_swap_14 G l p e s m args below meth c h0 r h' k14) : ∀ n : Nat, w_X8_swap_25 G l p e s m args below meth c h0 r h' (f_X8_swap_25 k14 n) := by
  have hx := X.1
  have hb := X.2.1
  have hown := X.2.2.2.1
  have hts := X.2.2.2.2.1
  intro n
  induction n with
  | zero =>
    intro a0 x1 x2 x3 x4 h H locs cells slots ls hf hI hl
    exact (gFail_f hf).elim
  | succ n ih =>
    intro a0 x1 x2 x3 x4 h H locs cells slots ls hf hI hl
    rw [f_X8_swap_25] at hf
    refine lv_iload hx hb dX8_swap_25 (lv_at hl 4 rfl) ?_
    refine lv_bipush (v := (10 : Int32)) hx hb dX8_swap_27 (by decide) ?_
    refine lv_icmp_ge (tgt := 83) hx hb dX8_swap_29 (by decide) (fun c29 => ?_) (fun c29 => ?_)
    · have hf := g_t c29 hf
      exact b_X8_swap_83 X K14 _ _ _ _ _ _ _ _ _ _ hf hI (lv_sub hl [0, 1, 2, 3] rfl)
    · have hf := g_f c29 hf
      refine lv_aload_n hx hb dX8_swap_32 rfl (lv_at hl 0 rfl) ?_
      refine lv_iload_n hx hb dX8_swap_33 rfl (lv_at hl 3 rfl) ?_
      refine lv_iload hx hb dX8_swap_34 (lv_at hl 4 rfl) ?_
      obtain ⟨hs, hf⟩ := gCk_b hf
      refine g_cBU hI hf (fun v9 h9 e9 l9 l9' => g_rV X hI l9 l9' ⟨Nat.le_refl _, Nat.le_refl _⟩ (As := [.int x3, .int x4]) (m_X8_changes X.2.2.2.2.2.2.2.2.2.2.1 e9) ydX8_changes hs rfl rfl q1992 q1994 qs106 q131 q1995 rfl (Nat.le_of_ble_eq_true rfl) (Nat.le_of_ble_eq_true rfl) hl.1 rfl (Nat.le_of_ble_eq_true rfl) dX8_swap_36) (fun r101 h H locs cells slots hf hI => ?_)
      refine lv_aload_n hx hb dX8_swap_39 rfl (lv_at hl 0 rfl) ?_
      obtain ⟨hs, hf⟩ := gCk_b hf
      refine g_cBI hI hf (fun v9 h9 e9 l9 l9' => g_rV X hI l9 l9' ⟨Nat.le_refl _, Nat.le_refl _⟩ (As := []) (m_X8_gapNow X.2.2.2.2.2.2.2.2.2.2.1 e9) ydX8_gapNow hs rfl rfl q1967 q1969 qs104 q131 q1970 rfl (Nat.le_of_ble_eq_true rfl) (Nat.le_of_ble_eq_true rfl) hl.1 rfl (Nat.le_of_ble_eq_true rfl) dX8_swap_40) (fun r102 h H locs cells slots hf hI => ?_)
      refine lv_istore (lv' := [(5, .int r102), (0, .ref a0), (1, .int x1), (2, .int x2), (3, .int x3), (4, .int x4)]) hx hb dX8_swap_43 hl (by decide) rfl (fun ls hl => ?_)
      refine lv_aload_n hx hb dX8_swap_45 rfl (lv_at hl 1 rfl) ?_
      refine lv_iload_n hx hb dX8_swap_46 rfl (lv_at hl 4 rfl) ?_
      refine lv_iload hx hb dX8_swap_47 (lv_at hl 5 rfl) ?_
      obtain ⟨hs, hf⟩ := gCk_b hf
      refine g_cBU hI hf (fun v9 h9 e9 l9 l9' => g_rV X hI l9 l9' ⟨Nat.le_refl _, Nat.le_refl _⟩ (As := [.int x3, .int x4]) (m_X8_changes X.2.2.2.2.2.2.2.2.2.2.1 e9) ydX8_changes hs rfl rfl q1992 q1994 qs106 q131 q1995 rfl (Nat.le_of_ble_eq_true rfl) (Nat.le_of_ble_eq_true rfl) hl.1 rfl (Nat.le_of_ble_eq_true rfl) dX8_swap_49) (fun r103 h H locs cells slots hf hI => ?_)
      refine lv_iload hx hb dX8_swap_52 (lv_at hl 0 rfl) ?_
      refine lv_iload_n hx hb dX8_swap_54 rfl (lv_at hl 3 rfl) ?_
      refine lv_icmp_le (tgt := 68) hx hb dX8_swap_55 (by decide) (fun c55 => ?_) (fun c55 => ?_)
      · have hf := g_t c55 hf
        refine lv_iload_n hx hb dX8_swap_68 rfl (lv_at hl 2 rfl) ?_
        exact b_X8_swap_69 X ih _ _ _ _ _ _ _ _ _ _ _ _ hf hI (lv_sub hl [1, 3, 4, 5, 0] rfl)
      · have hf := g_f c55 hf
        refine lv_bipush (v := (10 : Int32)) hx hb dX8_swap_58 (by decide) ?_
        refine lv_iload_n hx hb dX8_swap_60 rfl (lv_at hl 4 rfl) ?_
        refine lv_imul hx hb dX8_swap_61 ?_
        refine lv_iload hx hb dX8_swap_62 (lv_at hl 5 rfl) ?_
        refine lv_iadd hx hb dX8_swap_64 ?_
        refine lv_goto (tgt := 69) hx hb dX8_swap_65 (by decide) ?_
        exact b_X8_swap_69 X ih _ _ _ _ _ _ _ _ _ _ _ _ hf hI (lv_sub hl [1, 3, 4, 5, 0] rfl)
def f_X8_swap_89 (x1 : Int32) : gM Int32 :=
    (gRet x1)
set_option maxHeartbeats 4000000 in
set_option maxRecDepth 100000 in
theorem b_X8_swap_89 {G : gG} {l : Launch} {p : Program} {e : Env} {s : State} {m : MethodId} {args : Array Value} {below : List Frame} {meth : Method} {c : Code} {h0 : g_H} {r : Int32} {h' : g_H} (X : gX G l yX8_swap.cls cX8_swap 6 (some .int) [] yX8_swap.name p s m args meth c) : w_X8_swap_89 G l p e s m args below meth c h0 r h' (f_X8_swap_89) := by
  have hx := X.1
  have hb := X.2.1
  have hown := X.2.2.2.1
  have hts := X.2.2.2.2.1
  intro x1 h H locs cells slots ls hf hI hl
  unfold f_X8_swap_89 at hf
  refine lv_iload_n hx hb dX8_swap_89 rfl (lv_at hl 0 rfl) ?_
  cases gRet_e hf
  exact g_retI X hI rfl dX8_swap_90
def f_X8_swap_14 : Nat → Nat → Int32 → Int32 → Int32 → gM Int32
  | 0, _, _, _, _ => gFail
  | n + 1, a0, x1, x2, x3 =>
    gIf ((10 : Int32) ≤ x3)
    (f_X8_swap_89 x1)
    (f_X8_swap_25 (f_X8_swap_14 n) gN a0 x1 x2 x3 (x3 + (1 : Int32)))
set_option maxHeartbeats 4000000 in
set_option maxRecDepth 100000 in
theorem b_X8_swap_14 {G : gG} {l : Launch} {p : Program} {e : Env} {s : State} {m : MethodId} {args : Array Value} {below : List Frame} {meth : Method} {c : Code} {h0 : g_H} {r : Int32} {h' : g_H} (X : gX G l yX8_swap.cls cX8_swap 6 (some .int) [] yX8_swap.name p s m args meth c) : ∀ n : Nat, w_X8_swap_14 G l p e s m args below meth c h0 r h' (f_X8_swap_14 n) := by
  have hx := X.1
  have hb := X.2.1
  have hown := X.2.2.2.1
  have hts := X.2.2.2.2.1
  intro n
  induction n with
  | zero =>
    intro a0 x1 x2 x3 h H locs cells slots ls hf hI hl
    exact (gFail_f hf).elim
  | succ n ih =>
    intro a0 x1 x2 x3 h H locs cells slots ls hf hI hl
    rw [f_X8_swap_14] at hf
    refine lv_iload_n hx hb dX8_swap_14 rfl (lv_at hl 3 rfl) ?_
    refine lv_bipush (v := (10 : Int32)) hx hb dX8_swap_15 (by decide) ?_
    refine lv_icmp_ge (tgt := 89) hx hb dX8_swap_17 (by decide) (fun c17 => ?_) (fun c17 => ?_)
    · have hf := g_t c17 hf
      exact b_X8_swap_89 X _ _ _ _ _ _ _ hf hI (lv_sub hl [1] rfl)
    · have hf := g_f c17 hf
      refine lv_iload_n hx hb dX8_swap_20 rfl (lv_at hl 3 rfl) ?_
      refine lv_iconst (v := (1 : Int32)) hx hb dX8_swap_21 (by decide) ?_
      refine lv_iadd hx hb dX8_swap_22 ?_
      refine lv_istore (lv' := [(4, .int (x3 + (1 : Int32))), (0, .ref a0), (1, .int x1), (2, .int x2), (3, .int x3)]) hx hb dX8_swap_23 hl (by decide) rfl (fun ls hl => ?_)
      exact b_X8_swap_25 X ih gN _ _ _ _ _ _ _ _ _ _ _ hf hI (lv_sub hl [1, 2, 3, 4, 0] rfl)
def f_X8_swap (a0 : Nat) : gM Int32 :=
    gB (gPI a0 7 0 (0 : Int32)) fun _ =>
    gB (gCk a0 7) fun _ =>
    gB (f_X8_gapNow a0) fun r1 =>
    f_X8_swap_14 gN a0 (-1 : Int32) r1 (0 : Int32)
set_option maxHeartbeats 4000000 in
set_option maxRecDepth 100000 in
theorem m_X8_swap {G : gG} {l : Launch} (hfl : l.stackTraces = false) {a0 : Nat} {h h' : g_H} {r : Int32} (hf : (f_X8_swap a0).1 h = some (r, h')) : gMet G l yX8_swap (Cond.code yX8_swap cX8_swap 6 (some .int)) 12 271 [.ref a0] h (.inl (g_wI r)) h' := by
  refine g_head hfl ((f_X8_swap a0).2 h r h' hf) (plainFor_of_name (by decide)) (Nat.le_of_ble_eq_true rfl) (fun p e s m below meth c H locs cells slots ls X hI hl9 => ?_)
  have hl : lv_has ls 6 [(0, .ref a0)] := hl9
  have hx := X.1
  have hb := X.2.1
  have hown := X.2.2.2.1
  have hts := X.2.2.2.2.1
  unfold f_X8_swap at hf
  refine lv_aload_n hx hb dX8_swap_0 rfl (lv_at hl 0 rfl) ?_
  refine lv_iconst (v := (0 : Int32)) hx hb dX8_swap_1 (by decide) ?_
  refine g_pi X hI hf fX8_0 q1444 rfl dX8_swap_2 (fun h H locs hf hI => ?_)
  refine lv_iconst (v := (-1 : Int32)) hx hb dX8_swap_5 (by decide) ?_
  refine lv_istore_n (lv' := [(1, .int (-1 : Int32)), (0, .ref a0)]) hx hb dX8_swap_6 rfl hl (by decide) rfl (fun ls hl => ?_)
  refine lv_aload_n hx hb dX8_swap_7 rfl (lv_at hl 1 rfl) ?_
  obtain ⟨hs, hf⟩ := gCk_b hf
  refine g_cBI hI hf (fun v9 h9 e9 l9 l9' => g_rV X hI l9 l9' ⟨Nat.le_refl _, Nat.le_refl _⟩ (As := []) (m_X8_gapNow X.2.2.2.2.2.2.2.2.2.2.1 e9) ydX8_gapNow hs rfl rfl q1967 q1969 qs104 q131 q1970 rfl (Nat.le_of_ble_eq_true rfl) (Nat.le_of_ble_eq_true rfl) hl.1 rfl (Nat.le_of_ble_eq_true rfl) dX8_swap_8) (fun r1 h H locs cells slots hf hI => ?_)
  refine lv_istore_n (lv' := [(2, .int r1), (1, .int (-1 : Int32)), (0, .ref a0)]) hx hb dX8_swap_11 rfl hl (by decide) rfl (fun ls hl => ?_)
  refine lv_iconst (v := (0 : Int32)) hx hb dX8_swap_12 (by decide) ?_
  refine lv_istore_n (lv' := [(3, .int (0 : Int32)), (2, .int r1), (1, .int (-1 : Int32)), (0, .ref a0)]) hx hb dX8_swap_13 rfl hl (by decide) rfl (fun ls hl => ?_)
  exact b_X8_swap_14 X gN _ _ _ _ _ _ _ _ _ _ hf hI (lv_sub hl [3, 2, 1, 0] rfl)
/-! X1_errors -/
abbrev w_X1_errors_85 (G : gG) (l : Launch) (p : Program) (e : Env) (s : State) (m : MethodId) (args : Array Value) (below : List Frame) (meth : Method) (c : Code) (h0 : g_H) (r : Int32) (h' : g_H) (k : Nat → Int32 → Int32 → Int32 → gM Int32) : Prop := ∀ (a0 : Nat) (x1 : Int32) (x2 : Int32) (x3 : Int32) (h : g_H) (H : Heap) (locs : List Loc) (cells slots : Nat) (ls : Array Slot), (k a0 x1 x2 x3).1 h = some (r, h') → gI G h0 h H locs cells slots → lv_has ls 4 [(0, .ref a0), (1, .int x1), (2, .int x2), (3, .int x3)] → W p l e (g_rm 104 1939 h0 h') s m args below meth c H locs cells slots (gQ G below args s h0 h' (.inl (g_wI r))) (F0 m 85 ls [])
abbrev w_X1_errors_83 (G : gG) (l : Launch) (p : Program) (e : Env) (s : State) (m : MethodId) (args : Array Value) (below : List Frame) (meth : Method) (c : Code) (h0 : g_H) (r : Int32) (h' : g_H) (k : Nat → Int32 → Int32 → Int32 → Int32 → gM Int32) : Prop := ∀ (a0 : Nat) (x1 : Int32) (x3 : Int32) (u0 : Int32) (u1 : Int32) (h : g_H) (H : Heap) (locs : List Loc) (cells slots : Nat) (ls : Array Slot), (k a0 x1 x3 u0 u1).1 h = some (r, h') → gI G h0 h H locs cells slots → lv_has ls 4 [(0, .ref a0), (1, .int x1), (3, .int x3)] → W p l e (g_rm 104 1939 h0 h') s m args below meth c H locs cells slots (gQ G below args s h0 h' (.inl (g_wI r))) (F0 m 83 ls [.int u1, .int u0])
abbrev w_X1_errors_74 (G : gG) (l : Launch) (p : Program) (e : Env) (s : State) (m : MethodId) (args : Array Value) (below : List Frame) (meth : Method) (c : Code) (h0 : g_H) (r : Int32) (h' : g_H) (k : Nat → Int32 → Int32 → Int32 → Int32 → gM Int32) : Prop := ∀ (a0 : Nat) (x1 : Int32) (x3 : Int32) (u0 : Int32) (u1 : Int32) (h : g_H) (H : Heap) (locs : List Loc) (cells slots : Nat) (ls : Array Slot), (k a0 x1 x3 u0 u1).1 h = some (r, h') → gI G h0 h H locs cells slots → lv_has ls 4 [(0, .ref a0), (1, .int x1), (3, .int x3)] → W p l e (g_rm 104 1939 h0 h') s m args below meth c H locs cells slots (gQ G below args s h0 h' (.inl (g_wI r))) (F0 m 74 ls [.int u1, .int u0])
abbrev w_X1_errors_50 (G : gG) (l : Launch) (p : Program) (e : Env) (s : State) (m : MethodId) (args : Array Value) (below : List Frame) (meth : Method) (c : Code) (h0 : g_H) (r : Int32) (h' : g_H) (k : Nat → Int32 → Int32 → Int32 → Int32 → gM Int32) : Prop := ∀ (a0 : Nat) (x1 : Int32) (x2 : Int32) (x3 : Int32) (u0 : Int32) (h : g_H) (H : Heap) (locs : List Loc) (cells slots : Nat) (ls : Array Slot), (k a0 x1 x2 x3 u0).1 h = some (r, h') → gI G h0 h H locs cells slots → lv_has ls 4 [(0, .ref a0), (1, .int x1), (2, .int x2), (3, .int x3)] → W p l e (g_rm 104 1939 h0 h') s m args below meth c H locs cells slots (gQ G below args s h0 h' (.inl (g_wI r))) (F0 m 50 ls [.int u0])
abbrev w_X1_errors_91 (G : gG) (l : Launch) (p : Program) (e : Env) (s : State) (m : MethodId) (args : Array Value) (below : List Frame) (meth : Method) (c : Code) (h0 : g_H) (r : Int32) (h' : g_H) (k : Int32 → gM Int32) : Prop := ∀ (x2 : Int32) (h : g_H) (H : Heap) (locs : List Loc) (cells slots : Nat) (ls : Array Slot), (k x2).1 h = some (r, h') → gI G h0 h H locs cells slots → lv_has ls 4 [(2, .int x2)] → W p l e (g_rm 104 1939 h0 h') s m args below meth c H locs cells slots (gQ G below args s h0 h' (.inl (g_wI r))) (F0 m 91 ls [])
abbrev w_X1_errors_4 (G : gG) (l : Launch) (p : Program) (e : Env) (s : State) (m : MethodId) (args : Array Value) (below : List Frame) (meth : Method) (c : Code) (h0 : g_H) (r : Int32) (h' : g_H) (k : Nat → Int32 → Int32 → Int32 → gM Int32) : Prop := ∀ (a0 : Nat) (x1 : Int32) (x2 : Int32) (x3 : Int32) (h : g_H) (H : Heap) (locs : List Loc) (cells slots : Nat) (ls : Array Slot), (k a0 x1 x2 x3).1 h = some (r, h') → gI G h0 h H locs cells slots → lv_has ls 4 [(0, .ref a0), (1, .int x1), (2, .int x2), (3, .int x3)] → W p l e (g_rm 104 1939 h0 h') s m args below meth c H locs cells slots (gQ G below args s h0 h' (.inl (g_wI r))) (F0 m 4 ls [])
def f_X1_errors_85 (k4 : Nat → Int32 → Int32 → Int32 → gM Int32) (a0 : Nat) (x1 : Int32) (x2 : Int32) (x3 : Int32) : gM Int32 :=
    k4 a0 x1 x2 (x3 + (1 : Int32))
set_option maxHeartbeats 4000000 in
set_option maxRecDepth 100000 in
theorem b_X1_errors_85 {G : gG} {l : Launch} {p : Program} {e : Env} {s : State} {m : MethodId} {args : Array Value} {below : List Frame} {meth : Method} {c : Code} {h0 : g_H} {r : Int32} {h' : g_H} (X : gX G l yX1_errors.cls cX1_errors 4 (some .int) [] yX1_errors.name p s m args meth c) {k4 : Nat → Int32 → Int32 → Int32 → gM Int32} (K4 : w_X1_errors_4 G l p e s m args below meth c h0 r h' k4) : w_X1_errors_85 G l p e s m args below meth c h0 r h' (f_X1_errors_85 k4) := by
  have hx := X.1
  have hb := X.2.1
  have hown := X.2.2.2.1
  have hts := X.2.2.2.2.1
  intro a0 x1 x2 x3 h H locs cells slots ls hf hI hl
  unfold f_X1_errors_85 at hf
  refine lv_iinc (v := (x3 + (1 : Int32))) (lv' := [(3, .int (x3 + (1 : Int32))), (0, .ref a0), (1, .int x1), (2, .int x2)]) hx hb dX1_errors_85 hl (k := 3) rfl rfl (by decide) rfl (fun ls hl => ?_)
  refine lv_goto (tgt := 4) hx hb dX1_errors_88 (by decide) ?_
  exact K4 _ _ _ _ _ _ _ _ _ _ hf hI (lv_sub hl [1, 2, 3, 0] rfl)
def f_X1_errors_83 (k4 : Nat → Int32 → Int32 → Int32 → gM Int32) (a0 : Nat) (x1 : Int32) (x3 : Int32) (u0 : Int32) (u1 : Int32) : gM Int32 :=
    f_X1_errors_85 k4 a0 x1 (u0 + u1) x3
set_option maxHeartbeats 4000000 in
set_option maxRecDepth 100000 in
theorem b_X1_errors_83 {G : gG} {l : Launch} {p : Program} {e : Env} {s : State} {m : MethodId} {args : Array Value} {below : List Frame} {meth : Method} {c : Code} {h0 : g_H} {r : Int32} {h' : g_H} (X : gX G l yX1_errors.cls cX1_errors 4 (some .int) [] yX1_errors.name p s m args meth c) {k4 : Nat → Int32 → Int32 → Int32 → gM Int32} (K4 : w_X1_errors_4 G l p e s m args below meth c h0 r h' k4) : w_X1_errors_83 G l p e s m args below meth c h0 r h' (f_X1_errors_83 k4) := by
  have hx := X.1
  have hb := X.2.1
  have hown := X.2.2.2.1
  have hts := X.2.2.2.2.1
  intro a0 x1 x3 u0 u1 h H locs cells slots ls hf hI hl
  unfold f_X1_errors_83 at hf
  refine lv_iadd hx hb dX1_errors_83 ?_
  refine lv_istore_n (lv' := [(2, .int (u0 + u1)), (0, .ref a0), (1, .int x1), (3, .int x3)]) hx hb dX1_errors_84 rfl hl (by decide) rfl (fun ls hl => ?_)
  exact b_X1_errors_85 X K4 _ _ _ _ _ _ _ _ _ _ hf hI (lv_sub hl [1, 2, 0, 3] rfl)
def f_X1_errors_74 (k4 : Nat → Int32 → Int32 → Int32 → gM Int32) (a0 : Nat) (x1 : Int32) (x3 : Int32) (u0 : Int32) (u1 : Int32) : gM Int32 :=
    gIf (u1 = x1)
    (f_X1_errors_83 k4 a0 x1 x3 u0 (0 : Int32))
    (f_X1_errors_83 k4 a0 x1 x3 u0 (1 : Int32))
set_option maxHeartbeats 4000000 in
set_option maxRecDepth 100000 in
theorem b_X1_errors_74 {G : gG} {l : Launch} {p : Program} {e : Env} {s : State} {m : MethodId} {args : Array Value} {below : List Frame} {meth : Method} {c : Code} {h0 : g_H} {r : Int32} {h' : g_H} (X : gX G l yX1_errors.cls cX1_errors 4 (some .int) [] yX1_errors.name p s m args meth c) {k4 : Nat → Int32 → Int32 → Int32 → gM Int32} (K4 : w_X1_errors_4 G l p e s m args below meth c h0 r h' k4) : w_X1_errors_74 G l p e s m args below meth c h0 r h' (f_X1_errors_74 k4) := by
  have hx := X.1
  have hb := X.2.1
  have hown := X.2.2.2.1
  have hts := X.2.2.2.2.1
  intro a0 x1 x3 u0 u1 h H locs cells slots ls hf hI hl
  unfold f_X1_errors_74 at hf
  refine lv_iload_n hx hb dX1_errors_74 rfl (lv_at hl 1 rfl) ?_
  refine lv_icmp_eq (tgt := 82) hx hb dX1_errors_75 (by decide) (fun c75 => ?_) (fun c75 => ?_)
  · have hf := g_t c75 hf
    refine lv_iconst (v := (0 : Int32)) hx hb dX1_errors_82 (by decide) ?_
    exact b_X1_errors_83 X K4 _ _ _ _ _ _ _ _ _ _ _ hf hI (lv_sub hl [0, 1, 2] rfl)
  · have hf := g_f c75 hf
    refine lv_iconst (v := (1 : Int32)) hx hb dX1_errors_78 (by decide) ?_
    refine lv_goto (tgt := 83) hx hb dX1_errors_79 (by decide) ?_
    exact b_X1_errors_83 X K4 _ _ _ _ _ _ _ _ _ _ _ hf hI (lv_sub hl [0, 1, 2] rfl)
def f_X1_errors_50 (k4 : Nat → Int32 → Int32 → Int32 → gM Int32) (a0 : Nat) (x1 : Int32) (x2 : Int32) (x3 : Int32) (u0 : Int32) : gM Int32 :=
    gIf (u0 = x1)
    (gB (gCk a0 0) fun _ =>
    gB (f_X1_oddsOf a0 x3) fun r101 =>
    gIf (r101 < (5000 : Int32))
    (f_X1_errors_74 k4 a0 x1 x3 x2 (0 : Int32))
    (f_X1_errors_74 k4 a0 x1 x3 x2 (1 : Int32)))
    (f_X1_errors_85 k4 a0 x1 x2 x3)
set_option maxHeartbeats 4000000 in
set_option maxRecDepth 100000 in
theorem b_X1_errors_50 {G : gG} {l : Launch} {p : Program} {e : Env} {s : State} {m : MethodId} {args : Array Value} {below : List Frame} {meth : Method} {c : Code} {h0 : g_H} {r : Int32} {h' : g_H} (X : gX G l yX1_errors.cls cX1_errors 4 (some .int) [] yX1_errors.name p s m args meth c) {k4 : Nat → Int32 → Int32 → Int32 → gM Int32} (K4 : w_X1_errors_4 G l p e s m args below meth c h0 r h' k4) : w_X1_errors_50 G l p e s m args below meth c h0 r h' (f_X1_errors_50 k4) := by
  have hx := X.1
  have hb := X.2.1
  have hown := X.2.2.2.1
  have hts := X.2.2.2.2.1
  intro a0 x1 x2 x3 u0 h H locs cells slots ls hf hI hl
  unfold f_X1_errors_50 at hf
  refine lv_iload_n hx hb dX1_errors_50 rfl (lv_at hl 1 rfl) ?_
  refine lv_icmp_eq (tgt := 57) hx hb dX1_errors_51 (by decide) (fun c51 => ?_) (fun c51 => ?_)
  · have hf := g_t c51 hf
    refine lv_iload_n hx hb dX1_errors_57 rfl (lv_at hl 2 rfl) ?_
    refine lv_aload_n hx hb dX1_errors_58 rfl (lv_at hl 0 rfl) ?_
    refine lv_iload_n hx hb dX1_errors_59 rfl (lv_at hl 3 rfl) ?_
    obtain ⟨hs, hf⟩ := gCk_b hf
    refine g_cBI hI hf (fun v9 h9 e9 l9 l9' => g_rV X hI l9 l9' ⟨Nat.le_refl _, Nat.le_refl _⟩ (As := [.int x3]) (m_X1_oddsOf X.2.2.2.2.2.2.2.2.2.2.1 e9) ydX1_oddsOf hs rfl rfl q543 q545 qs2 q121 q546 rfl (Nat.le_of_ble_eq_true rfl) (Nat.le_of_ble_eq_true rfl) hl.1 rfl (Nat.le_of_ble_eq_true rfl) dX1_errors_60) (fun r101 h H locs cells slots hf hI => ?_)
    refine lv_sipush (v := (5000 : Int32)) hx hb dX1_errors_63 (by decide) ?_
    refine lv_icmp_lt (tgt := 73) hx hb dX1_errors_66 (by decide) (fun c66 => ?_) (fun c66 => ?_)
    · have hf := g_t c66 hf
      refine lv_iconst (v := (0 : Int32)) hx hb dX1_errors_73 (by decide) ?_
      exact b_X1_errors_74 X K4 _ _ _ _ _ _ _ _ _ _ _ hf hI (lv_sub hl [0, 1, 3] rfl)
    · have hf := g_f c66 hf
      refine lv_iconst (v := (1 : Int32)) hx hb dX1_errors_69 (by decide) ?_
      refine lv_goto (tgt := 74) hx hb dX1_errors_70 (by decide) ?_
      exact b_X1_errors_74 X K4 _ _ _ _ _ _ _ _ _ _ _ hf hI (lv_sub hl [0, 1, 3] rfl)
  · have hf := g_f c51 hf
    refine lv_goto (tgt := 85) hx hb dX1_errors_54 (by decide) ?_
    exact b_X1_errors_85 X K4 _ _ _ _ _ _ _ _ _ _ hf hI (lv_sub hl [0, 1, 2, 3] rfl)
def f_X1_errors_91 (x2 : Int32) : gM Int32 :=
    (gRet x2)
set_option maxHeartbeats 4000000 in
set_option maxRecDepth 100000 in
theorem b_X1_errors_91 {G : gG} {l : Launch} {p : Program} {e : Env} {s : State} {m : MethodId} {args : Array Value} {below : List Frame} {meth : Method} {c : Code} {h0 : g_H} {r : Int32} {h' : g_H} (X : gX G l yX1_errors.cls cX1_errors 4 (some .int) [] yX1_errors.name p s m args meth c) : w_X1_errors_91 G l p e s m args below meth c h0 r h' (f_X1_errors_91) := by
  have hx := X.1
  have hb := X.2.1
  have hown := X.2.2.2.1
  have hts := X.2.2.2.2.1
  intro x2 h H locs cells slots ls hf hI hl
  unfold f_X1_errors_91 at hf
  refine lv_iload_n hx hb dX1_errors_91 rfl (lv_at hl 0 rfl) ?_
  cases gRet_e hf
  exact g_retI X hI rfl dX1_errors_92
def f_X1_errors_4 : Nat → Nat → Int32 → Int32 → Int32 → gM Int32
  | 0, _, _, _, _ => gFail
  | n + 1, a0, x1, x2, x3 =>
    gB (gFR a0 0 1) fun v101 =>
    gB (gFI v101 2 7) fun v102 =>
    gIf (v102 ≤ x3)
    (f_X1_errors_91 x2)
    (gB (gFR a0 0 1) fun v103 =>
    gB (gFR v103 2 1) fun v104 =>
    gB (gAR v104 5 x3) fun v105 =>
    gB (gFI v105 4 3) fun v106 =>
    gIf (v106 = 0)
    (gB (gFR a0 0 1) fun v107 =>
    gB (gFR v107 2 1) fun v108 =>
    gB (gAR v108 5 x3) fun v109 =>
    gB (gFI v109 4 0) fun v110 =>
    gIf (v110 = 0)
    (f_X1_errors_50 (f_X1_errors_4 n) a0 x1 x2 x3 (1 : Int32))
    (f_X1_errors_50 (f_X1_errors_4 n) a0 x1 x2 x3 (0 : Int32)))
    (f_X1_errors_85 (f_X1_errors_4 n) a0 x1 x2 x3))
set_option maxHeartbeats 4000000 in
set_option maxRecDepth 100000 in
theorem b_X1_errors_4 {G : gG} {l : Launch} {p : Program} {e : Env} {s : State} {m : MethodId} {args : Array Value} {below : List Frame} {meth : Method} {c : Code} {h0 : g_H} {r : Int32} {h' : g_H} (X : gX G l yX1_errors.cls cX1_errors 4 (some .int) [] yX1_errors.name p s m args meth c) : ∀ n : Nat, w_X1_errors_4 G l p e s m args below meth c h0 r h' (f_X1_errors_4 n) := by
  have hx := X.1
  have hb := X.2.1
  have hown := X.2.2.2.1
  have hts := X.2.2.2.2.1
  intro n
  induction n with
  | zero =>
    intro a0 x1 x2 x3 h H locs cells slots ls hf hI hl
    exact (gFail_f hf).elim
  | succ n ih =>
    intro a0 x1 x2 x3 h H locs cells slots ls hf hI hl
    rw [f_X1_errors_4] at hf
    refine lv_iload_n hx hb dX1_errors_4 rfl (lv_at hl 3 rfl) ?_
    refine lv_aload_n hx hb dX1_errors_5 rfl (lv_at hl 0 rfl) ?_
    refine g_fr X hI hf fX1_1 q461 rfl rfl dX1_errors_6 (fun v101 hf => ?_)
    refine g_fiN X hI hf fX3_7 q271 rfl rfl dX1_errors_9 (fun v102 hf => ?_)
    refine lv_icmp_ge (tgt := 91) hx hb dX1_errors_12 (by decide) (fun c12 => ?_) (fun c12 => ?_)
    · have hf := g_t c12 hf
      exact b_X1_errors_91 X _ _ _ _ _ _ _ hf hI (lv_sub hl [2] rfl)
    · have hf := g_f c12 hf
      refine lv_aload_n hx hb dX1_errors_15 rfl (lv_at hl 0 rfl) ?_
      refine g_fr X hI hf fX1_1 q461 rfl rfl dX1_errors_16 (fun v103 hf => ?_)
      refine g_frN X hI hf fX3_1 q257 rfl rfl dX1_errors_19 (fun v104 hf => ?_)
      refine lv_iload_n hx hb dX1_errors_22 rfl (lv_at hl 3 rfl) ?_
      refine g_ar5 X hI hf dX1_errors_23 (fun v105 hf => ?_)
      refine g_fiN X hI hf fX5_3 q243 rfl rfl dX1_errors_24 (fun v106 hf => ?_)
      refine lv_if_ne (tgt := 85) hx hb dX1_errors_27 (by decide) (fun c27 => ?_) (fun c27 => ?_)
      · have hf := g_f c27 hf
        exact b_X1_errors_85 X ih _ _ _ _ _ _ _ _ _ _ hf hI (lv_sub hl [0, 1, 2, 3] rfl)
      · have hf := g_t c27 hf
        refine lv_aload_n hx hb dX1_errors_30 rfl (lv_at hl 0 rfl) ?_
        refine g_fr X hI hf fX1_1 q461 rfl rfl dX1_errors_31 (fun v107 hf => ?_)
        refine g_frN X hI hf fX3_1 q257 rfl rfl dX1_errors_34 (fun v108 hf => ?_)
        refine lv_iload_n hx hb dX1_errors_37 rfl (lv_at hl 3 rfl) ?_
        refine g_ar5 X hI hf dX1_errors_38 (fun v109 hf => ?_)
        refine g_fiN X hI hf fX5_0 q230 rfl rfl dX1_errors_39 (fun v110 hf => ?_)
        refine lv_if_ne (tgt := 49) hx hb dX1_errors_42 (by decide) (fun c42 => ?_) (fun c42 => ?_)
        · have hf := g_f c42 hf
          refine lv_iconst (v := (0 : Int32)) hx hb dX1_errors_49 (by decide) ?_
          exact b_X1_errors_50 X ih _ _ _ _ _ _ _ _ _ _ _ hf hI (lv_sub hl [0, 1, 2, 3] rfl)
        · have hf := g_t c42 hf
          refine lv_iconst (v := (1 : Int32)) hx hb dX1_errors_45 (by decide) ?_
          refine lv_goto (tgt := 50) hx hb dX1_errors_46 (by decide) ?_
          exact b_X1_errors_50 X ih _ _ _ _ _ _ _ _ _ _ _ hf hI (lv_sub hl [0, 1, 2, 3] rfl)
def f_X1_errors (a0 : Nat) (x1 : Int32) : gM Int32 :=
    f_X1_errors_4 gN a0 x1 (0 : Int32) (0 : Int32)
set_option maxHeartbeats 4000000 in
set_option maxRecDepth 100000 in
theorem m_X1_errors {G : gG} {l : Launch} (hfl : l.stackTraces = false) {a0 : Nat} {x1 : Int32} {h h' : g_H} {r : Int32} (hf : (f_X1_errors a0 x1).1 h = some (r, h')) : gMet G l yX1_errors (Cond.code yX1_errors cX1_errors 4 (some .int)) 104 1939 [.ref a0, .int x1] h (.inl (g_wI r)) h' := by
  refine g_head hfl ((f_X1_errors a0 x1).2 h r h' hf) (plainFor_of_name (by decide)) (Nat.le_of_ble_eq_true rfl) (fun p e s m below meth c H locs cells slots ls X hI hl9 => ?_)
  have hl : lv_has ls 4 [(0, .ref a0), (1, .int x1)] := hl9
  have hx := X.1
  have hb := X.2.1
  have hown := X.2.2.2.1
  have hts := X.2.2.2.2.1
  unfold f_X1_errors at hf
  refine lv_iconst (v := (0 : Int32)) hx hb dX1_errors_0 (by decide) ?_
  refine lv_istore_n (lv' := [(2, .int (0 : Int32)), (0, .ref a0), (1, .int x1)]) hx hb dX1_errors_1 rfl hl (by decide) rfl (fun ls hl => ?_)
  refine lv_iconst (v := (0 : Int32)) hx hb dX1_errors_2 (by decide) ?_
  refine lv_istore_n (lv' := [(3, .int (0 : Int32)), (2, .int (0 : Int32)), (0, .ref a0), (1, .int x1)]) hx hb dX1_errors_3 rfl hl (by decide) rfl (fun ls hl => ?_)
  exact b_X1_errors_4 X gN _ _ _ _ _ _ _ _ _ _ hf hI (lv_sub hl [2, 3, 1, 0] rfl)
/-! X8_errors -/
abbrev w_X8_errors_62 (G : gG) (l : Launch) (p : Program) (e : Env) (s : State) (m : MethodId) (args : Array Value) (below : List Frame) (meth : Method) (c : Code) (h0 : g_H) (r : Int32) (h' : g_H) (k : Nat → Int32 → Int32 → Int32 → gM Int32) : Prop := ∀ (a0 : Nat) (x1 : Int32) (x2 : Int32) (x3 : Int32) (h : g_H) (H : Heap) (locs : List Loc) (cells slots : Nat) (ls : Array Slot), (k a0 x1 x2 x3).1 h = some (r, h') → gI G h0 h H locs cells slots → lv_has ls 4 [(0, .ref a0), (1, .int x1), (2, .int x2), (3, .int x3)] → W p l e (g_rm 11 249 h0 h') s m args below meth c H locs cells slots (gQ G below args s h0 h' (.inl (g_wI r))) (F0 m 62 ls [])
abbrev w_X8_errors_60 (G : gG) (l : Launch) (p : Program) (e : Env) (s : State) (m : MethodId) (args : Array Value) (below : List Frame) (meth : Method) (c : Code) (h0 : g_H) (r : Int32) (h' : g_H) (k : Nat → Int32 → Int32 → Int32 → Int32 → gM Int32) : Prop := ∀ (a0 : Nat) (x1 : Int32) (x3 : Int32) (u0 : Int32) (u1 : Int32) (h : g_H) (H : Heap) (locs : List Loc) (cells slots : Nat) (ls : Array Slot), (k a0 x1 x3 u0 u1).1 h = some (r, h') → gI G h0 h H locs cells slots → lv_has ls 4 [(0, .ref a0), (1, .int x1), (3, .int x3)] → W p l e (g_rm 11 249 h0 h') s m args below meth c H locs cells slots (gQ G below args s h0 h' (.inl (g_wI r))) (F0 m 60 ls [.int u1, .int u0])
abbrev w_X8_errors_51 (G : gG) (l : Launch) (p : Program) (e : Env) (s : State) (m : MethodId) (args : Array Value) (below : List Frame) (meth : Method) (c : Code) (h0 : g_H) (r : Int32) (h' : g_H) (k : Nat → Int32 → Int32 → Int32 → Int32 → gM Int32) : Prop := ∀ (a0 : Nat) (x1 : Int32) (x3 : Int32) (u0 : Int32) (u1 : Int32) (h : g_H) (H : Heap) (locs : List Loc) (cells slots : Nat) (ls : Array Slot), (k a0 x1 x3 u0 u1).1 h = some (r, h') → gI G h0 h H locs cells slots → lv_has ls 4 [(0, .ref a0), (1, .int x1), (3, .int x3)] → W p l e (g_rm 11 249 h0 h') s m args below meth c H locs cells slots (gQ G below args s h0 h' (.inl (g_wI r))) (F0 m 51 ls [.int u1, .int u0])
abbrev w_X8_errors_68 (G : gG) (l : Launch) (p : Program) (e : Env) (s : State) (m : MethodId) (args : Array Value) (below : List Frame) (meth : Method) (c : Code) (h0 : g_H) (r : Int32) (h' : g_H) (k : Int32 → gM Int32) : Prop := ∀ (x2 : Int32) (h : g_H) (H : Heap) (locs : List Loc) (cells slots : Nat) (ls : Array Slot), (k x2).1 h = some (r, h') → gI G h0 h H locs cells slots → lv_has ls 4 [(2, .int x2)] → W p l e (g_rm 11 249 h0 h') s m args below meth c H locs cells slots (gQ G below args s h0 h' (.inl (g_wI r))) (F0 m 68 ls [])
abbrev w_X8_errors_9 (G : gG) (l : Launch) (p : Program) (e : Env) (s : State) (m : MethodId) (args : Array Value) (below : List Frame) (meth : Method) (c : Code) (h0 : g_H) (r : Int32) (h' : g_H) (k : Nat → Int32 → Int32 → Int32 → gM Int32) : Prop := ∀ (a0 : Nat) (x1 : Int32) (x2 : Int32) (x3 : Int32) (h : g_H) (H : Heap) (locs : List Loc) (cells slots : Nat) (ls : Array Slot), (k a0 x1 x2 x3).1 h = some (r, h') → gI G h0 h H locs cells slots → lv_has ls 4 [(0, .ref a0), (1, .int x1), (2, .int x2), (3, .int x3)] → W p l e (g_rm 11 249 h0 h') s m args below meth c H locs cells slots (gQ G below args s h0 h' (.inl (g_wI r))) (F0 m 9 ls [])
def f_X8_errors_62 (k9 : Nat → Int32 → Int32 → Int32 → gM Int32) (a0 : Nat) (x1 : Int32) (x2 : Int32) (x3 : Int32) : gM Int32 :=
    k9 a0 x1 x2 (x3 + (1 : Int32))
set_option maxHeartbeats 4000000 in
set_option maxRecDepth 100000 in
theorem b_X8_errors_62 {G : gG} {l : Launch} {p : Program} {e : Env} {s : State} {m : MethodId} {args : Array Value} {below : List Frame} {meth : Method} {c : Code} {h0 : g_H} {r : Int32} {h' : g_H} (X : gX G l yX8_errors.cls cX8_errors 4 (some .int) [] yX8_errors.name p s m args meth c) {k9 : Nat → Int32 → Int32 → Int32 → gM Int32} (K9 : w_X8_errors_9 G l p e s m args below meth c h0 r h' k9) : w_X8_errors_62 G l p e s m args below meth c h0 r h' (f_X8_errors_62 k9) := by
  have hx := X.1
  have hb := X.2.1
  have hown := X.2.2.2.1
  have hts := X.2.2.2.2.1
  intro a0 x1 x2 x3 h H locs cells slots ls hf hI hl
  unfold f_X8_errors_62 at hf
  refine lv_iinc (v := (x3 + (1 : Int32))) (lv' := [(3, .int (x3 + (1 : Int32))), (0, .ref a0), (1, .int x1), (2, .int x2)]) hx hb dX8_errors_62 hl (k := 3) rfl rfl (by decide) rfl (fun ls hl => ?_)
  refine lv_goto (tgt := 9) hx hb dX8_errors_65 (by decide) ?_
  exact K9 _ _ _ _ _ _ _ _ _ _ hf hI (lv_sub hl [1, 2, 3, 0] rfl)
def f_X8_errors_60 (k9 : Nat → Int32 → Int32 → Int32 → gM Int32) (a0 : Nat) (x1 : Int32) (x3 : Int32) (u0 : Int32) (u1 : Int32) : gM Int32 :=
    f_X8_errors_62 k9 a0 x1 (u0 + u1) x3
set_option maxHeartbeats 4000000 in
set_option maxRecDepth 100000 in
theorem b_X8_errors_60 {G : gG} {l : Launch} {p : Program} {e : Env} {s : State} {m : MethodId} {args : Array Value} {below : List Frame} {meth : Method} {c : Code} {h0 : g_H} {r : Int32} {h' : g_H} (X : gX G l yX8_errors.cls cX8_errors 4 (some .int) [] yX8_errors.name p s m args meth c) {k9 : Nat → Int32 → Int32 → Int32 → gM Int32} (K9 : w_X8_errors_9 G l p e s m args below meth c h0 r h' k9) : w_X8_errors_60 G l p e s m args below meth c h0 r h' (f_X8_errors_60 k9) := by
  have hx := X.1
  have hb := X.2.1
  have hown := X.2.2.2.1
  have hts := X.2.2.2.2.1
  intro a0 x1 x3 u0 u1 h H locs cells slots ls hf hI hl
  unfold f_X8_errors_60 at hf
  refine lv_iadd hx hb dX8_errors_60 ?_
  refine lv_istore_n (lv' := [(2, .int (u0 + u1)), (0, .ref a0), (1, .int x1), (3, .int x3)]) hx hb dX8_errors_61 rfl hl (by decide) rfl (fun ls hl => ?_)
  exact b_X8_errors_62 X K9 _ _ _ _ _ _ _ _ _ _ hf hI (lv_sub hl [1, 2, 0, 3] rfl)
def f_X8_errors_51 (k9 : Nat → Int32 → Int32 → Int32 → gM Int32) (a0 : Nat) (x1 : Int32) (x3 : Int32) (u0 : Int32) (u1 : Int32) : gM Int32 :=
    gIf (u1 = x1)
    (f_X8_errors_60 k9 a0 x1 x3 u0 (1 : Int32))
    (f_X8_errors_60 k9 a0 x1 x3 u0 (0 : Int32))
set_option maxHeartbeats 4000000 in
set_option maxRecDepth 100000 in
theorem b_X8_errors_51 {G : gG} {l : Launch} {p : Program} {e : Env} {s : State} {m : MethodId} {args : Array Value} {below : List Frame} {meth : Method} {c : Code} {h0 : g_H} {r : Int32} {h' : g_H} (X : gX G l yX8_errors.cls cX8_errors 4 (some .int) [] yX8_errors.name p s m args meth c) {k9 : Nat → Int32 → Int32 → Int32 → gM Int32} (K9 : w_X8_errors_9 G l p e s m args below meth c h0 r h' k9) : w_X8_errors_51 G l p e s m args below meth c h0 r h' (f_X8_errors_51 k9) := by
  have hx := X.1
  have hb := X.2.1
  have hown := X.2.2.2.1
  have hts := X.2.2.2.2.1
  intro a0 x1 x3 u0 u1 h H locs cells slots ls hf hI hl
  unfold f_X8_errors_51 at hf
  refine lv_iload_n hx hb dX8_errors_51 rfl (lv_at hl 1 rfl) ?_
  refine lv_icmp_ne (tgt := 59) hx hb dX8_errors_52 (by decide) (fun c52 => ?_) (fun c52 => ?_)
  · have hf := g_f c52 hf
    refine lv_iconst (v := (0 : Int32)) hx hb dX8_errors_59 (by decide) ?_
    exact b_X8_errors_60 X K9 _ _ _ _ _ _ _ _ _ _ _ hf hI (lv_sub hl [0, 1, 2] rfl)
  · have hf := g_t c52 hf
    refine lv_iconst (v := (1 : Int32)) hx hb dX8_errors_55 (by decide) ?_
    refine lv_goto (tgt := 60) hx hb dX8_errors_56 (by decide) ?_
    exact b_X8_errors_60 X K9 _ _ _ _ _ _ _ _ _ _ _ hf hI (lv_sub hl [0, 1, 2] rfl)
def f_X8_errors_68 (x2 : Int32) : gM Int32 :=
    (gRet x2)
set_option maxHeartbeats 4000000 in
set_option maxRecDepth 100000 in
theorem b_X8_errors_68 {G : gG} {l : Launch} {p : Program} {e : Env} {s : State} {m : MethodId} {args : Array Value} {below : List Frame} {meth : Method} {c : Code} {h0 : g_H} {r : Int32} {h' : g_H} (X : gX G l yX8_errors.cls cX8_errors 4 (some .int) [] yX8_errors.name p s m args meth c) : w_X8_errors_68 G l p e s m args below meth c h0 r h' (f_X8_errors_68) := by
  have hx := X.1
  have hb := X.2.1
  have hown := X.2.2.2.1
  have hts := X.2.2.2.2.1
  intro x2 h H locs cells slots ls hf hI hl
  unfold f_X8_errors_68 at hf
  refine lv_iload_n hx hb dX8_errors_68 rfl (lv_at hl 0 rfl) ?_
  cases gRet_e hf
  exact g_retI X hI rfl dX8_errors_69
def f_X8_errors_9 : Nat → Nat → Int32 → Int32 → Int32 → gM Int32
  | 0, _, _, _, _ => gFail
  | n + 1, a0, x1, x2, x3 =>
    gB (gCk a0 7) fun _ =>
    gB (f_X8_oneCount a0) fun r101 =>
    gIf (r101 ≤ x3)
    (f_X8_errors_68 x2)
    (gB (gCk a0 7) fun _ =>
    gB (f_X8_waits a0 x3) fun r102 =>
    gIf (r102 = 0)
    (f_X8_errors_62 (f_X8_errors_9 n) a0 x1 x2 x3)
    (gB (gCk a0 7) fun _ =>
    gB (f_X8_isInnocent a0 x3) fun r103 =>
    gIf (r103 = x1)
    (gB (gCk a0 7) fun _ =>
    gB (f_X8_oddsOf a0 x3) fun r104 =>
    gIf ((5000 : Int32) ≤ r104)
    (f_X8_errors_51 (f_X8_errors_9 n) a0 x1 x3 x2 (0 : Int32))
    (f_X8_errors_51 (f_X8_errors_9 n) a0 x1 x3 x2 (1 : Int32)))
    (f_X8_errors_62 (f_X8_errors_9 n) a0 x1 x2 x3)))
set_option maxHeartbeats 4000000 in
set_option maxRecDepth 100000 in
theorem b_X8_errors_9 {G : gG} {l : Launch} {p : Program} {e : Env} {s : State} {m : MethodId} {args : Array Value} {below : List Frame} {meth : Method} {c : Code} {h0 : g_H} {r : Int32} {h' : g_H} (X : gX G l yX8_errors.cls cX8_errors 4 (some .int) [] yX8_errors.name p s m args meth c) : ∀ n : Nat, w_X8_errors_9 G l p e s m args below meth c h0 r h' (f_X8_errors_9 n) := by
  have hx := X.1
  have hb := X.2.1
  have hown := X.2.2.2.1
  have hts := X.2.2.2.2.1
  intro n
  induction n with
  | zero =>
    intro a0 x1 x2 x3 h H locs cells slots ls hf hI hl
    exact (gFail_f hf).elim
  | succ n ih =>
    intro a0 x1 x2 x3 h H locs cells slots ls hf hI hl
    rw [f_X8_errors_9] at hf
    refine lv_iload_n hx hb dX8_errors_9 rfl (lv_at hl 3 rfl) ?_
    refine lv_aload_n hx hb dX8_errors_10 rfl (lv_at hl 0 rfl) ?_
    obtain ⟨hs, hf⟩ := gCk_b hf
    refine g_cBI hI hf (fun v9 h9 e9 l9 l9' => g_rV X hI l9 l9' ⟨Nat.le_refl _, Nat.le_refl _⟩ (As := []) (m_X8_oneCount X.2.2.2.2.2.2.2.2.2.2.1 e9) ydX8_oneCount hs rfl rfl q1673 q1675 qs61 q131 q1676 rfl (Nat.le_of_ble_eq_true rfl) (Nat.le_of_ble_eq_true rfl) hl.1 rfl (Nat.le_of_ble_eq_true rfl) dX8_errors_11) (fun r101 h H locs cells slots hf hI => ?_)
    refine lv_icmp_ge (tgt := 68) hx hb dX8_errors_14 (by decide) (fun c14 => ?_) (fun c14 => ?_)
    · have hf := g_t c14 hf
      exact b_X8_errors_68 X _ _ _ _ _ _ _ hf hI (lv_sub hl [2] rfl)
    · have hf := g_f c14 hf
      refine lv_aload_n hx hb dX8_errors_17 rfl (lv_at hl 0 rfl) ?_
      refine lv_iload_n hx hb dX8_errors_18 rfl (lv_at hl 3 rfl) ?_
      obtain ⟨hs, hf⟩ := gCk_b hf
      refine g_cBI hI hf (fun v9 h9 e9 l9 l9' => g_rV X hI l9 l9' ⟨Nat.le_refl _, Nat.le_refl _⟩ (As := [.int x3]) (m_X8_waits X.2.2.2.2.2.2.2.2.2.2.1 e9) ydX8_waits hs rfl rfl q1804 q1806 qs82 q131 q1807 rfl (Nat.le_of_ble_eq_true rfl) (Nat.le_of_ble_eq_true rfl) hl.1 rfl (Nat.le_of_ble_eq_true rfl) dX8_errors_19) (fun r102 h H locs cells slots hf hI => ?_)
      refine lv_if_eq (tgt := 62) hx hb dX8_errors_22 (by decide) (fun c22 => ?_) (fun c22 => ?_)
      · have hf := g_t c22 hf
        exact b_X8_errors_62 X ih _ _ _ _ _ _ _ _ _ _ hf hI (lv_sub hl [0, 1, 2, 3] rfl)
      · have hf := g_f c22 hf
        refine lv_aload_n hx hb dX8_errors_25 rfl (lv_at hl 0 rfl) ?_
        refine lv_iload_n hx hb dX8_errors_26 rfl (lv_at hl 3 rfl) ?_
        obtain ⟨hs, hf⟩ := gCk_b hf
        refine g_cBI hI hf (fun v9 h9 e9 l9 l9' => g_rV X hI l9 l9' ⟨Nat.le_refl _, Nat.le_refl _⟩ (As := [.int x3]) (m_X8_isInnocent X.2.2.2.2.2.2.2.2.2.2.1 e9) ydX8_isInnocent hs rfl rfl q1971 q1973 qs105 q131 q1974 rfl (Nat.le_of_ble_eq_true rfl) (Nat.le_of_ble_eq_true rfl) hl.1 rfl (Nat.le_of_ble_eq_true rfl) dX8_errors_27) (fun r103 h H locs cells slots hf hI => ?_)
        refine lv_iload_n hx hb dX8_errors_30 rfl (lv_at hl 1 rfl) ?_
        refine lv_icmp_ne (tgt := 62) hx hb dX8_errors_31 (by decide) (fun c31 => ?_) (fun c31 => ?_)
        · have hf := g_f c31 hf
          exact b_X8_errors_62 X ih _ _ _ _ _ _ _ _ _ _ hf hI (lv_sub hl [0, 1, 2, 3] rfl)
        · have hf := g_t c31 hf
          refine lv_iload_n hx hb dX8_errors_34 rfl (lv_at hl 2 rfl) ?_
          refine lv_aload_n hx hb dX8_errors_35 rfl (lv_at hl 0 rfl) ?_
          refine lv_iload_n hx hb dX8_errors_36 rfl (lv_at hl 3 rfl) ?_
          obtain ⟨hs, hf⟩ := gCk_b hf
          refine g_cBI hI hf (fun v9 h9 e9 l9 l9' => g_rV X hI l9 l9' ⟨Nat.le_refl _, Nat.le_refl _⟩ (As := [.int x3]) (m_X8_oddsOf X.2.2.2.2.2.2.2.2.2.2.1 e9) ydX8_oddsOf hs rfl rfl q1958 q1960 qs103 q131 q1961 rfl (Nat.le_of_ble_eq_true rfl) (Nat.le_of_ble_eq_true rfl) hl.1 rfl (Nat.le_of_ble_eq_true rfl) dX8_errors_37) (fun r104 h H locs cells slots hf hI => ?_)
          refine lv_sipush (v := (5000 : Int32)) hx hb dX8_errors_40 (by decide) ?_
          refine lv_icmp_ge (tgt := 50) hx hb dX8_errors_43 (by decide) (fun c43 => ?_) (fun c43 => ?_)
          · have hf := g_t c43 hf
            refine lv_iconst (v := (0 : Int32)) hx hb dX8_errors_50 (by decide) ?_
            exact b_X8_errors_51 X ih _ _ _ _ _ _ _ _ _ _ _ hf hI (lv_sub hl [0, 1, 3] rfl)
          · have hf := g_f c43 hf
            refine lv_iconst (v := (1 : Int32)) hx hb dX8_errors_46 (by decide) ?_
            refine lv_goto (tgt := 51) hx hb dX8_errors_47 (by decide) ?_
            exact b_X8_errors_51 X ih _ _ _ _ _ _ _ _ _ _ _ hf hI (lv_sub hl [0, 1, 3] rfl)
def f_X8_errors (a0 : Nat) (x1 : Int32) : gM Int32 :=
    gB (gPI a0 7 0 (0 : Int32)) fun _ =>
    f_X8_errors_9 gN a0 x1 (0 : Int32) (0 : Int32)
set_option maxHeartbeats 4000000 in
set_option maxRecDepth 100000 in
theorem m_X8_errors {G : gG} {l : Launch} (hfl : l.stackTraces = false) {a0 : Nat} {x1 : Int32} {h h' : g_H} {r : Int32} (hf : (f_X8_errors a0 x1).1 h = some (r, h')) : gMet G l yX8_errors (Cond.code yX8_errors cX8_errors 4 (some .int)) 11 249 [.ref a0, .int x1] h (.inl (g_wI r)) h' := by
  refine g_head hfl ((f_X8_errors a0 x1).2 h r h' hf) (plainFor_of_name (by decide)) (Nat.le_of_ble_eq_true rfl) (fun p e s m below meth c H locs cells slots ls X hI hl9 => ?_)
  have hl : lv_has ls 4 [(0, .ref a0), (1, .int x1)] := hl9
  have hx := X.1
  have hb := X.2.1
  have hown := X.2.2.2.1
  have hts := X.2.2.2.2.1
  unfold f_X8_errors at hf
  refine lv_aload_n hx hb dX8_errors_0 rfl (lv_at hl 0 rfl) ?_
  refine lv_iconst (v := (0 : Int32)) hx hb dX8_errors_1 (by decide) ?_
  refine g_pi X hI hf fX8_0 q1444 rfl dX8_errors_2 (fun h H locs hf hI => ?_)
  refine lv_iconst (v := (0 : Int32)) hx hb dX8_errors_5 (by decide) ?_
  refine lv_istore_n (lv' := [(2, .int (0 : Int32)), (0, .ref a0), (1, .int x1)]) hx hb dX8_errors_6 rfl hl (by decide) rfl (fun ls hl => ?_)
  refine lv_iconst (v := (0 : Int32)) hx hb dX8_errors_7 (by decide) ?_
  refine lv_istore_n (lv' := [(3, .int (0 : Int32)), (2, .int (0 : Int32)), (0, .ref a0), (1, .int x1)]) hx hb dX8_errors_8 rfl hl (by decide) rfl (fun ls hl => ?_)
  exact b_X8_errors_9 X gN _ _ _ _ _ _ _ _ _ _ hf hI (lv_sub hl [2, 3, 1, 0] rfl)
/-! X8_gap -/
def f_X8_gap (a0 : Nat) : gM Int32 :=
    gB (gPI a0 7 0 (0 : Int32)) fun _ =>
    gB (gCk a0 7) fun _ =>
    gB (f_X8_gapNow a0) fun r1 =>
    (gRet r1)
set_option maxHeartbeats 4000000 in
set_option maxRecDepth 100000 in
theorem m_X8_gap {G : gG} {l : Launch} (hfl : l.stackTraces = false) {a0 : Nat} {h h' : g_H} {r : Int32} (hf : (f_X8_gap a0).1 h = some (r, h')) : gMet G l yX8_gap (Cond.code yX8_gap cX8_gap 1 (some .int)) 12 271 [.ref a0] h (.inl (g_wI r)) h' := by
  refine g_head hfl ((f_X8_gap a0).2 h r h' hf) (plainFor_of_name (by decide)) (Nat.le_of_ble_eq_true rfl) (fun p e s m below meth c H locs cells slots ls X hI hl9 => ?_)
  have hl : lv_has ls 1 [(0, .ref a0)] := hl9
  have hx := X.1
  have hb := X.2.1
  have hown := X.2.2.2.1
  have hts := X.2.2.2.2.1
  unfold f_X8_gap at hf
  refine lv_aload_n hx hb dX8_gap_0 rfl (lv_at hl 0 rfl) ?_
  refine lv_iconst (v := (0 : Int32)) hx hb dX8_gap_1 (by decide) ?_
  refine g_pi X hI hf fX8_0 q1444 rfl dX8_gap_2 (fun h H locs hf hI => ?_)
  refine lv_aload_n hx hb dX8_gap_5 rfl (lv_at hl 0 rfl) ?_
  obtain ⟨hs, hf⟩ := gCk_b hf
  refine g_cBI hI hf (fun v9 h9 e9 l9 l9' => g_rV X hI l9 l9' ⟨Nat.le_refl _, Nat.le_refl _⟩ (As := []) (m_X8_gapNow X.2.2.2.2.2.2.2.2.2.2.1 e9) ydX8_gapNow hs rfl rfl q1967 q1969 qs104 q131 q1970 rfl (Nat.le_of_ble_eq_true rfl) (Nat.le_of_ble_eq_true rfl) hl.1 rfl (Nat.le_of_ble_eq_true rfl) dX8_gap_6) (fun r1 h H locs cells slots hf hI => ?_)
  cases gRet_e hf
  exact g_retI X hI rfl dX8_gap_9
/-! X1_odds -/
def f_X1_odds (a0 : Nat) (x1 : Int32) : gM (Int32 ⊕ gE) :=
    gB (gCk a0 0) fun _ =>
    gT (f_X1_oneAt a0 x1) fun r1 =>
    gB (gCk a0 0) fun _ =>
    gB (f_X1_oddsOf a0 x1) fun r2 =>
    (gRet (.inl r2))
set_option maxHeartbeats 4000000 in
set_option maxRecDepth 100000 in
theorem m_X1_odds {G : gG} {l : Launch} (hfl : l.stackTraces = false) {a0 : Nat} {x1 : Int32} {h h' : g_H} {r : (Int32 ⊕ gE)} (hf : (f_X1_odds a0 x1).1 h = some (r, h')) : gMet G l yX1_odds (Cond.code yX1_odds cX1_odds 2 (some .int)) 104 1939 [.ref a0, .int x1] h (g_w g_wI r) h' := by
  refine g_head hfl ((f_X1_odds a0 x1).2 h r h' hf) (plainFor_of_name (by decide)) (Nat.le_of_ble_eq_true rfl) (fun p e s m below meth c H locs cells slots ls X hI hl9 => ?_)
  have hl : lv_has ls 2 [(0, .ref a0), (1, .int x1)] := hl9
  have hx := X.1
  have hb := X.2.1
  have hown := X.2.2.2.1
  have hts := X.2.2.2.2.1
  unfold f_X1_odds at hf
  refine lv_aload_n hx hb dX1_odds_0 rfl (lv_at hl 0 rfl) ?_
  refine lv_iload_n hx hb dX1_odds_1 rfl (lv_at hl 1 rfl) ?_
  obtain ⟨hs, hf⟩ := gCk_b hf
  refine g_cTR X hI (by decide) hf (fun v9 h9 e9 l9 l9' => g_rV X hI l9 l9' ⟨Nat.le_refl _, Nat.le_refl _⟩ (As := [.int x1]) (m_X1_oneAt X.2.2.2.2.2.2.2.2.2.2.1 e9) ydX1_oneAt hs rfl rfl q1189 q1191 qs37 q121 q1192 rfl (Nat.le_of_ble_eq_true rfl) (Nat.le_of_ble_eq_true rfl) hl.1 rfl (Nat.le_of_ble_eq_true rfl) dX1_odds_2) (fun r1 h H locs cells slots hf hI => ?_)
  refine lv_pop hx hb dX1_odds_5 rfl ?_
  refine lv_aload_n hx hb dX1_odds_6 rfl (lv_at hl 0 rfl) ?_
  refine lv_iload_n hx hb dX1_odds_7 rfl (lv_at hl 1 rfl) ?_
  obtain ⟨hs, hf⟩ := gCk_b hf
  refine g_cBI hI hf (fun v9 h9 e9 l9 l9' => g_rV X hI l9 l9' ⟨Nat.le_refl _, Nat.le_refl _⟩ (As := [.int x1]) (m_X1_oddsOf X.2.2.2.2.2.2.2.2.2.2.1 e9) ydX1_oddsOf hs rfl rfl q543 q545 qs2 q121 q546 rfl (Nat.le_of_ble_eq_true rfl) (Nat.le_of_ble_eq_true rfl) hl.1 rfl (Nat.le_of_ble_eq_true rfl) dX1_odds_8) (fun r2 h H locs cells slots hf hI => ?_)
  cases gRet_e hf
  exact g_retI X hI rfl dX1_odds_11
/-! X0_odds -/
def f_X0_odds (a0 : Nat) (x1 : Int32) (a2 : Nat) : gM Int32 :=
    gB (gCk a0 0) fun _ =>
    gB (f_X1_odds a0 x1) fun r9 => match r9 with
    | .inl r1 => (gB (gSI a2 2 (0 : Int32) (r1)) fun _ =>
    (gRet (0 : Int32)))
    | .inr x9 => (gIf (x9.1 = 19)
    ((gRet (1 : Int32)))
    (gFail))
set_option maxHeartbeats 4000000 in
set_option maxRecDepth 100000 in
theorem m_X0_odds {G : gG} {l : Launch} (hfl : l.stackTraces = false) {a0 : Nat} {x1 : Int32} {a2 : Nat} {h h' : g_H} {r : Int32} (hf : (f_X0_odds a0 x1 a2).1 h = some (r, h')) : gMet G l yX0_odds (Cond.codeWith yX0_odds cX0_odds 4 (some .int) [(0, 9, 12, 24)]) 105 1960 [.ref a0, .int x1, .ref a2] h (.inl (g_wI r)) h' := by
  refine g_headW hfl ((f_X0_odds a0 x1 a2).2 h r h' hf) (plainFor_of_name (by decide)) (Nat.le_of_ble_eq_true rfl) (fun p e s m below meth c H locs cells slots ls X hI hl9 => ?_)
  have hl : lv_has ls 4 [(0, .ref a0), (1, .int x1), (2, .ref a2)] := hl9
  have hx := X.1
  have hb := X.2.1
  have hown := X.2.2.2.1
  have hts := X.2.2.2.2.1
  unfold f_X0_odds at hf
  refine lv_aload_n hx hb dX0_odds_0 rfl (lv_at hl 2 rfl) ?_
  refine lv_iconst (v := (0 : Int32)) hx hb dX0_odds_1 (by decide) ?_
  refine lv_aload_n hx hb dX0_odds_2 rfl (lv_at hl 0 rfl) ?_
  refine lv_iload_n hx hb dX0_odds_3 rfl (lv_at hl 1 rfl) ?_
  obtain ⟨hs, hf⟩ := gCk_b hf
  refine g_cHI hI hf (fun v9 h9 e9 l9 l9' => g_rV X hI l9 l9' ⟨Nat.le_refl _, Nat.le_refl _⟩ (As := [.int x1]) (m_X1_odds X.2.2.2.2.2.2.2.2.2.2.1 e9) ydX1_odds hs rfl rfl q1320 q1321 q1322 q121 q1323 rfl (Nat.le_of_ble_eq_true rfl) (Nat.le_of_ble_eq_true rfl) hl.1 rfl (Nat.le_of_ble_eq_true rfl) dX0_odds_4) (fun r1 h H locs cells slots hf hI => ?_) ?_
  · refine lv_i2l hx hb dX0_odds_7 rfl ?_
    refine g_si2 X hI hf dX0_odds_8 (fun h H locs hf hI => ?_)
    refine lv_goto (tgt := 15) hx hb dX0_odds_9 (by decide) ?_
    refine lv_iconst (v := (0 : Int32)) hx hb dX0_odds_15 (by decide) ?_
    cases gRet_e hf
    exact g_retI X hI rfl dX0_odds_16
  · intro ci9 x9 h H locs cells slots r9 ce9 hf hr9 hI hce hcv hcl
    by_cases k0 : ci9 = 19
    · subst k0
      cases hr9
      have hf := g_t rfl hf
      refine g_catch0 X hI (name := "java/lang/IndexOutOfBoundsException") rfl (by rfl) (by decide) (by decide) q1098 q1144 hce hcv hcl ?_
      refine lv_astore_n (lv' := [(3, .ref x9), (0, .ref a0), (1, .int x1), (2, .ref a2)]) hx hb dX0_odds_12 rfl hl (by decide) rfl (fun ls hl => ?_)
      refine lv_iconst (v := (1 : Int32)) hx hb dX0_odds_13 (by decide) ?_
      cases gRet_e hf
      exact g_retI X hI rfl dX0_odds_14
    have hf := g_f k0 hf
    exact (gFail_f hf).elim
/-! X8_odds -/
abbrev w_X8_odds_27 (G : gG) (l : Launch) (p : Program) (e : Env) (s : State) (m : MethodId) (args : Array Value) (below : List Frame) (meth : Method) (c : Code) (h0 : g_H) (r : Int32) (h' : g_H) (k : Int32 → gM Int32) : Prop := ∀ (u0 : Int32) (h : g_H) (H : Heap) (locs : List Loc) (cells slots : Nat) (ls : Array Slot), (k u0).1 h = some (r, h') → gI G h0 h H locs cells slots → lv_has ls 2 [] → W p l e (g_rm 11 249 h0 h') s m args below meth c H locs cells slots (gQ G below args s h0 h' (.inl (g_wI r))) (F0 m 27 ls [.int u0])
def f_X8_odds_27 (u0 : Int32) : gM Int32 :=
    (gRet u0)
set_option maxHeartbeats 4000000 in
set_option maxRecDepth 100000 in
theorem b_X8_odds_27 {G : gG} {l : Launch} {p : Program} {e : Env} {s : State} {m : MethodId} {args : Array Value} {below : List Frame} {meth : Method} {c : Code} {h0 : g_H} {r : Int32} {h' : g_H} (X : gX G l yX8_odds.cls cX8_odds 2 (some .int) [] yX8_odds.name p s m args meth c) : w_X8_odds_27 G l p e s m args below meth c h0 r h' (f_X8_odds_27) := by
  have hx := X.1
  have hb := X.2.1
  have hown := X.2.2.2.1
  have hts := X.2.2.2.2.1
  intro u0 h H locs cells slots ls hf hI hl
  unfold f_X8_odds_27 at hf
  cases gRet_e hf
  exact g_retI X hI rfl dX8_odds_27
def f_X8_odds (a0 : Nat) (x1 : Int32) : gM Int32 :=
    gB (gPI a0 7 0 (0 : Int32)) fun _ =>
    gB (gCk a0 7) fun _ =>
    gB (f_X8_noOne a0 x1) fun r1 =>
    gB (gCk a0 7) fun _ =>
    gB (f_X8_throwsIf a0 r1 (1 : Int32)) fun r2 =>
    gIf (r2 = 0)
    (gB (gCk a0 7) fun _ =>
    gB (f_X8_oddsOf a0 x1) fun r3 =>
    f_X8_odds_27 r3)
    (f_X8_odds_27 (0 : Int32))
set_option maxHeartbeats 4000000 in
set_option maxRecDepth 100000 in
theorem m_X8_odds {G : gG} {l : Launch} (hfl : l.stackTraces = false) {a0 : Nat} {x1 : Int32} {h h' : g_H} {r : Int32} (hf : (f_X8_odds a0 x1).1 h = some (r, h')) : gMet G l yX8_odds (Cond.code yX8_odds cX8_odds 2 (some .int)) 11 249 [.ref a0, .int x1] h (.inl (g_wI r)) h' := by
  refine g_head hfl ((f_X8_odds a0 x1).2 h r h' hf) (plainFor_of_name (by decide)) (Nat.le_of_ble_eq_true rfl) (fun p e s m below meth c H locs cells slots ls X hI hl9 => ?_)
  have hl : lv_has ls 2 [(0, .ref a0), (1, .int x1)] := hl9
  have hx := X.1
  have hb := X.2.1
  have hown := X.2.2.2.1
  have hts := X.2.2.2.2.1
  unfold f_X8_odds at hf
  refine lv_aload_n hx hb dX8_odds_0 rfl (lv_at hl 0 rfl) ?_
  refine lv_iconst (v := (0 : Int32)) hx hb dX8_odds_1 (by decide) ?_
  refine g_pi X hI hf fX8_0 q1444 rfl dX8_odds_2 (fun h H locs hf hI => ?_)
  refine lv_aload_n hx hb dX8_odds_5 rfl (lv_at hl 0 rfl) ?_
  refine lv_aload_n hx hb dX8_odds_6 rfl (lv_at hl 0 rfl) ?_
  refine lv_iload_n hx hb dX8_odds_7 rfl (lv_at hl 1 rfl) ?_
  obtain ⟨hs, hf⟩ := gCk_b hf
  refine g_cBI hI hf (fun v9 h9 e9 l9 l9' => g_rV X hI l9 l9' ⟨Nat.le_refl _, Nat.le_refl _⟩ (As := [.int x1]) (m_X8_noOne X.2.2.2.2.2.2.2.2.2.2.1 e9) ydX8_noOne hs rfl rfl q1763 q1765 qs74 q131 q1766 rfl (Nat.le_of_ble_eq_true rfl) (Nat.le_of_ble_eq_true rfl) hl.1 rfl (Nat.le_of_ble_eq_true rfl) dX8_odds_8) (fun r1 h H locs cells slots hf hI => ?_)
  refine lv_iconst (v := (1 : Int32)) hx hb dX8_odds_11 (by decide) ?_
  obtain ⟨hs, hf⟩ := gCk_b hf
  refine g_cBI hI hf (fun v9 h9 e9 l9 l9' => g_rV X hI l9 l9' ⟨Nat.le_refl _, Nat.le_refl _⟩ (As := [.int r1, .int (1 : Int32)]) (m_X8_throwsIf X.2.2.2.2.2.2.2.2.2.2.1 e9) ydX8_throwsIf hs rfl rfl q1736 q1738 qs72 q131 q1739 rfl (Nat.le_of_ble_eq_true rfl) (Nat.le_of_ble_eq_true rfl) hl.1 rfl (Nat.le_of_ble_eq_true rfl) dX8_odds_12) (fun r2 h H locs cells slots hf hI => ?_)
  refine lv_if_eq (tgt := 22) hx hb dX8_odds_15 (by decide) (fun c15 => ?_) (fun c15 => ?_)
  · have hf := g_t c15 hf
    refine lv_aload_n hx hb dX8_odds_22 rfl (lv_at hl 0 rfl) ?_
    refine lv_iload_n hx hb dX8_odds_23 rfl (lv_at hl 1 rfl) ?_
    obtain ⟨hs, hf⟩ := gCk_b hf
    refine g_cBI hI hf (fun v9 h9 e9 l9 l9' => g_rV X hI l9 l9' ⟨Nat.le_refl _, Nat.le_refl _⟩ (As := [.int x1]) (m_X8_oddsOf X.2.2.2.2.2.2.2.2.2.2.1 e9) ydX8_oddsOf hs rfl rfl q1958 q1960 qs103 q131 q1961 rfl (Nat.le_of_ble_eq_true rfl) (Nat.le_of_ble_eq_true rfl) hl.1 rfl (Nat.le_of_ble_eq_true rfl) dX8_odds_24) (fun r3 h H locs cells slots hf hI => ?_)
    exact b_X8_odds_27 X _ _ _ _ _ _ _ hf hI (lv_sub hl [] rfl)
  · have hf := g_f c15 hf
    refine lv_iconst (v := (0 : Int32)) hx hb dX8_odds_18 (by decide) ?_
    refine lv_goto (tgt := 27) hx hb dX8_odds_19 (by decide) ?_
    exact b_X8_odds_27 X _ _ _ _ _ _ _ hf hI (lv_sub hl [] rfl)
/-! X1_isSlot -/
def f_X1_isSlot (x0 : Int32) : gM (Unit ⊕ gE) :=
    gB (f_X1_isIn x0 (0 : Int32) (9 : Int32)) fun r1 =>
    gT (f_X1_mustBe r1) fun _ =>
    gRet (.inl ())
set_option maxHeartbeats 4000000 in
set_option maxRecDepth 100000 in
theorem m_X1_isSlot {G : gG} {l : Launch} (hfl : l.stackTraces = false) {x0 : Int32} {h h' : g_H} {r : (Unit ⊕ gE)} (hf : (f_X1_isSlot x0).1 h = some (r, h')) : gMet G l yX1_isSlot (Cond.code yX1_isSlot cX1_isSlot 1 none) 7 109 [.int x0] h (g_w g_wU r) h' := by
  refine g_head hfl ((f_X1_isSlot x0).2 h r h' hf) (plainFor_of_name (by decide)) (Nat.le_of_ble_eq_true rfl) (fun p e s m below meth c H locs cells slots ls X hI hl9 => ?_)
  have hl : lv_has ls 1 [(0, .int x0)] := hl9
  have hx := X.1
  have hb := X.2.1
  have hown := X.2.2.2.1
  have hts := X.2.2.2.2.1
  unfold f_X1_isSlot at hf
  refine lv_iload_n hx hb dX1_isSlot_0 rfl (lv_at hl 0 rfl) ?_
  refine lv_iconst (v := (0 : Int32)) hx hb dX1_isSlot_1 (by decide) ?_
  refine lv_bipush (v := (9 : Int32)) hx hb dX1_isSlot_2 (by decide) ?_
  refine g_cBI hI hf (fun v9 h9 e9 l9 l9' => g_rS (b := 0) X hI l9 l9' ⟨Nat.le_refl _, Nat.le_refl _⟩ (As := [.int x0, .int (0 : Int32), .int (9 : Int32)]) (m_X1_isIn X.2.2.2.2.2.2.2.2.2.2.1 e9) ydX1_isIn q532 q533 q121 q534 rfl (Nat.le_of_ble_eq_true rfl) (Nat.le_of_ble_eq_true rfl) hl.1 rfl (Nat.le_of_ble_eq_true rfl) dX1_isSlot_4) (fun r1 h H locs cells slots hf hI => ?_)
  refine g_cTU X hI (by decide) hf (fun v9 h9 e9 l9 l9' => g_rS (b := 0) X hI l9 l9' ⟨Nat.le_refl _, Nat.le_refl _⟩ (As := [.int r1]) (m_X1_mustBe X.2.2.2.2.2.2.2.2.2.2.1 e9) ydX1_mustBe q1139 q1140 q121 q1141 rfl (Nat.le_of_ble_eq_true rfl) (Nat.le_of_ble_eq_true rfl) hl.1 rfl (Nat.le_of_ble_eq_true rfl) dX1_isSlot_7) (fun r2 h H locs cells slots hf hI => ?_)
  cases gRet_e hf
  exact g_retU X hI rfl dX1_isSlot_10
/-! X1_at -/
def f_X1_at (a0 : Nat) (x1 : Int32) (x2 : Int32) : gM (Int32 ⊕ gE) :=
    gB (gCk a0 0) fun _ =>
    gT (f_X1_oneAt a0 x1) fun r1 =>
    gT (f_X1_isSlot x2) fun _ =>
    gB (gFR a0 0 5) fun v3 =>
    gB (gCk v3 6) fun _ =>
    gB (f_X7_counts v3 r1) fun _ =>
    gB (gFR a0 0 5) fun v5 =>
    gB (gFR v5 6 2) fun v6 =>
    gB (gAI v6 0 x2) fun v7 =>
    (gRet (.inl v7))
set_option maxHeartbeats 4000000 in
set_option maxRecDepth 100000 in
theorem m_X1_at {G : gG} {l : Launch} (hfl : l.stackTraces = false) {a0 : Nat} {x1 : Int32} {x2 : Int32} {h h' : g_H} {r : (Int32 ⊕ gE)} (hf : (f_X1_at a0 x1 x2).1 h = some (r, h')) : gMet G l yX1_at (Cond.code yX1_at cX1_at 4 (some .int)) 103 1918 [.ref a0, .int x1, .int x2] h (g_w g_wI r) h' := by
  refine g_head hfl ((f_X1_at a0 x1 x2).2 h r h' hf) (plainFor_of_name (by decide)) (Nat.le_of_ble_eq_true rfl) (fun p e s m below meth c H locs cells slots ls X hI hl9 => ?_)
  have hl : lv_has ls 4 [(0, .ref a0), (1, .int x1), (2, .int x2)] := hl9
  have hx := X.1
  have hb := X.2.1
  have hown := X.2.2.2.1
  have hts := X.2.2.2.2.1
  unfold f_X1_at at hf
  refine lv_aload_n hx hb dX1_at_0 rfl (lv_at hl 0 rfl) ?_
  refine lv_iload_n hx hb dX1_at_1 rfl (lv_at hl 1 rfl) ?_
  obtain ⟨hs, hf⟩ := gCk_b hf
  refine g_cTR X hI (by decide) hf (fun v9 h9 e9 l9 l9' => g_rV X hI l9 l9' ⟨Nat.le_refl _, Nat.le_refl _⟩ (As := [.int x1]) (m_X1_oneAt X.2.2.2.2.2.2.2.2.2.2.1 e9) ydX1_oneAt hs rfl rfl q1189 q1191 qs37 q121 q1192 rfl (Nat.le_of_ble_eq_true rfl) (Nat.le_of_ble_eq_true rfl) hl.1 rfl (Nat.le_of_ble_eq_true rfl) dX1_at_2) (fun r1 h H locs cells slots hf hI => ?_)
  refine lv_astore_n (lv' := [(3, .ref r1), (0, .ref a0), (1, .int x1), (2, .int x2)]) hx hb dX1_at_5 rfl hl (by decide) rfl (fun ls hl => ?_)
  refine lv_iload_n hx hb dX1_at_6 rfl (lv_at hl 3 rfl) ?_
  refine g_cTU X hI (by decide) hf (fun v9 h9 e9 l9 l9' => g_rS (b := 0) X hI l9 l9' ⟨Nat.le_refl _, Nat.le_refl _⟩ (As := [.int x2]) (m_X1_isSlot X.2.2.2.2.2.2.2.2.2.2.1 e9) ydX1_isSlot q1179 q1180 q121 q1181 rfl (Nat.le_of_ble_eq_true rfl) (Nat.le_of_ble_eq_true rfl) hl.1 rfl (Nat.le_of_ble_eq_true rfl) dX1_at_7) (fun r2 h H locs cells slots hf hI => ?_)
  refine lv_aload_n hx hb dX1_at_10 rfl (lv_at hl 1 rfl) ?_
  refine g_fr X hI hf fX1_5 q466 rfl rfl dX1_at_11 (fun v3 hf => ?_)
  refine lv_aload_n hx hb dX1_at_14 rfl (lv_at hl 0 rfl) ?_
  obtain ⟨hs, hf⟩ := gCk_b hf
  refine g_cBU hI hf (fun v9 h9 e9 l9 l9' => g_rV X hI l9 l9' ⟨Nat.le_refl _, Nat.le_refl _⟩ (As := [.ref r1]) (m_X7_counts X.2.2.2.2.2.2.2.2.2.2.1 e9) ydX7_counts hs rfl rfl q547 q548 q549 q130 q550 rfl (Nat.le_of_ble_eq_true rfl) (Nat.le_of_ble_eq_true rfl) hl.1 rfl (Nat.le_of_ble_eq_true rfl) dX1_at_15) (fun r4 h H locs cells slots hf hI => ?_)
  refine lv_aload_n hx hb dX1_at_18 rfl (lv_at hl 1 rfl) ?_
  refine g_fr X hI hf fX1_5 q466 rfl rfl dX1_at_19 (fun v5 hf => ?_)
  refine g_frN X hI hf fX7_2 q440 rfl rfl dX1_at_22 (fun v6 hf => ?_)
  refine lv_iload_n hx hb dX1_at_25 rfl (lv_at hl 3 rfl) ?_
  refine g_ai0 X hI hf dX1_at_26 (fun v7 hf => ?_)
  cases gRet_e hf
  exact g_retI X hI rfl dX1_at_27
/-! X0_at -/
def f_X0_at (a0 : Nat) (x1 : Int32) (x2 : Int32) (a3 : Nat) : gM Int32 :=
    gB (gCk a0 0) fun _ =>
    gB (f_X1_at a0 x1 x2) fun r9 => match r9 with
    | .inl r1 => (gB (gSI a3 2 (0 : Int32) (r1)) fun _ =>
    (gRet (0 : Int32)))
    | .inr x9 => (gIf (x9.1 = 19)
    ((gRet (1 : Int32)))
    (gFail))
set_option maxHeartbeats 4000000 in
set_option maxRecDepth 100000 in
theorem m_X0_at {G : gG} {l : Launch} (hfl : l.stackTraces = false) {a0 : Nat} {x1 : Int32} {x2 : Int32} {a3 : Nat} {h h' : g_H} {r : Int32} (hf : (f_X0_at a0 x1 x2 a3).1 h = some (r, h')) : gMet G l yX0_at (Cond.codeWith yX0_at cX0_at 5 (some .int) [(0, 10, 13, 24)]) 104 1941 [.ref a0, .int x1, .int x2, .ref a3] h (.inl (g_wI r)) h' := by
  refine g_headW hfl ((f_X0_at a0 x1 x2 a3).2 h r h' hf) (plainFor_of_name (by decide)) (Nat.le_of_ble_eq_true rfl) (fun p e s m below meth c H locs cells slots ls X hI hl9 => ?_)
  have hl : lv_has ls 5 [(0, .ref a0), (1, .int x1), (2, .int x2), (3, .ref a3)] := hl9
  have hx := X.1
  have hb := X.2.1
  have hown := X.2.2.2.1
  have hts := X.2.2.2.2.1
  unfold f_X0_at at hf
  refine lv_aload_n hx hb dX0_at_0 rfl (lv_at hl 3 rfl) ?_
  refine lv_iconst (v := (0 : Int32)) hx hb dX0_at_1 (by decide) ?_
  refine lv_aload_n hx hb dX0_at_2 rfl (lv_at hl 0 rfl) ?_
  refine lv_iload_n hx hb dX0_at_3 rfl (lv_at hl 1 rfl) ?_
  refine lv_iload_n hx hb dX0_at_4 rfl (lv_at hl 2 rfl) ?_
  obtain ⟨hs, hf⟩ := gCk_b hf
  refine g_cHI hI hf (fun v9 h9 e9 l9 l9' => g_rV X hI l9 l9' ⟨Nat.le_refl _, Nat.le_refl _⟩ (As := [.int x1, .int x2]) (m_X1_at X.2.2.2.2.2.2.2.2.2.2.1 e9) ydX1_at hs rfl rfl q1313 q1314 q1315 q121 q1316 rfl (Nat.le_of_ble_eq_true rfl) (Nat.le_of_ble_eq_true rfl) hl.1 rfl (Nat.le_of_ble_eq_true rfl) dX0_at_5) (fun r1 h H locs cells slots hf hI => ?_) ?_
  · refine lv_i2l hx hb dX0_at_8 rfl ?_
    refine g_si2 X hI hf dX0_at_9 (fun h H locs hf hI => ?_)
    refine lv_goto (tgt := 17) hx hb dX0_at_10 (by decide) ?_
    refine lv_iconst (v := (0 : Int32)) hx hb dX0_at_17 (by decide) ?_
    cases gRet_e hf
    exact g_retI X hI rfl dX0_at_18
  · intro ci9 x9 h H locs cells slots r9 ce9 hf hr9 hI hce hcv hcl
    by_cases k0 : ci9 = 19
    · subst k0
      cases hr9
      have hf := g_t rfl hf
      refine g_catch0 X hI (name := "java/lang/IndexOutOfBoundsException") rfl (by rfl) (by decide) (by decide) q1098 q1144 hce hcv hcl ?_
      refine lv_astore (lv' := [(4, .ref x9), (0, .ref a0), (1, .int x1), (2, .int x2), (3, .ref a3)]) hx hb dX0_at_13 hl (by decide) rfl (fun ls hl => ?_)
      refine lv_iconst (v := (1 : Int32)) hx hb dX0_at_15 (by decide) ?_
      cases gRet_e hf
      exact g_retI X hI rfl dX0_at_16
    have hf := g_f k0 hf
    exact (gFail_f hf).elim
/-! X8_at -/
abbrev w_X8_at_26 (G : gG) (l : Launch) (p : Program) (e : Env) (s : State) (m : MethodId) (args : Array Value) (below : List Frame) (meth : Method) (c : Code) (h0 : g_H) (r : Int32) (h' : g_H) (k : Nat → Int32 → Int32 → Nat → Int32 → gM Int32) : Prop := ∀ (a0 : Nat) (x1 : Int32) (x2 : Int32) (b0 : Nat) (u1 : Int32) (h : g_H) (H : Heap) (locs : List Loc) (cells slots : Nat) (ls : Array Slot), (k a0 x1 x2 b0 u1).1 h = some (r, h') → gI G h0 h H locs cells slots → lv_has ls 3 [(0, .ref a0), (1, .int x1), (2, .int x2)] → W p l e (g_rm 9 205 h0 h') s m args below meth c H locs cells slots (gQ G below args s h0 h' (.inl (g_wI r))) (F0 m 26 ls [.int u1, .ref b0])
abbrev w_X8_at_21 (G : gG) (l : Launch) (p : Program) (e : Env) (s : State) (m : MethodId) (args : Array Value) (below : List Frame) (meth : Method) (c : Code) (h0 : g_H) (r : Int32) (h' : g_H) (k : Nat → Int32 → Int32 → Nat → gM Int32) : Prop := ∀ (a0 : Nat) (x1 : Int32) (x2 : Int32) (b0 : Nat) (h : g_H) (H : Heap) (locs : List Loc) (cells slots : Nat) (ls : Array Slot), (k a0 x1 x2 b0).1 h = some (r, h') → gI G h0 h H locs cells slots → lv_has ls 3 [(0, .ref a0), (1, .int x1), (2, .int x2)] → W p l e (g_rm 9 205 h0 h') s m args below meth c H locs cells slots (gQ G below args s h0 h' (.inl (g_wI r))) (F0 m 21 ls [.ref b0])
def f_X8_at_26 (a0 : Nat) (x1 : Int32) (x2 : Int32) (b0 : Nat) (u1 : Int32) : gM Int32 :=
    gB (gCk b0 7) fun _ =>
    gB (f_X8_throwsIf b0 u1 (1 : Int32)) fun r101 =>
    gIf (r101 = 0)
    (gB (gCk a0 7) fun _ =>
    gB (f_X8_laysRows a0 x1) fun _ =>
    gB (gFR a0 7 35) fun v103 =>
    gB (gAI v103 0 x2) fun v104 =>
    (gRet v104))
    ((gRet (0 : Int32)))
set_option maxHeartbeats 4000000 in
set_option maxRecDepth 100000 in
theorem b_X8_at_26 {G : gG} {l : Launch} {p : Program} {e : Env} {s : State} {m : MethodId} {args : Array Value} {below : List Frame} {meth : Method} {c : Code} {h0 : g_H} {r : Int32} {h' : g_H} (X : gX G l yX8_at.cls cX8_at 3 (some .int) [] yX8_at.name p s m args meth c) : w_X8_at_26 G l p e s m args below meth c h0 r h' (f_X8_at_26) := by
  have hx := X.1
  have hb := X.2.1
  have hown := X.2.2.2.1
  have hts := X.2.2.2.2.1
  intro a0 x1 x2 b0 u1 h H locs cells slots ls hf hI hl
  unfold f_X8_at_26 at hf
  refine lv_iconst (v := (1 : Int32)) hx hb dX8_at_26 (by decide) ?_
  obtain ⟨hs, hf⟩ := gCk_b hf
  refine g_cBI hI hf (fun v9 h9 e9 l9 l9' => g_rV X hI l9 l9' ⟨Nat.le_refl _, Nat.le_refl _⟩ (As := [.int u1, .int (1 : Int32)]) (m_X8_throwsIf X.2.2.2.2.2.2.2.2.2.2.1 e9) ydX8_throwsIf hs rfl rfl q1736 q1738 qs72 q131 q1739 rfl (Nat.le_of_ble_eq_true rfl) (Nat.le_of_ble_eq_true rfl) hl.1 rfl (Nat.le_of_ble_eq_true rfl) dX8_at_27) (fun r101 h H locs cells slots hf hI => ?_)
  refine lv_if_eq (tgt := 35) hx hb dX8_at_30 (by decide) (fun c30 => ?_) (fun c30 => ?_)
  · have hf := g_t c30 hf
    refine lv_aload_n hx hb dX8_at_35 rfl (lv_at hl 0 rfl) ?_
    refine lv_iload_n hx hb dX8_at_36 rfl (lv_at hl 1 rfl) ?_
    obtain ⟨hs, hf⟩ := gCk_b hf
    refine g_cBU hI hf (fun v9 h9 e9 l9 l9' => g_rV X hI l9 l9' ⟨Nat.le_refl _, Nat.le_refl _⟩ (As := [.int x1]) (m_X8_laysRows X.2.2.2.2.2.2.2.2.2.2.1 e9) ydX8_laysRows hs rfl rfl q1942 q1944 qs101 q131 q1945 rfl (Nat.le_of_ble_eq_true rfl) (Nat.le_of_ble_eq_true rfl) hl.1 rfl (Nat.le_of_ble_eq_true rfl) dX8_at_37) (fun r102 h H locs cells slots hf hI => ?_)
    refine lv_aload_n hx hb dX8_at_40 rfl (lv_at hl 0 rfl) ?_
    refine g_fr X hI hf fX8_35 q1479 rfl rfl dX8_at_41 (fun v103 hf => ?_)
    refine lv_iload_n hx hb dX8_at_44 rfl (lv_at hl 2 rfl) ?_
    refine g_ai0 X hI hf dX8_at_45 (fun v104 hf => ?_)
    cases gRet_e hf
    exact g_retI X hI rfl dX8_at_46
  · have hf := g_f c30 hf
    refine lv_iconst (v := (0 : Int32)) hx hb dX8_at_33 (by decide) ?_
    cases gRet_e hf
    exact g_retI X hI rfl dX8_at_34
def f_X8_at_21 (a0 : Nat) (x1 : Int32) (x2 : Int32) (b0 : Nat) : gM Int32 :=
    f_X8_at_26 a0 x1 x2 b0 (1 : Int32)
set_option maxHeartbeats 4000000 in
set_option maxRecDepth 100000 in
theorem b_X8_at_21 {G : gG} {l : Launch} {p : Program} {e : Env} {s : State} {m : MethodId} {args : Array Value} {below : List Frame} {meth : Method} {c : Code} {h0 : g_H} {r : Int32} {h' : g_H} (X : gX G l yX8_at.cls cX8_at 3 (some .int) [] yX8_at.name p s m args meth c) : w_X8_at_21 G l p e s m args below meth c h0 r h' (f_X8_at_21) := by
  have hx := X.1
  have hb := X.2.1
  have hown := X.2.2.2.1
  have hts := X.2.2.2.2.1
  intro a0 x1 x2 b0 h H locs cells slots ls hf hI hl
  unfold f_X8_at_21 at hf
  refine lv_iconst (v := (1 : Int32)) hx hb dX8_at_21 (by decide) ?_
  refine lv_goto (tgt := 26) hx hb dX8_at_22 (by decide) ?_
  exact b_X8_at_26 X _ _ _ _ _ _ _ _ _ _ _ hf hI (lv_sub hl [0, 1, 2] rfl)
def f_X8_at (a0 : Nat) (x1 : Int32) (x2 : Int32) : gM Int32 :=
    gB (gPI a0 7 0 (0 : Int32)) fun _ =>
    gB (gCk a0 7) fun _ =>
    gB (f_X8_noOne a0 x1) fun r1 =>
    gIf (r1 = 0)
    (gB (f_X8_noSlot x2) fun r2 =>
    gIf (r2 = 0)
    (f_X8_at_26 a0 x1 x2 a0 (0 : Int32))
    (f_X8_at_21 a0 x1 x2 a0))
    (f_X8_at_21 a0 x1 x2 a0)
set_option maxHeartbeats 4000000 in
set_option maxRecDepth 100000 in
theorem m_X8_at {G : gG} {l : Launch} (hfl : l.stackTraces = false) {a0 : Nat} {x1 : Int32} {x2 : Int32} {h h' : g_H} {r : Int32} (hf : (f_X8_at a0 x1 x2).1 h = some (r, h')) : gMet G l yX8_at (Cond.code yX8_at cX8_at 3 (some .int)) 9 205 [.ref a0, .int x1, .int x2] h (.inl (g_wI r)) h' := by
  refine g_head hfl ((f_X8_at a0 x1 x2).2 h r h' hf) (plainFor_of_name (by decide)) (Nat.le_of_ble_eq_true rfl) (fun p e s m below meth c H locs cells slots ls X hI hl9 => ?_)
  have hl : lv_has ls 3 [(0, .ref a0), (1, .int x1), (2, .int x2)] := hl9
  have hx := X.1
  have hb := X.2.1
  have hown := X.2.2.2.1
  have hts := X.2.2.2.2.1
  unfold f_X8_at at hf
  refine lv_aload_n hx hb dX8_at_0 rfl (lv_at hl 0 rfl) ?_
  refine lv_iconst (v := (0 : Int32)) hx hb dX8_at_1 (by decide) ?_
  refine g_pi X hI hf fX8_0 q1444 rfl dX8_at_2 (fun h H locs hf hI => ?_)
  refine lv_aload_n hx hb dX8_at_5 rfl (lv_at hl 0 rfl) ?_
  refine lv_aload_n hx hb dX8_at_6 rfl (lv_at hl 0 rfl) ?_
  refine lv_iload_n hx hb dX8_at_7 rfl (lv_at hl 1 rfl) ?_
  obtain ⟨hs, hf⟩ := gCk_b hf
  refine g_cBI hI hf (fun v9 h9 e9 l9 l9' => g_rV X hI l9 l9' ⟨Nat.le_refl _, Nat.le_refl _⟩ (As := [.int x1]) (m_X8_noOne X.2.2.2.2.2.2.2.2.2.2.1 e9) ydX8_noOne hs rfl rfl q1763 q1765 qs74 q131 q1766 rfl (Nat.le_of_ble_eq_true rfl) (Nat.le_of_ble_eq_true rfl) hl.1 rfl (Nat.le_of_ble_eq_true rfl) dX8_at_8) (fun r1 h H locs cells slots hf hI => ?_)
  refine lv_if_ne (tgt := 21) hx hb dX8_at_11 (by decide) (fun c11 => ?_) (fun c11 => ?_)
  · have hf := g_f c11 hf
    exact b_X8_at_21 X _ _ _ _ _ _ _ _ _ _ hf hI (lv_sub hl [0, 1, 2] rfl)
  · have hf := g_t c11 hf
    refine lv_iload_n hx hb dX8_at_14 rfl (lv_at hl 2 rfl) ?_
    refine g_cBI hI hf (fun v9 h9 e9 l9 l9' => g_rS (b := 0) X hI l9 l9' ⟨Nat.le_refl _, Nat.le_refl _⟩ (As := [.int x2]) (m_X8_noSlot X.2.2.2.2.2.2.2.2.2.2.1 e9) ydX8_noSlot q1756 q1757 q131 q1758 rfl (Nat.le_of_ble_eq_true rfl) (Nat.le_of_ble_eq_true rfl) hl.1 rfl (Nat.le_of_ble_eq_true rfl) dX8_at_15) (fun r2 h H locs cells slots hf hI => ?_)
    refine lv_if_eq (tgt := 25) hx hb dX8_at_18 (by decide) (fun c18 => ?_) (fun c18 => ?_)
    · have hf := g_t c18 hf
      refine lv_iconst (v := (0 : Int32)) hx hb dX8_at_25 (by decide) ?_
      exact b_X8_at_26 X _ _ _ _ _ _ _ _ _ _ _ hf hI (lv_sub hl [0, 1, 2] rfl)
    · have hf := g_f c18 hf
      exact b_X8_at_21 X _ _ _ _ _ _ _ _ _ _ hf hI (lv_sub hl [0, 1, 2] rfl)
/-! X1_ways -/
def f_X1_ways (a0 : Nat) (x1 : Int32) : gM (Int32 ⊕ gE) :=
    gB (gFR a0 0 5) fun v1 =>
    gB (gCk a0 0) fun _ =>
    gT (f_X1_oneAt a0 x1) fun r2 =>
    gB (gCk v1 6) fun _ =>
    gB (f_X7_counts v1 r2) fun _ =>
    gB (gFR a0 0 5) fun v4 =>
    gB (gFI v4 6 4) fun v5 =>
    (gRet (.inl v5))
set_option maxHeartbeats 4000000 in
set_option maxRecDepth 100000 in
theorem m_X1_ways {G : gG} {l : Launch} (hfl : l.stackTraces = false) {a0 : Nat} {x1 : Int32} {h h' : g_H} {r : (Int32 ⊕ gE)} (hf : (f_X1_ways a0 x1).1 h = some (r, h')) : gMet G l yX1_ways (Cond.code yX1_ways cX1_ways 2 (some .int)) 103 1918 [.ref a0, .int x1] h (g_w g_wI r) h' := by
  refine g_head hfl ((f_X1_ways a0 x1).2 h r h' hf) (plainFor_of_name (by decide)) (Nat.le_of_ble_eq_true rfl) (fun p e s m below meth c H locs cells slots ls X hI hl9 => ?_)
  have hl : lv_has ls 2 [(0, .ref a0), (1, .int x1)] := hl9
  have hx := X.1
  have hb := X.2.1
  have hown := X.2.2.2.1
  have hts := X.2.2.2.2.1
  unfold f_X1_ways at hf
  refine lv_aload_n hx hb dX1_ways_0 rfl (lv_at hl 0 rfl) ?_
  refine g_fr X hI hf fX1_5 q466 rfl rfl dX1_ways_1 (fun v1 hf => ?_)
  refine lv_aload_n hx hb dX1_ways_4 rfl (lv_at hl 0 rfl) ?_
  refine lv_iload_n hx hb dX1_ways_5 rfl (lv_at hl 1 rfl) ?_
  obtain ⟨hs, hf⟩ := gCk_b hf
  refine g_cTR X hI (by decide) hf (fun v9 h9 e9 l9 l9' => g_rV X hI l9 l9' ⟨Nat.le_refl _, Nat.le_refl _⟩ (As := [.int x1]) (m_X1_oneAt X.2.2.2.2.2.2.2.2.2.2.1 e9) ydX1_oneAt hs rfl rfl q1189 q1191 qs37 q121 q1192 rfl (Nat.le_of_ble_eq_true rfl) (Nat.le_of_ble_eq_true rfl) hl.1 rfl (Nat.le_of_ble_eq_true rfl) dX1_ways_6) (fun r2 h H locs cells slots hf hI => ?_)
  obtain ⟨hs, hf⟩ := gCk_b hf
  refine g_cBU hI hf (fun v9 h9 e9 l9 l9' => g_rV X hI l9 l9' ⟨Nat.le_refl _, Nat.le_refl _⟩ (As := [.ref r2]) (m_X7_counts X.2.2.2.2.2.2.2.2.2.2.1 e9) ydX7_counts hs rfl rfl q547 q548 q549 q130 q550 rfl (Nat.le_of_ble_eq_true rfl) (Nat.le_of_ble_eq_true rfl) hl.1 rfl (Nat.le_of_ble_eq_true rfl) dX1_ways_9) (fun r3 h H locs cells slots hf hI => ?_)
  refine lv_aload_n hx hb dX1_ways_12 rfl (lv_at hl 0 rfl) ?_
  refine g_fr X hI hf fX1_5 q466 rfl rfl dX1_ways_13 (fun v4 hf => ?_)
  refine g_fiN X hI hf fX7_4 q443 rfl rfl dX1_ways_16 (fun v5 hf => ?_)
  cases gRet_e hf
  exact g_retI X hI rfl dX1_ways_19
/-! X0_ways -/
def f_X0_ways (a0 : Nat) (x1 : Int32) (a2 : Nat) : gM Int32 :=
    gB (gCk a0 0) fun _ =>
    gB (f_X1_ways a0 x1) fun r9 => match r9 with
    | .inl r1 => (gB (gSI a2 2 (0 : Int32) (r1)) fun _ =>
    (gRet (0 : Int32)))
    | .inr x9 => (gIf (x9.1 = 19)
    ((gRet (1 : Int32)))
    (gFail))
set_option maxHeartbeats 4000000 in
set_option maxRecDepth 100000 in
theorem m_X0_ways {G : gG} {l : Launch} (hfl : l.stackTraces = false) {a0 : Nat} {x1 : Int32} {a2 : Nat} {h h' : g_H} {r : Int32} (hf : (f_X0_ways a0 x1 a2).1 h = some (r, h')) : gMet G l yX0_ways (Cond.codeWith yX0_ways cX0_ways 4 (some .int) [(0, 9, 12, 24)]) 104 1939 [.ref a0, .int x1, .ref a2] h (.inl (g_wI r)) h' := by
  refine g_headW hfl ((f_X0_ways a0 x1 a2).2 h r h' hf) (plainFor_of_name (by decide)) (Nat.le_of_ble_eq_true rfl) (fun p e s m below meth c H locs cells slots ls X hI hl9 => ?_)
  have hl : lv_has ls 4 [(0, .ref a0), (1, .int x1), (2, .ref a2)] := hl9
  have hx := X.1
  have hb := X.2.1
  have hown := X.2.2.2.1
  have hts := X.2.2.2.2.1
  unfold f_X0_ways at hf
  refine lv_aload_n hx hb dX0_ways_0 rfl (lv_at hl 2 rfl) ?_
  refine lv_iconst (v := (0 : Int32)) hx hb dX0_ways_1 (by decide) ?_
  refine lv_aload_n hx hb dX0_ways_2 rfl (lv_at hl 0 rfl) ?_
  refine lv_iload_n hx hb dX0_ways_3 rfl (lv_at hl 1 rfl) ?_
  obtain ⟨hs, hf⟩ := gCk_b hf
  refine g_cHI hI hf (fun v9 h9 e9 l9 l9' => g_rV X hI l9 l9' ⟨Nat.le_refl _, Nat.le_refl _⟩ (As := [.int x1]) (m_X1_ways X.2.2.2.2.2.2.2.2.2.2.1 e9) ydX1_ways hs rfl rfl q1306 q1307 q1308 q121 q1309 rfl (Nat.le_of_ble_eq_true rfl) (Nat.le_of_ble_eq_true rfl) hl.1 rfl (Nat.le_of_ble_eq_true rfl) dX0_ways_4) (fun r1 h H locs cells slots hf hI => ?_) ?_
  · refine lv_i2l hx hb dX0_ways_7 rfl ?_
    refine g_si2 X hI hf dX0_ways_8 (fun h H locs hf hI => ?_)
    refine lv_goto (tgt := 15) hx hb dX0_ways_9 (by decide) ?_
    refine lv_iconst (v := (0 : Int32)) hx hb dX0_ways_15 (by decide) ?_
    cases gRet_e hf
    exact g_retI X hI rfl dX0_ways_16
  · intro ci9 x9 h H locs cells slots r9 ce9 hf hr9 hI hce hcv hcl
    by_cases k0 : ci9 = 19
    · subst k0
      cases hr9
      have hf := g_t rfl hf
      refine g_catch0 X hI (name := "java/lang/IndexOutOfBoundsException") rfl (by rfl) (by decide) (by decide) q1098 q1144 hce hcv hcl ?_
      refine lv_astore_n (lv' := [(3, .ref x9), (0, .ref a0), (1, .int x1), (2, .ref a2)]) hx hb dX0_ways_12 rfl hl (by decide) rfl (fun ls hl => ?_)
      refine lv_iconst (v := (1 : Int32)) hx hb dX0_ways_13 (by decide) ?_
      cases gRet_e hf
      exact g_retI X hI rfl dX0_ways_14
    have hf := g_f k0 hf
    exact (gFail_f hf).elim
/-! X8_ways -/
abbrev w_X8_ways_27 (G : gG) (l : Launch) (p : Program) (e : Env) (s : State) (m : MethodId) (args : Array Value) (below : List Frame) (meth : Method) (c : Code) (h0 : g_H) (r : Int32) (h' : g_H) (k : Int32 → gM Int32) : Prop := ∀ (u0 : Int32) (h : g_H) (H : Heap) (locs : List Loc) (cells slots : Nat) (ls : Array Slot), (k u0).1 h = some (r, h') → gI G h0 h H locs cells slots → lv_has ls 2 [] → W p l e (g_rm 10 228 h0 h') s m args below meth c H locs cells slots (gQ G below args s h0 h' (.inl (g_wI r))) (F0 m 27 ls [.int u0])
def f_X8_ways_27 (u0 : Int32) : gM Int32 :=
    (gRet u0)
set_option maxHeartbeats 4000000 in
set_option maxRecDepth 100000 in
theorem b_X8_ways_27 {G : gG} {l : Launch} {p : Program} {e : Env} {s : State} {m : MethodId} {args : Array Value} {below : List Frame} {meth : Method} {c : Code} {h0 : g_H} {r : Int32} {h' : g_H} (X : gX G l yX8_ways.cls cX8_ways 2 (some .int) [] yX8_ways.name p s m args meth c) : w_X8_ways_27 G l p e s m args below meth c h0 r h' (f_X8_ways_27) := by
  have hx := X.1
  have hb := X.2.1
  have hown := X.2.2.2.1
  have hts := X.2.2.2.2.1
  intro u0 h H locs cells slots ls hf hI hl
  unfold f_X8_ways_27 at hf
  cases gRet_e hf
  exact g_retI X hI rfl dX8_ways_27
def f_X8_ways (a0 : Nat) (x1 : Int32) : gM Int32 :=
    gB (gPI a0 7 0 (0 : Int32)) fun _ =>
    gB (gCk a0 7) fun _ =>
    gB (f_X8_noOne a0 x1) fun r1 =>
    gB (gCk a0 7) fun _ =>
    gB (f_X8_throwsIf a0 r1 (1 : Int32)) fun r2 =>
    gIf (r2 = 0)
    (gB (gCk a0 7) fun _ =>
    gB (f_X8_waysOf a0 x1) fun r3 =>
    f_X8_ways_27 r3)
    (f_X8_ways_27 (0 : Int32))
set_option maxHeartbeats 4000000 in
set_option maxRecDepth 100000 in
theorem m_X8_ways {G : gG} {l : Launch} (hfl : l.stackTraces = false) {a0 : Nat} {x1 : Int32} {h h' : g_H} {r : Int32} (hf : (f_X8_ways a0 x1).1 h = some (r, h')) : gMet G l yX8_ways (Cond.code yX8_ways cX8_ways 2 (some .int)) 10 228 [.ref a0, .int x1] h (.inl (g_wI r)) h' := by
  refine g_head hfl ((f_X8_ways a0 x1).2 h r h' hf) (plainFor_of_name (by decide)) (Nat.le_of_ble_eq_true rfl) (fun p e s m below meth c H locs cells slots ls X hI hl9 => ?_)
  have hl : lv_has ls 2 [(0, .ref a0), (1, .int x1)] := hl9
  have hx := X.1
  have hb := X.2.1
  have hown := X.2.2.2.1
  have hts := X.2.2.2.2.1
  unfold f_X8_ways at hf
  refine lv_aload_n hx hb dX8_ways_0 rfl (lv_at hl 0 rfl) ?_
  refine lv_iconst (v := (0 : Int32)) hx hb dX8_ways_1 (by decide) ?_
  refine g_pi X hI hf fX8_0 q1444 rfl dX8_ways_2 (fun h H locs hf hI => ?_)
  refine lv_aload_n hx hb dX8_ways_5 rfl (lv_at hl 0 rfl) ?_
  refine lv_aload_n hx hb dX8_ways_6 rfl (lv_at hl 0 rfl) ?_
  refine lv_iload_n hx hb dX8_ways_7 rfl (lv_at hl 1 rfl) ?_
  obtain ⟨hs, hf⟩ := gCk_b hf
  refine g_cBI hI hf (fun v9 h9 e9 l9 l9' => g_rV X hI l9 l9' ⟨Nat.le_refl _, Nat.le_refl _⟩ (As := [.int x1]) (m_X8_noOne X.2.2.2.2.2.2.2.2.2.2.1 e9) ydX8_noOne hs rfl rfl q1763 q1765 qs74 q131 q1766 rfl (Nat.le_of_ble_eq_true rfl) (Nat.le_of_ble_eq_true rfl) hl.1 rfl (Nat.le_of_ble_eq_true rfl) dX8_ways_8) (fun r1 h H locs cells slots hf hI => ?_)
  refine lv_iconst (v := (1 : Int32)) hx hb dX8_ways_11 (by decide) ?_
  obtain ⟨hs, hf⟩ := gCk_b hf
  refine g_cBI hI hf (fun v9 h9 e9 l9 l9' => g_rV X hI l9 l9' ⟨Nat.le_refl _, Nat.le_refl _⟩ (As := [.int r1, .int (1 : Int32)]) (m_X8_throwsIf X.2.2.2.2.2.2.2.2.2.2.1 e9) ydX8_throwsIf hs rfl rfl q1736 q1738 qs72 q131 q1739 rfl (Nat.le_of_ble_eq_true rfl) (Nat.le_of_ble_eq_true rfl) hl.1 rfl (Nat.le_of_ble_eq_true rfl) dX8_ways_12) (fun r2 h H locs cells slots hf hI => ?_)
  refine lv_if_eq (tgt := 22) hx hb dX8_ways_15 (by decide) (fun c15 => ?_) (fun c15 => ?_)
  · have hf := g_t c15 hf
    refine lv_aload_n hx hb dX8_ways_22 rfl (lv_at hl 0 rfl) ?_
    refine lv_iload_n hx hb dX8_ways_23 rfl (lv_at hl 1 rfl) ?_
    obtain ⟨hs, hf⟩ := gCk_b hf
    refine g_cBI hI hf (fun v9 h9 e9 l9 l9' => g_rV X hI l9 l9' ⟨Nat.le_refl _, Nat.le_refl _⟩ (As := [.int x1]) (m_X8_waysOf X.2.2.2.2.2.2.2.2.2.2.1 e9) ydX8_waysOf hs rfl rfl q1938 q1940 qs100 q131 q1941 rfl (Nat.le_of_ble_eq_true rfl) (Nat.le_of_ble_eq_true rfl) hl.1 rfl (Nat.le_of_ble_eq_true rfl) dX8_ways_24) (fun r3 h H locs cells slots hf hI => ?_)
    exact b_X8_ways_27 X _ _ _ _ _ _ _ hf hI (lv_sub hl [] rfl)
  · have hf := g_f c15 hf
    refine lv_iconst (v := (0 : Int32)) hx hb dX8_ways_18 (by decide) ?_
    refine lv_goto (tgt := 27) hx hb dX8_ways_19 (by decide) ?_
    exact b_X8_ways_27 X _ _ _ _ _ _ _ hf hI (lv_sub hl [] rfl)
/-! X1_tense -/
abbrev w_X1_tense_31 (G : gG) (l : Launch) (p : Program) (e : Env) (s : State) (m : MethodId) (args : Array Value) (below : List Frame) (meth : Method) (c : Code) (h0 : g_H) (r : (Int32 ⊕ gE)) (h' : g_H) (k : gM (Int32 ⊕ gE)) : Prop := ∀ (h : g_H) (H : Heap) (locs : List Loc) (cells slots : Nat) (ls : Array Slot), (k).1 h = some (r, h') → gI G h0 h H locs cells slots → lv_has ls 6 [] → W p l e (g_rm 101 1866 h0 h') s m args below meth c H locs cells slots (gQ G below args s h0 h' (g_w g_wI r)) (F0 m 31 ls [])
abbrev w_X1_tense_54 (G : gG) (l : Launch) (p : Program) (e : Env) (s : State) (m : MethodId) (args : Array Value) (below : List Frame) (meth : Method) (c : Code) (h0 : g_H) (r : (Int32 ⊕ gE)) (h' : g_H) (k : Int32 → gM (Int32 ⊕ gE)) : Prop := ∀ (x4 : Int32) (h : g_H) (H : Heap) (locs : List Loc) (cells slots : Nat) (ls : Array Slot), (k x4).1 h = some (r, h') → gI G h0 h H locs cells slots → lv_has ls 6 [(4, .int x4)] → W p l e (g_rm 101 1866 h0 h') s m args below meth c H locs cells slots (gQ G below args s h0 h' (g_w g_wI r)) (F0 m 54 ls [])
abbrev w_X1_tense_16 (G : gG) (l : Launch) (p : Program) (e : Env) (s : State) (m : MethodId) (args : Array Value) (below : List Frame) (meth : Method) (c : Code) (h0 : g_H) (r : (Int32 ⊕ gE)) (h' : g_H) (k : Nat → Int32 → Nat → Int32 → Int32 → gM (Int32 ⊕ gE)) : Prop := ∀ (a0 : Nat) (x2 : Int32) (a3 : Nat) (x4 : Int32) (x5 : Int32) (h : g_H) (H : Heap) (locs : List Loc) (cells slots : Nat) (ls : Array Slot), (k a0 x2 a3 x4 x5).1 h = some (r, h') → gI G h0 h H locs cells slots → lv_has ls 6 [(0, .ref a0), (2, .int x2), (3, .ref a3), (4, .int x4), (5, .int x5)] → W p l e (g_rm 101 1866 h0 h') s m args below meth c H locs cells slots (gQ G below args s h0 h' (g_w g_wI r)) (F0 m 16 ls [])
def f_X1_tense_31 : gM (Int32 ⊕ gE) :=
    (gRet (.inl (-1 : Int32)))
set_option maxHeartbeats 4000000 in
set_option maxRecDepth 100000 in
theorem b_X1_tense_31 {G : gG} {l : Launch} {p : Program} {e : Env} {s : State} {m : MethodId} {args : Array Value} {below : List Frame} {meth : Method} {c : Code} {h0 : g_H} {r : (Int32 ⊕ gE)} {h' : g_H} (X : gX G l yX1_tense.cls cX1_tense 6 (some .int) [] yX1_tense.name p s m args meth c) : w_X1_tense_31 G l p e s m args below meth c h0 r h' (f_X1_tense_31) := by
  have hx := X.1
  have hb := X.2.1
  have hown := X.2.2.2.1
  have hts := X.2.2.2.2.1
  intro h H locs cells slots ls hf hI hl
  unfold f_X1_tense_31 at hf
  refine lv_iconst (v := (-1 : Int32)) hx hb dX1_tense_31 (by decide) ?_
  cases gRet_e hf
  exact g_retI X hI rfl dX1_tense_32
def f_X1_tense_54 (x4 : Int32) : gM (Int32 ⊕ gE) :=
    (gRet (.inl x4))
set_option maxHeartbeats 4000000 in
set_option maxRecDepth 100000 in
theorem b_X1_tense_54 {G : gG} {l : Launch} {p : Program} {e : Env} {s : State} {m : MethodId} {args : Array Value} {below : List Frame} {meth : Method} {c : Code} {h0 : g_H} {r : (Int32 ⊕ gE)} {h' : g_H} (X : gX G l yX1_tense.cls cX1_tense 6 (some .int) [] yX1_tense.name p s m args meth c) : w_X1_tense_54 G l p e s m args below meth c h0 r h' (f_X1_tense_54) := by
  have hx := X.1
  have hb := X.2.1
  have hown := X.2.2.2.1
  have hts := X.2.2.2.2.1
  intro x4 h H locs cells slots ls hf hI hl
  unfold f_X1_tense_54 at hf
  refine lv_iload hx hb dX1_tense_54 (lv_at hl 0 rfl) ?_
  cases gRet_e hf
  exact g_retI X hI rfl dX1_tense_56
def f_X1_tense_16 : Nat → Nat → Int32 → Nat → Int32 → Int32 → gM (Int32 ⊕ gE)
  | 0, _, _, _, _, _ => gFail
  | n + 1, a0, x2, a3, x4, x5 =>
    gIf (x2 < x5)
    (f_X1_tense_54 x4)
    (gB (gFI a3 4 1) fun v101 =>
    gIf (x4 ≤ v101)
    (gB (gFR a0 0 1) fun v102 =>
    gB (gCk v102 2) fun _ =>
    gB (f_X3_behind v102 a3 x5 x4 (1 : Int32)) fun r103 =>
    f_X1_tense_16 n a0 x2 a3 r103 (x5 + (1 : Int32)))
    (f_X1_tense_31))
set_option maxHeartbeats 4000000 in
set_option maxRecDepth 100000 in
theorem b_X1_tense_16 {G : gG} {l : Launch} {p : Program} {e : Env} {s : State} {m : MethodId} {args : Array Value} {below : List Frame} {meth : Method} {c : Code} {h0 : g_H} {r : (Int32 ⊕ gE)} {h' : g_H} (X : gX G l yX1_tense.cls cX1_tense 6 (some .int) [] yX1_tense.name p s m args meth c) : ∀ n : Nat, w_X1_tense_16 G l p e s m args below meth c h0 r h' (f_X1_tense_16 n) := by
  have hx := X.1
  have hb := X.2.1
  have hown := X.2.2.2.1
  have hts := X.2.2.2.2.1
  intro n
  induction n with
  | zero =>
    intro a0 x2 a3 x4 x5 h H locs cells slots ls hf hI hl
    exact (gFail_f hf).elim
  | succ n ih =>
    intro a0 x2 a3 x4 x5 h H locs cells slots ls hf hI hl
    rw [f_X1_tense_16] at hf
    refine lv_iload hx hb dX1_tense_16 (lv_at hl 4 rfl) ?_
    refine lv_iload_n hx hb dX1_tense_18 rfl (lv_at hl 1 rfl) ?_
    refine lv_icmp_gt (tgt := 54) hx hb dX1_tense_19 (by decide) (fun c19 => ?_) (fun c19 => ?_)
    · have hf := g_t c19 hf
      exact b_X1_tense_54 X _ _ _ _ _ _ _ hf hI (lv_sub hl [3] rfl)
    · have hf := g_f c19 hf
      refine lv_iload hx hb dX1_tense_22 (lv_at hl 3 rfl) ?_
      refine lv_aload_n hx hb dX1_tense_24 rfl (lv_at hl 2 rfl) ?_
      refine g_fiN X hI hf fX5_1 q235 rfl rfl dX1_tense_25 (fun v101 hf => ?_)
      refine lv_icmp_le (tgt := 33) hx hb dX1_tense_28 (by decide) (fun c28 => ?_) (fun c28 => ?_)
      · have hf := g_t c28 hf
        refine lv_aload_n hx hb dX1_tense_33 rfl (lv_at hl 0 rfl) ?_
        refine g_fr X hI hf fX1_1 q461 rfl rfl dX1_tense_34 (fun v102 hf => ?_)
        refine lv_aload_n hx hb dX1_tense_37 rfl (lv_at hl 2 rfl) ?_
        refine lv_iload hx hb dX1_tense_38 (lv_at hl 4 rfl) ?_
        refine lv_iload hx hb dX1_tense_40 (lv_at hl 3 rfl) ?_
        refine lv_iconst (v := (1 : Int32)) hx hb dX1_tense_42 (by decide) ?_
        obtain ⟨hs, hf⟩ := gCk_b hf
        refine g_cBI hI hf (fun v9 h9 e9 l9 l9' => g_rV X hI l9 l9' ⟨Nat.le_refl _, Nat.le_refl _⟩ (As := [.ref a3, .int x5, .int x4, .int (1 : Int32)]) (m_X3_behind X.2.2.2.2.2.2.2.2.2.2.1 e9) ydX3_behind hs rfl rfl q717 q560 q561 q123 q562 rfl (Nat.le_of_ble_eq_true rfl) (Nat.le_of_ble_eq_true rfl) hl.1 rfl (Nat.le_of_ble_eq_true rfl) dX1_tense_43) (fun r103 h H locs cells slots hf hI => ?_)
        refine lv_istore (lv' := [(4, .int r103), (0, .ref a0), (2, .int x2), (3, .ref a3), (5, .int x5)]) hx hb dX1_tense_46 hl (by decide) rfl (fun ls hl => ?_)
        refine lv_iinc (v := (x5 + (1 : Int32))) (lv' := [(5, .int (x5 + (1 : Int32))), (4, .int r103), (0, .ref a0), (2, .int x2), (3, .ref a3)]) hx hb dX1_tense_48 hl (k := 4) rfl rfl (by decide) rfl (fun ls hl => ?_)
        refine lv_goto (tgt := 16) hx hb dX1_tense_51 (by decide) ?_
        exact ih _ _ _ _ _ _ _ _ _ _ _ hf hI (lv_sub hl [2, 3, 4, 1, 0] rfl)
      · have hf := g_f c28 hf
        exact b_X1_tense_31 X _ _ _ _ _ _ hf hI (lv_sub hl [] rfl)
def f_X1_tense (a0 : Nat) (x1 : Int32) (x2 : Int32) : gM (Int32 ⊕ gE) :=
    gB (gCk a0 0) fun _ =>
    gT (f_X1_oneAt a0 x1) fun r1 =>
    gT (f_X1_isSlot x2) fun _ =>
    f_X1_tense_16 gN a0 x2 r1 (0 : Int32) (0 : Int32)
set_option maxHeartbeats 4000000 in
set_option maxRecDepth 100000 in
theorem m_X1_tense {G : gG} {l : Launch} (hfl : l.stackTraces = false) {a0 : Nat} {x1 : Int32} {x2 : Int32} {h h' : g_H} {r : (Int32 ⊕ gE)} (hf : (f_X1_tense a0 x1 x2).1 h = some (r, h')) : gMet G l yX1_tense (Cond.code yX1_tense cX1_tense 6 (some .int)) 101 1866 [.ref a0, .int x1, .int x2] h (g_w g_wI r) h' := by
  refine g_head hfl ((f_X1_tense a0 x1 x2).2 h r h' hf) (plainFor_of_name (by decide)) (Nat.le_of_ble_eq_true rfl) (fun p e s m below meth c H locs cells slots ls X hI hl9 => ?_)
  have hl : lv_has ls 6 [(0, .ref a0), (1, .int x1), (2, .int x2)] := hl9
  have hx := X.1
  have hb := X.2.1
  have hown := X.2.2.2.1
  have hts := X.2.2.2.2.1
  unfold f_X1_tense at hf
  refine lv_aload_n hx hb dX1_tense_0 rfl (lv_at hl 0 rfl) ?_
  refine lv_iload_n hx hb dX1_tense_1 rfl (lv_at hl 1 rfl) ?_
  obtain ⟨hs, hf⟩ := gCk_b hf
  refine g_cTR X hI (by decide) hf (fun v9 h9 e9 l9 l9' => g_rV X hI l9 l9' ⟨Nat.le_refl _, Nat.le_refl _⟩ (As := [.int x1]) (m_X1_oneAt X.2.2.2.2.2.2.2.2.2.2.1 e9) ydX1_oneAt hs rfl rfl q1189 q1191 qs37 q121 q1192 rfl (Nat.le_of_ble_eq_true rfl) (Nat.le_of_ble_eq_true rfl) hl.1 rfl (Nat.le_of_ble_eq_true rfl) dX1_tense_2) (fun r1 h H locs cells slots hf hI => ?_)
  refine lv_astore_n (lv' := [(3, .ref r1), (0, .ref a0), (1, .int x1), (2, .int x2)]) hx hb dX1_tense_5 rfl hl (by decide) rfl (fun ls hl => ?_)
  refine lv_iload_n hx hb dX1_tense_6 rfl (lv_at hl 3 rfl) ?_
  refine g_cTU X hI (by decide) hf (fun v9 h9 e9 l9 l9' => g_rS (b := 0) X hI l9 l9' ⟨Nat.le_refl _, Nat.le_refl _⟩ (As := [.int x2]) (m_X1_isSlot X.2.2.2.2.2.2.2.2.2.2.1 e9) ydX1_isSlot q1179 q1180 q121 q1181 rfl (Nat.le_of_ble_eq_true rfl) (Nat.le_of_ble_eq_true rfl) hl.1 rfl (Nat.le_of_ble_eq_true rfl) dX1_tense_7) (fun r2 h H locs cells slots hf hI => ?_)
  refine lv_iconst (v := (0 : Int32)) hx hb dX1_tense_10 (by decide) ?_
  refine lv_istore (lv' := [(4, .int (0 : Int32)), (3, .ref r1), (0, .ref a0), (1, .int x1), (2, .int x2)]) hx hb dX1_tense_11 hl (by decide) rfl (fun ls hl => ?_)
  refine lv_iconst (v := (0 : Int32)) hx hb dX1_tense_13 (by decide) ?_
  refine lv_istore (lv' := [(5, .int (0 : Int32)), (4, .int (0 : Int32)), (3, .ref r1), (0, .ref a0), (1, .int x1), (2, .int x2)]) hx hb dX1_tense_14 hl (by decide) rfl (fun ls hl => ?_)
  exact b_X1_tense_16 X gN _ _ _ _ _ _ _ _ _ _ _ hf hI (lv_sub hl [3, 5, 2, 1, 0] rfl)
/-! X0_tense -/
def f_X0_tense (a0 : Nat) (x1 : Int32) (x2 : Int32) (a3 : Nat) : gM Int32 :=
    gB (gCk a0 0) fun _ =>
    gB (f_X1_tense a0 x1 x2) fun r9 => match r9 with
    | .inl r1 => (gB (gSI a3 2 (0 : Int32) (r1)) fun _ =>
    (gRet (0 : Int32)))
    | .inr x9 => (gIf (x9.1 = 19)
    ((gRet (1 : Int32)))
    (gFail))
set_option maxHeartbeats 4000000 in
set_option maxRecDepth 100000 in
theorem m_X0_tense {G : gG} {l : Launch} (hfl : l.stackTraces = false) {a0 : Nat} {x1 : Int32} {x2 : Int32} {a3 : Nat} {h h' : g_H} {r : Int32} (hf : (f_X0_tense a0 x1 x2 a3).1 h = some (r, h')) : gMet G l yX0_tense (Cond.codeWith yX0_tense cX0_tense 5 (some .int) [(0, 10, 13, 24)]) 102 1891 [.ref a0, .int x1, .int x2, .ref a3] h (.inl (g_wI r)) h' := by
  refine g_headW hfl ((f_X0_tense a0 x1 x2 a3).2 h r h' hf) (plainFor_of_name (by decide)) (Nat.le_of_ble_eq_true rfl) (fun p e s m below meth c H locs cells slots ls X hI hl9 => ?_)
  have hl : lv_has ls 5 [(0, .ref a0), (1, .int x1), (2, .int x2), (3, .ref a3)] := hl9
  have hx := X.1
  have hb := X.2.1
  have hown := X.2.2.2.1
  have hts := X.2.2.2.2.1
  unfold f_X0_tense at hf
  refine lv_aload_n hx hb dX0_tense_0 rfl (lv_at hl 3 rfl) ?_
  refine lv_iconst (v := (0 : Int32)) hx hb dX0_tense_1 (by decide) ?_
  refine lv_aload_n hx hb dX0_tense_2 rfl (lv_at hl 0 rfl) ?_
  refine lv_iload_n hx hb dX0_tense_3 rfl (lv_at hl 1 rfl) ?_
  refine lv_iload_n hx hb dX0_tense_4 rfl (lv_at hl 2 rfl) ?_
  obtain ⟨hs, hf⟩ := gCk_b hf
  refine g_cHI hI hf (fun v9 h9 e9 l9 l9' => g_rV X hI l9 l9' ⟨Nat.le_refl _, Nat.le_refl _⟩ (As := [.int x1, .int x2]) (m_X1_tense X.2.2.2.2.2.2.2.2.2.2.1 e9) ydX1_tense hs rfl rfl q1299 q1300 q1301 q121 q1302 rfl (Nat.le_of_ble_eq_true rfl) (Nat.le_of_ble_eq_true rfl) hl.1 rfl (Nat.le_of_ble_eq_true rfl) dX0_tense_5) (fun r1 h H locs cells slots hf hI => ?_) ?_
  · refine lv_i2l hx hb dX0_tense_8 rfl ?_
    refine g_si2 X hI hf dX0_tense_9 (fun h H locs hf hI => ?_)
    refine lv_goto (tgt := 17) hx hb dX0_tense_10 (by decide) ?_
    refine lv_iconst (v := (0 : Int32)) hx hb dX0_tense_17 (by decide) ?_
    cases gRet_e hf
    exact g_retI X hI rfl dX0_tense_18
  · intro ci9 x9 h H locs cells slots r9 ce9 hf hr9 hI hce hcv hcl
    by_cases k0 : ci9 = 19
    · subst k0
      cases hr9
      have hf := g_t rfl hf
      refine g_catch0 X hI (name := "java/lang/IndexOutOfBoundsException") rfl (by rfl) (by decide) (by decide) q1098 q1144 hce hcv hcl ?_
      refine lv_astore (lv' := [(4, .ref x9), (0, .ref a0), (1, .int x1), (2, .int x2), (3, .ref a3)]) hx hb dX0_tense_13 hl (by decide) rfl (fun ls hl => ?_)
      refine lv_iconst (v := (1 : Int32)) hx hb dX0_tense_15 (by decide) ?_
      cases gRet_e hf
      exact g_retI X hI rfl dX0_tense_16
    have hf := g_f k0 hf
    exact (gFail_f hf).elim
/-! X8_tense -/
abbrev w_X8_tense_26 (G : gG) (l : Launch) (p : Program) (e : Env) (s : State) (m : MethodId) (args : Array Value) (below : List Frame) (meth : Method) (c : Code) (h0 : g_H) (r : Int32) (h' : g_H) (k : Nat → Int32 → Int32 → Nat → Int32 → gM Int32) : Prop := ∀ (a0 : Nat) (x1 : Int32) (x2 : Int32) (b0 : Nat) (u1 : Int32) (h : g_H) (H : Heap) (locs : List Loc) (cells slots : Nat) (ls : Array Slot), (k a0 x1 x2 b0 u1).1 h = some (r, h') → gI G h0 h H locs cells slots → lv_has ls 3 [(0, .ref a0), (1, .int x1), (2, .int x2)] → W p l e (g_rm 11 249 h0 h') s m args below meth c H locs cells slots (gQ G below args s h0 h' (.inl (g_wI r))) (F0 m 26 ls [.int u1, .ref b0])
abbrev w_X8_tense_21 (G : gG) (l : Launch) (p : Program) (e : Env) (s : State) (m : MethodId) (args : Array Value) (below : List Frame) (meth : Method) (c : Code) (h0 : g_H) (r : Int32) (h' : g_H) (k : Nat → Int32 → Int32 → Nat → gM Int32) : Prop := ∀ (a0 : Nat) (x1 : Int32) (x2 : Int32) (b0 : Nat) (h : g_H) (H : Heap) (locs : List Loc) (cells slots : Nat) (ls : Array Slot), (k a0 x1 x2 b0).1 h = some (r, h') → gI G h0 h H locs cells slots → lv_has ls 3 [(0, .ref a0), (1, .int x1), (2, .int x2)] → W p l e (g_rm 11 249 h0 h') s m args below meth c H locs cells slots (gQ G below args s h0 h' (.inl (g_wI r))) (F0 m 21 ls [.ref b0])
def f_X8_tense_26 (a0 : Nat) (x1 : Int32) (x2 : Int32) (b0 : Nat) (u1 : Int32) : gM Int32 :=
    gB (gCk b0 7) fun _ =>
    gB (f_X8_throwsIf b0 u1 (1 : Int32)) fun r101 =>
    gIf (r101 = 0)
    (gB (gCk a0 7) fun _ =>
    gB (f_X8_ridesStraight a0 x1) fun r102 =>
    gB (gFR a0 7 25) fun v103 =>
    gB (gAI v103 0 x2) fun v104 =>
    (gRet v104))
    ((gRet (0 : Int32)))
set_option maxHeartbeats 4000000 in
set_option maxRecDepth 100000 in
theorem b_X8_tense_26 {G : gG} {l : Launch} {p : Program} {e : Env} {s : State} {m : MethodId} {args : Array Value} {below : List Frame} {meth : Method} {c : Code} {h0 : g_H} {r : Int32} {h' : g_H} (X : gX G l yX8_tense.cls cX8_tense 3 (some .int) [] yX8_tense.name p s m args meth c) : w_X8_tense_26 G l p e s m args below meth c h0 r h' (f_X8_tense_26) := by
  have hx := X.1
  have hb := X.2.1
  have hown := X.2.2.2.1
  have hts := X.2.2.2.2.1
  intro a0 x1 x2 b0 u1 h H locs cells slots ls hf hI hl
  unfold f_X8_tense_26 at hf
  refine lv_iconst (v := (1 : Int32)) hx hb dX8_tense_26 (by decide) ?_
  obtain ⟨hs, hf⟩ := gCk_b hf
  refine g_cBI hI hf (fun v9 h9 e9 l9 l9' => g_rV X hI l9 l9' ⟨Nat.le_refl _, Nat.le_refl _⟩ (As := [.int u1, .int (1 : Int32)]) (m_X8_throwsIf X.2.2.2.2.2.2.2.2.2.2.1 e9) ydX8_throwsIf hs rfl rfl q1736 q1738 qs72 q131 q1739 rfl (Nat.le_of_ble_eq_true rfl) (Nat.le_of_ble_eq_true rfl) hl.1 rfl (Nat.le_of_ble_eq_true rfl) dX8_tense_27) (fun r101 h H locs cells slots hf hI => ?_)
  refine lv_if_eq (tgt := 35) hx hb dX8_tense_30 (by decide) (fun c30 => ?_) (fun c30 => ?_)
  · have hf := g_t c30 hf
    refine lv_aload_n hx hb dX8_tense_35 rfl (lv_at hl 0 rfl) ?_
    refine lv_iload_n hx hb dX8_tense_36 rfl (lv_at hl 1 rfl) ?_
    obtain ⟨hs, hf⟩ := gCk_b hf
    refine g_cBI hI hf (fun v9 h9 e9 l9 l9' => g_rV X hI l9 l9' ⟨Nat.le_refl _, Nat.le_refl _⟩ (As := [.int x1]) (m_X8_ridesStraight X.2.2.2.2.2.2.2.2.2.2.1 e9) ydX8_ridesStraight hs rfl rfl q1886 q1888 qs94 q131 q1889 rfl (Nat.le_of_ble_eq_true rfl) (Nat.le_of_ble_eq_true rfl) hl.1 rfl (Nat.le_of_ble_eq_true rfl) dX8_tense_37) (fun r102 h H locs cells slots hf hI => ?_)
    refine lv_pop hx hb dX8_tense_40 rfl ?_
    refine lv_aload_n hx hb dX8_tense_41 rfl (lv_at hl 0 rfl) ?_
    refine g_fr X hI hf fX8_25 q1469 rfl rfl dX8_tense_42 (fun v103 hf => ?_)
    refine lv_iload_n hx hb dX8_tense_45 rfl (lv_at hl 2 rfl) ?_
    refine g_ai0 X hI hf dX8_tense_46 (fun v104 hf => ?_)
    cases gRet_e hf
    exact g_retI X hI rfl dX8_tense_47
  · have hf := g_f c30 hf
    refine lv_iconst (v := (0 : Int32)) hx hb dX8_tense_33 (by decide) ?_
    cases gRet_e hf
    exact g_retI X hI rfl dX8_tense_34
def f_X8_tense_21 (a0 : Nat) (x1 : Int32) (x2 : Int32) (b0 : Nat) : gM Int32 :=
    f_X8_tense_26 a0 x1 x2 b0 (1 : Int32)
set_option maxHeartbeats 4000000 in
set_option maxRecDepth 100000 in
theorem b_X8_tense_21 {G : gG} {l : Launch} {p : Program} {e : Env} {s : State} {m : MethodId} {args : Array Value} {below : List Frame} {meth : Method} {c : Code} {h0 : g_H} {r : Int32} {h' : g_H} (X : gX G l yX8_tense.cls cX8_tense 3 (some .int) [] yX8_tense.name p s m args meth c) : w_X8_tense_21 G l p e s m args below meth c h0 r h' (f_X8_tense_21) := by
  have hx := X.1
  have hb := X.2.1
  have hown := X.2.2.2.1
  have hts := X.2.2.2.2.1
  intro a0 x1 x2 b0 h H locs cells slots ls hf hI hl
  unfold f_X8_tense_21 at hf
  refine lv_iconst (v := (1 : Int32)) hx hb dX8_tense_21 (by decide) ?_
  refine lv_goto (tgt := 26) hx hb dX8_tense_22 (by decide) ?_
  exact b_X8_tense_26 X _ _ _ _ _ _ _ _ _ _ _ hf hI (lv_sub hl [0, 1, 2] rfl)
def f_X8_tense (a0 : Nat) (x1 : Int32) (x2 : Int32) : gM Int32 :=
    gB (gPI a0 7 0 (0 : Int32)) fun _ =>
    gB (gCk a0 7) fun _ =>
    gB (f_X8_noOne a0 x1) fun r1 =>
    gIf (r1 = 0)
    (gB (f_X8_noSlot x2) fun r2 =>
    gIf (r2 = 0)
    (f_X8_tense_26 a0 x1 x2 a0 (0 : Int32))
    (f_X8_tense_21 a0 x1 x2 a0))
    (f_X8_tense_21 a0 x1 x2 a0)
set_option maxHeartbeats 4000000 in
set_option maxRecDepth 100000 in
theorem m_X8_tense {G : gG} {l : Launch} (hfl : l.stackTraces = false) {a0 : Nat} {x1 : Int32} {x2 : Int32} {h h' : g_H} {r : Int32} (hf : (f_X8_tense a0 x1 x2).1 h = some (r, h')) : gMet G l yX8_tense (Cond.code yX8_tense cX8_tense 3 (some .int)) 11 249 [.ref a0, .int x1, .int x2] h (.inl (g_wI r)) h' := by
  refine g_head hfl ((f_X8_tense a0 x1 x2).2 h r h' hf) (plainFor_of_name (by decide)) (Nat.le_of_ble_eq_true rfl) (fun p e s m below meth c H locs cells slots ls X hI hl9 => ?_)
  have hl : lv_has ls 3 [(0, .ref a0), (1, .int x1), (2, .int x2)] := hl9
  have hx := X.1
  have hb := X.2.1
  have hown := X.2.2.2.1
  have hts := X.2.2.2.2.1
  unfold f_X8_tense at hf
  refine lv_aload_n hx hb dX8_tense_0 rfl (lv_at hl 0 rfl) ?_
  refine lv_iconst (v := (0 : Int32)) hx hb dX8_tense_1 (by decide) ?_
  refine g_pi X hI hf fX8_0 q1444 rfl dX8_tense_2 (fun h H locs hf hI => ?_)
  refine lv_aload_n hx hb dX8_tense_5 rfl (lv_at hl 0 rfl) ?_
  refine lv_aload_n hx hb dX8_tense_6 rfl (lv_at hl 0 rfl) ?_
  refine lv_iload_n hx hb dX8_tense_7 rfl (lv_at hl 1 rfl) ?_
  obtain ⟨hs, hf⟩ := gCk_b hf
  refine g_cBI hI hf (fun v9 h9 e9 l9 l9' => g_rV X hI l9 l9' ⟨Nat.le_refl _, Nat.le_refl _⟩ (As := [.int x1]) (m_X8_noOne X.2.2.2.2.2.2.2.2.2.2.1 e9) ydX8_noOne hs rfl rfl q1763 q1765 qs74 q131 q1766 rfl (Nat.le_of_ble_eq_true rfl) (Nat.le_of_ble_eq_true rfl) hl.1 rfl (Nat.le_of_ble_eq_true rfl) dX8_tense_8) (fun r1 h H locs cells slots hf hI => ?_)
  refine lv_if_ne (tgt := 21) hx hb dX8_tense_11 (by decide) (fun c11 => ?_) (fun c11 => ?_)
  · have hf := g_f c11 hf
    exact b_X8_tense_21 X _ _ _ _ _ _ _ _ _ _ hf hI (lv_sub hl [0, 1, 2] rfl)
  · have hf := g_t c11 hf
    refine lv_iload_n hx hb dX8_tense_14 rfl (lv_at hl 2 rfl) ?_
    refine g_cBI hI hf (fun v9 h9 e9 l9 l9' => g_rS (b := 0) X hI l9 l9' ⟨Nat.le_refl _, Nat.le_refl _⟩ (As := [.int x2]) (m_X8_noSlot X.2.2.2.2.2.2.2.2.2.2.1 e9) ydX8_noSlot q1756 q1757 q131 q1758 rfl (Nat.le_of_ble_eq_true rfl) (Nat.le_of_ble_eq_true rfl) hl.1 rfl (Nat.le_of_ble_eq_true rfl) dX8_tense_15) (fun r2 h H locs cells slots hf hI => ?_)
    refine lv_if_eq (tgt := 25) hx hb dX8_tense_18 (by decide) (fun c18 => ?_) (fun c18 => ?_)
    · have hf := g_t c18 hf
      refine lv_iconst (v := (0 : Int32)) hx hb dX8_tense_25 (by decide) ?_
      exact b_X8_tense_26 X _ _ _ _ _ _ _ _ _ _ _ hf hI (lv_sub hl [0, 1, 2] rfl)
    · have hf := g_f c18 hf
      exact b_X8_tense_21 X _ _ _ _ _ _ _ _ _ _ hf hI (lv_sub hl [0, 1, 2] rfl)
/-! X1_straight -/
def f_X1_straight (a0 : Nat) (x1 : Int32) : gM (Int32 ⊕ gE) :=
    gB (gCk a0 0) fun _ =>
    gT (f_X1_oneAt a0 x1) fun r1 =>
    gB (gCk a0 0) fun _ =>
    gB (f_X1_rides a0 r1 (0 : Int32)) fun _ =>
    gB (gFI a0 0 14) fun v3 =>
    (gRet (.inl v3))
set_option maxHeartbeats 4000000 in
set_option maxRecDepth 100000 in
theorem m_X1_straight {G : gG} {l : Launch} (hfl : l.stackTraces = false) {a0 : Nat} {x1 : Int32} {h h' : g_H} {r : (Int32 ⊕ gE)} (hf : (f_X1_straight a0 x1).1 h = some (r, h')) : gMet G l yX1_straight (Cond.code yX1_straight cX1_straight 2 (some .int)) 102 1892 [.ref a0, .int x1] h (g_w g_wI r) h' := by
  refine g_head hfl ((f_X1_straight a0 x1).2 h r h' hf) (plainFor_of_name (by decide)) (Nat.le_of_ble_eq_true rfl) (fun p e s m below meth c H locs cells slots ls X hI hl9 => ?_)
  have hl : lv_has ls 2 [(0, .ref a0), (1, .int x1)] := hl9
  have hx := X.1
  have hb := X.2.1
  have hown := X.2.2.2.1
  have hts := X.2.2.2.2.1
  unfold f_X1_straight at hf
  refine lv_aload_n hx hb dX1_straight_0 rfl (lv_at hl 0 rfl) ?_
  refine lv_aload_n hx hb dX1_straight_1 rfl (lv_at hl 0 rfl) ?_
  refine lv_iload_n hx hb dX1_straight_2 rfl (lv_at hl 1 rfl) ?_
  obtain ⟨hs, hf⟩ := gCk_b hf
  refine g_cTR X hI (by decide) hf (fun v9 h9 e9 l9 l9' => g_rV X hI l9 l9' ⟨Nat.le_refl _, Nat.le_refl _⟩ (As := [.int x1]) (m_X1_oneAt X.2.2.2.2.2.2.2.2.2.2.1 e9) ydX1_oneAt hs rfl rfl q1189 q1191 qs37 q121 q1192 rfl (Nat.le_of_ble_eq_true rfl) (Nat.le_of_ble_eq_true rfl) hl.1 rfl (Nat.le_of_ble_eq_true rfl) dX1_straight_3) (fun r1 h H locs cells slots hf hI => ?_)
  refine lv_iconst (v := (0 : Int32)) hx hb dX1_straight_6 (by decide) ?_
  obtain ⟨hs, hf⟩ := gCk_b hf
  refine g_cBU hI hf (fun v9 h9 e9 l9 l9' => g_rV X hI l9 l9' ⟨Nat.le_refl _, Nat.le_refl _⟩ (As := [.ref r1, .int (0 : Int32)]) (m_X1_rides X.2.2.2.2.2.2.2.2.2.2.1 e9) ydX1_rides hs rfl rfl q693 q695 qs9 q121 q696 rfl (Nat.le_of_ble_eq_true rfl) (Nat.le_of_ble_eq_true rfl) hl.1 rfl (Nat.le_of_ble_eq_true rfl) dX1_straight_7) (fun r2 h H locs cells slots hf hI => ?_)
  refine lv_aload_n hx hb dX1_straight_10 rfl (lv_at hl 0 rfl) ?_
  refine g_fi X hI hf fX1_14 q475 rfl rfl dX1_straight_11 (fun v3 hf => ?_)
  cases gRet_e hf
  exact g_retI X hI rfl dX1_straight_14
/-! X0_straight -/
def f_X0_straight (a0 : Nat) (x1 : Int32) (a2 : Nat) : gM Int32 :=
    gB (gCk a0 0) fun _ =>
    gB (f_X1_straight a0 x1) fun r9 => match r9 with
    | .inl r1 => (gB (gSI a2 2 (0 : Int32) (r1)) fun _ =>
    (gRet (0 : Int32)))
    | .inr x9 => (gIf (x9.1 = 19)
    ((gRet (1 : Int32)))
    (gFail))
set_option maxHeartbeats 4000000 in
set_option maxRecDepth 100000 in
theorem m_X0_straight {G : gG} {l : Launch} (hfl : l.stackTraces = false) {a0 : Nat} {x1 : Int32} {a2 : Nat} {h h' : g_H} {r : Int32} (hf : (f_X0_straight a0 x1 a2).1 h = some (r, h')) : gMet G l yX0_straight (Cond.codeWith yX0_straight cX0_straight 4 (some .int) [(0, 9, 12, 24)]) 103 1913 [.ref a0, .int x1, .ref a2] h (.inl (g_wI r)) h' := by
  refine g_headW hfl ((f_X0_straight a0 x1 a2).2 h r h' hf) (plainFor_of_name (by decide)) (Nat.le_of_ble_eq_true rfl) (fun p e s m below meth c H locs cells slots ls X hI hl9 => ?_)
  have hl : lv_has ls 4 [(0, .ref a0), (1, .int x1), (2, .ref a2)] := hl9
  have hx := X.1
  have hb := X.2.1
  have hown := X.2.2.2.1
  have hts := X.2.2.2.2.1
  unfold f_X0_straight at hf
  refine lv_aload_n hx hb dX0_straight_0 rfl (lv_at hl 2 rfl) ?_
  refine lv_iconst (v := (0 : Int32)) hx hb dX0_straight_1 (by decide) ?_
  refine lv_aload_n hx hb dX0_straight_2 rfl (lv_at hl 0 rfl) ?_
  refine lv_iload_n hx hb dX0_straight_3 rfl (lv_at hl 1 rfl) ?_
  obtain ⟨hs, hf⟩ := gCk_b hf
  refine g_cHI hI hf (fun v9 h9 e9 l9 l9' => g_rV X hI l9 l9' ⟨Nat.le_refl _, Nat.le_refl _⟩ (As := [.int x1]) (m_X1_straight X.2.2.2.2.2.2.2.2.2.2.1 e9) ydX1_straight hs rfl rfl q1292 q1293 q1294 q121 q1295 rfl (Nat.le_of_ble_eq_true rfl) (Nat.le_of_ble_eq_true rfl) hl.1 rfl (Nat.le_of_ble_eq_true rfl) dX0_straight_4) (fun r1 h H locs cells slots hf hI => ?_) ?_
  · refine lv_i2l hx hb dX0_straight_7 rfl ?_
    refine g_si2 X hI hf dX0_straight_8 (fun h H locs hf hI => ?_)
    refine lv_goto (tgt := 15) hx hb dX0_straight_9 (by decide) ?_
    refine lv_iconst (v := (0 : Int32)) hx hb dX0_straight_15 (by decide) ?_
    cases gRet_e hf
    exact g_retI X hI rfl dX0_straight_16
  · intro ci9 x9 h H locs cells slots r9 ce9 hf hr9 hI hce hcv hcl
    by_cases k0 : ci9 = 19
    · subst k0
      cases hr9
      have hf := g_t rfl hf
      refine g_catch0 X hI (name := "java/lang/IndexOutOfBoundsException") rfl (by rfl) (by decide) (by decide) q1098 q1144 hce hcv hcl ?_
      refine lv_astore_n (lv' := [(3, .ref x9), (0, .ref a0), (1, .int x1), (2, .ref a2)]) hx hb dX0_straight_12 rfl hl (by decide) rfl (fun ls hl => ?_)
      refine lv_iconst (v := (1 : Int32)) hx hb dX0_straight_13 (by decide) ?_
      cases gRet_e hf
      exact g_retI X hI rfl dX0_straight_14
    have hf := g_f k0 hf
    exact (gFail_f hf).elim
/-! X8_straight -/
abbrev w_X8_straight_27 (G : gG) (l : Launch) (p : Program) (e : Env) (s : State) (m : MethodId) (args : Array Value) (below : List Frame) (meth : Method) (c : Code) (h0 : g_H) (r : Int32) (h' : g_H) (k : Int32 → gM Int32) : Prop := ∀ (u0 : Int32) (h : g_H) (H : Heap) (locs : List Loc) (cells slots : Nat) (ls : Array Slot), (k u0).1 h = some (r, h') → gI G h0 h H locs cells slots → lv_has ls 2 [] → W p l e (g_rm 11 249 h0 h') s m args below meth c H locs cells slots (gQ G below args s h0 h' (.inl (g_wI r))) (F0 m 27 ls [.int u0])
def f_X8_straight_27 (u0 : Int32) : gM Int32 :=
    (gRet u0)
set_option maxHeartbeats 4000000 in
set_option maxRecDepth 100000 in
theorem b_X8_straight_27 {G : gG} {l : Launch} {p : Program} {e : Env} {s : State} {m : MethodId} {args : Array Value} {below : List Frame} {meth : Method} {c : Code} {h0 : g_H} {r : Int32} {h' : g_H} (X : gX G l yX8_straight.cls cX8_straight 2 (some .int) [] yX8_straight.name p s m args meth c) : w_X8_straight_27 G l p e s m args below meth c h0 r h' (f_X8_straight_27) := by
  have hx := X.1
  have hb := X.2.1
  have hown := X.2.2.2.1
  have hts := X.2.2.2.2.1
  intro u0 h H locs cells slots ls hf hI hl
  unfold f_X8_straight_27 at hf
  cases gRet_e hf
  exact g_retI X hI rfl dX8_straight_27
def f_X8_straight (a0 : Nat) (x1 : Int32) : gM Int32 :=
    gB (gPI a0 7 0 (0 : Int32)) fun _ =>
    gB (gCk a0 7) fun _ =>
    gB (f_X8_noOne a0 x1) fun r1 =>
    gB (gCk a0 7) fun _ =>
    gB (f_X8_throwsIf a0 r1 (1 : Int32)) fun r2 =>
    gIf (r2 = 0)
    (gB (gCk a0 7) fun _ =>
    gB (f_X8_ridesStraight a0 x1) fun r3 =>
    f_X8_straight_27 r3)
    (f_X8_straight_27 (0 : Int32))
set_option maxHeartbeats 4000000 in
set_option maxRecDepth 100000 in
theorem m_X8_straight {G : gG} {l : Launch} (hfl : l.stackTraces = false) {a0 : Nat} {x1 : Int32} {h h' : g_H} {r : Int32} (hf : (f_X8_straight a0 x1).1 h = some (r, h')) : gMet G l yX8_straight (Cond.code yX8_straight cX8_straight 2 (some .int)) 11 249 [.ref a0, .int x1] h (.inl (g_wI r)) h' := by
  refine g_head hfl ((f_X8_straight a0 x1).2 h r h' hf) (plainFor_of_name (by decide)) (Nat.le_of_ble_eq_true rfl) (fun p e s m below meth c H locs cells slots ls X hI hl9 => ?_)
  have hl : lv_has ls 2 [(0, .ref a0), (1, .int x1)] := hl9
  have hx := X.1
  have hb := X.2.1
  have hown := X.2.2.2.1
  have hts := X.2.2.2.2.1
  unfold f_X8_straight at hf
  refine lv_aload_n hx hb dX8_straight_0 rfl (lv_at hl 0 rfl) ?_
  refine lv_iconst (v := (0 : Int32)) hx hb dX8_straight_1 (by decide) ?_
  refine g_pi X hI hf fX8_0 q1444 rfl dX8_straight_2 (fun h H locs hf hI => ?_)
  refine lv_aload_n hx hb dX8_straight_5 rfl (lv_at hl 0 rfl) ?_
  refine lv_aload_n hx hb dX8_straight_6 rfl (lv_at hl 0 rfl) ?_
  refine lv_iload_n hx hb dX8_straight_7 rfl (lv_at hl 1 rfl) ?_
  obtain ⟨hs, hf⟩ := gCk_b hf
  refine g_cBI hI hf (fun v9 h9 e9 l9 l9' => g_rV X hI l9 l9' ⟨Nat.le_refl _, Nat.le_refl _⟩ (As := [.int x1]) (m_X8_noOne X.2.2.2.2.2.2.2.2.2.2.1 e9) ydX8_noOne hs rfl rfl q1763 q1765 qs74 q131 q1766 rfl (Nat.le_of_ble_eq_true rfl) (Nat.le_of_ble_eq_true rfl) hl.1 rfl (Nat.le_of_ble_eq_true rfl) dX8_straight_8) (fun r1 h H locs cells slots hf hI => ?_)
  refine lv_iconst (v := (1 : Int32)) hx hb dX8_straight_11 (by decide) ?_
  obtain ⟨hs, hf⟩ := gCk_b hf
  refine g_cBI hI hf (fun v9 h9 e9 l9 l9' => g_rV X hI l9 l9' ⟨Nat.le_refl _, Nat.le_refl _⟩ (As := [.int r1, .int (1 : Int32)]) (m_X8_throwsIf X.2.2.2.2.2.2.2.2.2.2.1 e9) ydX8_throwsIf hs rfl rfl q1736 q1738 qs72 q131 q1739 rfl (Nat.le_of_ble_eq_true rfl) (Nat.le_of_ble_eq_true rfl) hl.1 rfl (Nat.le_of_ble_eq_true rfl) dX8_straight_12) (fun r2 h H locs cells slots hf hI => ?_)
  refine lv_if_eq (tgt := 22) hx hb dX8_straight_15 (by decide) (fun c15 => ?_) (fun c15 => ?_)
  · have hf := g_t c15 hf
    refine lv_aload_n hx hb dX8_straight_22 rfl (lv_at hl 0 rfl) ?_
    refine lv_iload_n hx hb dX8_straight_23 rfl (lv_at hl 1 rfl) ?_
    obtain ⟨hs, hf⟩ := gCk_b hf
    refine g_cBI hI hf (fun v9 h9 e9 l9 l9' => g_rV X hI l9 l9' ⟨Nat.le_refl _, Nat.le_refl _⟩ (As := [.int x1]) (m_X8_ridesStraight X.2.2.2.2.2.2.2.2.2.2.1 e9) ydX8_ridesStraight hs rfl rfl q1886 q1888 qs94 q131 q1889 rfl (Nat.le_of_ble_eq_true rfl) (Nat.le_of_ble_eq_true rfl) hl.1 rfl (Nat.le_of_ble_eq_true rfl) dX8_straight_24) (fun r3 h H locs cells slots hf hI => ?_)
    exact b_X8_straight_27 X _ _ _ _ _ _ _ hf hI (lv_sub hl [] rfl)
  · have hf := g_f c15 hf
    refine lv_iconst (v := (0 : Int32)) hx hb dX8_straight_18 (by decide) ?_
    refine lv_goto (tgt := 27) hx hb dX8_straight_19 (by decide) ?_
    exact b_X8_straight_27 X _ _ _ _ _ _ _ hf hI (lv_sub hl [] rfl)
/-! X1_remembers -/
def f_X1_remembers (a0 : Nat) : gM Unit :=
    gB (gFR a0 0 4) fun v1 =>
    gB (gFI a0 0 13) fun v2 =>
    gB (gAR v1 7 v2) fun v3 =>
    gB (gFR a0 0 1) fun v4 =>
    gB (gCk v3 2) fun _ =>
    gB (f_X3_be v3 v4) fun _ =>
    gB (gFI a0 0 13) fun v6 =>
    gB (gPI a0 0 13 ((v6 + (1 : Int32)) - (v6 + (1 : Int32)) / (12 : Int32) * (12 : Int32))) fun _ =>
    gB (gFI a0 0 12) fun v7 =>
    gB (f_J13_min (12 : Int32) (v7 + (1 : Int32))) fun r8 =>
    gB (gPI a0 0 12 r8) fun _ =>
    gRet ()
set_option maxHeartbeats 4000000 in
set_option maxRecDepth 100000 in
theorem m_X1_remembers {G : gG} {l : Launch} (hfl : l.stackTraces = false) {a0 : Nat} {h h' : g_H} {r : Unit} (hf : (f_X1_remembers a0).1 h = some (r, h')) : gMet G l yX1_remembers (Cond.code yX1_remembers cX1_remembers 1 none) 3 101 [.ref a0] h (.inl (g_wU r)) h' := by
  refine g_head hfl ((f_X1_remembers a0).2 h r h' hf) (plainFor_of_name (by decide)) (Nat.le_of_ble_eq_true rfl) (fun p e s m below meth c H locs cells slots ls X hI hl9 => ?_)
  have hl : lv_has ls 1 [(0, .ref a0)] := hl9
  have hx := X.1
  have hb := X.2.1
  have hown := X.2.2.2.1
  have hts := X.2.2.2.2.1
  unfold f_X1_remembers at hf
  refine lv_aload_n hx hb dX1_remembers_0 rfl (lv_at hl 0 rfl) ?_
  refine g_fr X hI hf fX1_4 q465 rfl rfl dX1_remembers_1 (fun v1 hf => ?_)
  refine lv_aload_n hx hb dX1_remembers_4 rfl (lv_at hl 0 rfl) ?_
  refine g_fi X hI hf fX1_13 q474 rfl rfl dX1_remembers_5 (fun v2 hf => ?_)
  refine g_ar7 X hI hf dX1_remembers_8 (fun v3 hf => ?_)
  refine lv_aload_n hx hb dX1_remembers_9 rfl (lv_at hl 0 rfl) ?_
  refine g_fr X hI hf fX1_1 q461 rfl rfl dX1_remembers_10 (fun v4 hf => ?_)
  obtain ⟨hs, hf⟩ := gCk_b hf
  refine g_cBU hI hf (fun v9 h9 e9 l9 l9' => g_rV X hI l9 l9' ⟨Nat.le_refl _, Nat.le_refl _⟩ (As := [.ref v4]) (m_X3_be X.2.2.2.2.2.2.2.2.2.2.1 e9) ydX3_be hs rfl rfl q672 q673 q674 q123 q675 rfl (Nat.le_of_ble_eq_true rfl) (Nat.le_of_ble_eq_true rfl) hl.1 rfl (Nat.le_of_ble_eq_true rfl) dX1_remembers_13) (fun r5 h H locs cells slots hf hI => ?_)
  refine lv_aload_n hx hb dX1_remembers_16 rfl (lv_at hl 0 rfl) ?_
  refine lv_aload_n hx hb dX1_remembers_17 rfl (lv_at hl 0 rfl) ?_
  refine g_fi X hI hf fX1_13 q474 rfl rfl dX1_remembers_18 (fun v6 hf => ?_)
  refine lv_iconst (v := (1 : Int32)) hx hb dX1_remembers_21 (by decide) ?_
  refine lv_iadd hx hb dX1_remembers_22 ?_
  refine lv_bipush (v := (12 : Int32)) hx hb dX1_remembers_23 (by decide) ?_
  refine lv_irem hx hb dX1_remembers_25 (by decide) ?_
  refine g_pi X hI hf fX1_13 q474 rfl dX1_remembers_26 (fun h H locs hf hI => ?_)
  refine lv_aload_n hx hb dX1_remembers_29 rfl (lv_at hl 0 rfl) ?_
  refine lv_bipush (v := (12 : Int32)) hx hb dX1_remembers_30 (by decide) ?_
  refine lv_aload_n hx hb dX1_remembers_32 rfl (lv_at hl 0 rfl) ?_
  refine g_fi X hI hf fX1_12 q473 rfl rfl dX1_remembers_33 (fun v7 hf => ?_)
  refine lv_iconst (v := (1 : Int32)) hx hb dX1_remembers_36 (by decide) ?_
  refine lv_iadd hx hb dX1_remembers_37 ?_
  refine g_cBI hI hf (fun v9 h9 e9 l9 l9' => g_rS (b := 0) X hI l9 l9' ⟨Nat.le_refl _, Nat.le_refl _⟩ (As := [.int (12 : Int32), .int (v7 + (1 : Int32))]) (m_J13_min X.2.2.2.2.2.2.2.2.2.2.1 e9) ydJ13_min q739 q740 q151 q741 rfl (Nat.le_of_ble_eq_true rfl) (Nat.le_of_ble_eq_true rfl) hl.1 rfl (Nat.le_of_ble_eq_true rfl) dX1_remembers_38) (fun r8 h H locs cells slots hf hI => ?_)
  refine g_pi X hI hf fX1_12 q473 rfl dX1_remembers_41 (fun h H locs hf hI => ?_)
  cases gRet_e hf
  exact g_retU X hI rfl dX1_remembers_44
/-! X1_mornings -/
abbrev w_X1_mornings_83 (G : gG) (l : Launch) (p : Program) (e : Env) (s : State) (m : MethodId) (args : Array Value) (below : List Frame) (meth : Method) (c : Code) (h0 : g_H) (r : (Int32 ⊕ gE)) (h' : g_H) (k : Nat → Int32 → Int32 → Int32 → gM (Int32 ⊕ gE)) : Prop := ∀ (a0 : Nat) (x1 : Int32) (x2 : Int32) (x3 : Int32) (h : g_H) (H : Heap) (locs : List Loc) (cells slots : Nat) (ls : Array Slot), (k a0 x1 x2 x3).1 h = some (r, h') → gI G h0 h H locs cells slots → lv_has ls 5 [(0, .ref a0), (1, .int x1), (2, .int x2), (3, .int x3)] → W p l e (g_rm 7 121 h0 h') s m args below meth c H locs cells slots (gQ G below args s h0 h' (g_w g_wI r)) (F0 m 83 ls [])
abbrev w_X1_mornings_89 (G : gG) (l : Launch) (p : Program) (e : Env) (s : State) (m : MethodId) (args : Array Value) (below : List Frame) (meth : Method) (c : Code) (h0 : g_H) (r : (Int32 ⊕ gE)) (h' : g_H) (k : Nat → Int32 → Int32 → gM (Int32 ⊕ gE)) : Prop := ∀ (a0 : Nat) (x1 : Int32) (x2 : Int32) (h : g_H) (H : Heap) (locs : List Loc) (cells slots : Nat) (ls : Array Slot), (k a0 x1 x2).1 h = some (r, h') → gI G h0 h H locs cells slots → lv_has ls 5 [(0, .ref a0), (1, .int x1), (2, .int x2)] → W p l e (g_rm 7 121 h0 h') s m args below meth c H locs cells slots (gQ G below args s h0 h' (g_w g_wI r)) (F0 m 89 ls [])
abbrev w_X1_mornings_18 (G : gG) (l : Launch) (p : Program) (e : Env) (s : State) (m : MethodId) (args : Array Value) (below : List Frame) (meth : Method) (c : Code) (h0 : g_H) (r : (Int32 ⊕ gE)) (h' : g_H) (k : Nat → Int32 → Int32 → Int32 → gM (Int32 ⊕ gE)) : Prop := ∀ (a0 : Nat) (x1 : Int32) (x2 : Int32) (x3 : Int32) (h : g_H) (H : Heap) (locs : List Loc) (cells slots : Nat) (ls : Array Slot), (k a0 x1 x2 x3).1 h = some (r, h') → gI G h0 h H locs cells slots → lv_has ls 5 [(0, .ref a0), (1, .int x1), (2, .int x2), (3, .int x3)] → W p l e (g_rm 7 121 h0 h') s m args below meth c H locs cells slots (gQ G below args s h0 h' (g_w g_wI r)) (F0 m 18 ls [])
def f_X1_mornings_83 (k18 : Nat → Int32 → Int32 → Int32 → gM (Int32 ⊕ gE)) (a0 : Nat) (x1 : Int32) (x2 : Int32) (x3 : Int32) : gM (Int32 ⊕ gE) :=
    k18 a0 x1 x2 (x3 + (1 : Int32))
set_option maxHeartbeats 4000000 in
set_option maxRecDepth 100000 in
theorem b_X1_mornings_83 {G : gG} {l : Launch} {p : Program} {e : Env} {s : State} {m : MethodId} {args : Array Value} {below : List Frame} {meth : Method} {c : Code} {h0 : g_H} {r : (Int32 ⊕ gE)} {h' : g_H} (X : gX G l yX1_mornings.cls cX1_mornings 5 (some .int) [] yX1_mornings.name p s m args meth c) {k18 : Nat → Int32 → Int32 → Int32 → gM (Int32 ⊕ gE)} (K18 : w_X1_mornings_18 G l p e s m args below meth c h0 r h' k18) : w_X1_mornings_83 G l p e s m args below meth c h0 r h' (f_X1_mornings_83 k18) := by
  have hx := X.1
  have hb := X.2.1
  have hown := X.2.2.2.1
  have hts := X.2.2.2.2.1
  intro a0 x1 x2 x3 h H locs cells slots ls hf hI hl
  unfold f_X1_mornings_83 at hf
  refine lv_iinc (v := (x3 + (1 : Int32))) (lv' := [(3, .int (x3 + (1 : Int32))), (0, .ref a0), (1, .int x1), (2, .int x2)]) hx hb dX1_mornings_83 hl (k := 3) rfl rfl (by decide) rfl (fun ls hl => ?_)
  refine lv_goto (tgt := 18) hx hb dX1_mornings_86 (by decide) ?_
  exact K18 _ _ _ _ _ _ _ _ _ _ hf hI (lv_sub hl [1, 2, 3, 0] rfl)
def f_X1_mornings_89 (a0 : Nat) (x1 : Int32) (x2 : Int32) : gM (Int32 ⊕ gE) :=
    gB (gFR a0 0 1) fun v101 =>
    gB (gFR a0 0 1) fun v102 =>
    gB (gFI v102 2 10) fun v103 =>
    gB (f_J13_min (9999 : Int32) (v103 + x1)) fun r104 =>
    gB (gPI v101 2 10 r104) fun _ =>
    (gRet (.inl x2))
set_option maxHeartbeats 4000000 in
set_option maxRecDepth 100000 in
theorem b_X1_mornings_89 {G : gG} {l : Launch} {p : Program} {e : Env} {s : State} {m : MethodId} {args : Array Value} {below : List Frame} {meth : Method} {c : Code} {h0 : g_H} {r : (Int32 ⊕ gE)} {h' : g_H} (X : gX G l yX1_mornings.cls cX1_mornings 5 (some .int) [] yX1_mornings.name p s m args meth c) : w_X1_mornings_89 G l p e s m args below meth c h0 r h' (f_X1_mornings_89) := by
  have hx := X.1
  have hb := X.2.1
  have hown := X.2.2.2.1
  have hts := X.2.2.2.2.1
  intro a0 x1 x2 h H locs cells slots ls hf hI hl
  unfold f_X1_mornings_89 at hf
  refine lv_aload_n hx hb dX1_mornings_89 rfl (lv_at hl 0 rfl) ?_
  refine g_fr X hI hf fX1_1 q461 rfl rfl dX1_mornings_90 (fun v101 hf => ?_)
  refine lv_sipush (v := (9999 : Int32)) hx hb dX1_mornings_93 (by decide) ?_
  refine lv_aload_n hx hb dX1_mornings_96 rfl (lv_at hl 0 rfl) ?_
  refine g_fr X hI hf fX1_1 q461 rfl rfl dX1_mornings_97 (fun v102 hf => ?_)
  refine g_fiN X hI hf fX3_10 q279 rfl rfl dX1_mornings_100 (fun v103 hf => ?_)
  refine lv_iload_n hx hb dX1_mornings_103 rfl (lv_at hl 1 rfl) ?_
  refine lv_iadd hx hb dX1_mornings_104 ?_
  refine g_cBI hI hf (fun v9 h9 e9 l9 l9' => g_rS (b := 0) X hI l9 l9' ⟨Nat.le_refl _, Nat.le_refl _⟩ (As := [.int (9999 : Int32), .int (v103 + x1)]) (m_J13_min X.2.2.2.2.2.2.2.2.2.2.1 e9) ydJ13_min q739 q740 q151 q741 rfl (Nat.le_of_ble_eq_true rfl) (Nat.le_of_ble_eq_true rfl) hl.1 rfl (Nat.le_of_ble_eq_true rfl) dX1_mornings_105) (fun r104 h H locs cells slots hf hI => ?_)
  refine g_piN X hI hf fX3_10 q279 rfl dX1_mornings_108 (fun h H locs hf hI => ?_)
  refine lv_iload_n hx hb dX1_mornings_111 rfl (lv_at hl 2 rfl) ?_
  cases gRet_e hf
  exact g_retI X hI rfl dX1_mornings_112
def f_X1_mornings_18 : Nat → Nat → Int32 → Int32 → Int32 → gM (Int32 ⊕ gE)
  | 0, _, _, _, _ => gFail
  | n + 1, a0, x1, x2, x3 =>
    gIf ((10 : Int32) ≤ x3)
    (f_X1_mornings_89 a0 x1 x2)
    (gB (gFR a0 0 1) fun v101 =>
    gB (gFR v101 2 3) fun v102 =>
    gB (gAI v102 0 x3) fun v103 =>
    gIf (v103 = (-1 : Int32))
    (f_X1_mornings_83 (f_X1_mornings_18 n) a0 x1 x2 x3)
    (gB (gFR a0 0 1) fun v104 =>
    gB (gFR v104 2 0) fun v105 =>
    gB (gFR a0 0 1) fun v106 =>
    gB (gFR v106 2 3) fun v107 =>
    gB (gAI v107 0 x3) fun v108 =>
    gB (gAR v105 4 v108) fun v109 =>
    gB (gFI v109 3 2) fun v110 =>
    gB (f_J13_max (0 : Int32) (v110 - x1)) fun r111 =>
    gB (gPI v109 3 2 r111) fun _ =>
    gB (gFI v109 3 2) fun v112 =>
    f_X1_mornings_83 (f_X1_mornings_18 n) a0 x1 (x2 + v112) x3))
set_option maxHeartbeats 4000000 in
set_option maxRecDepth 100000 in
theorem b_X1_mornings_18 {G : gG} {l : Launch} {p : Program} {e : Env} {s : State} {m : MethodId} {args : Array Value} {below : List Frame} {meth : Method} {c : Code} {h0 : g_H} {r : (Int32 ⊕ gE)} {h' : g_H} (X : gX G l yX1_mornings.cls cX1_mornings 5 (some .int) [] yX1_mornings.name p s m args meth c) : ∀ n : Nat, w_X1_mornings_18 G l p e s m args below meth c h0 r h' (f_X1_mornings_18 n) := by
  have hx := X.1
  have hb := X.2.1
  have hown := X.2.2.2.1
  have hts := X.2.2.2.2.1
  intro n
  induction n with
  | zero =>
    intro a0 x1 x2 x3 h H locs cells slots ls hf hI hl
    exact (gFail_f hf).elim
  | succ n ih =>
    intro a0 x1 x2 x3 h H locs cells slots ls hf hI hl
    rw [f_X1_mornings_18] at hf
    refine lv_iload_n hx hb dX1_mornings_18 rfl (lv_at hl 3 rfl) ?_
    refine lv_bipush (v := (10 : Int32)) hx hb dX1_mornings_19 (by decide) ?_
    refine lv_icmp_ge (tgt := 89) hx hb dX1_mornings_21 (by decide) (fun c21 => ?_) (fun c21 => ?_)
    · have hf := g_t c21 hf
      exact b_X1_mornings_89 X _ _ _ _ _ _ _ _ _ hf hI (lv_sub hl [0, 1, 2] rfl)
    · have hf := g_f c21 hf
      refine lv_aload_n hx hb dX1_mornings_24 rfl (lv_at hl 0 rfl) ?_
      refine g_fr X hI hf fX1_1 q461 rfl rfl dX1_mornings_25 (fun v101 hf => ?_)
      refine g_frN X hI hf fX3_3 q264 rfl rfl dX1_mornings_28 (fun v102 hf => ?_)
      refine lv_iload_n hx hb dX1_mornings_31 rfl (lv_at hl 3 rfl) ?_
      refine g_ai0 X hI hf dX1_mornings_32 (fun v103 hf => ?_)
      refine lv_iconst (v := (-1 : Int32)) hx hb dX1_mornings_33 (by decide) ?_
      refine lv_icmp_ne (tgt := 40) hx hb dX1_mornings_34 (by decide) (fun c34 => ?_) (fun c34 => ?_)
      · have hf := g_f c34 hf
        refine lv_aload_n hx hb dX1_mornings_40 rfl (lv_at hl 0 rfl) ?_
        refine g_fr X hI hf fX1_1 q461 rfl rfl dX1_mornings_41 (fun v104 hf => ?_)
        refine g_frN X hI hf fX3_0 q254 rfl rfl dX1_mornings_44 (fun v105 hf => ?_)
        refine lv_aload_n hx hb dX1_mornings_47 rfl (lv_at hl 0 rfl) ?_
        refine g_fr X hI hf fX1_1 q461 rfl rfl dX1_mornings_48 (fun v106 hf => ?_)
        refine g_frN X hI hf fX3_3 q264 rfl rfl dX1_mornings_51 (fun v107 hf => ?_)
        refine lv_iload_n hx hb dX1_mornings_54 rfl (lv_at hl 3 rfl) ?_
        refine g_ai0 X hI hf dX1_mornings_55 (fun v108 hf => ?_)
        refine g_ar4 X hI hf dX1_mornings_56 (fun v109 hf => ?_)
        refine lv_astore (lv' := [(4, .ref v109), (0, .ref a0), (1, .int x1), (2, .int x2), (3, .int x3)]) hx hb dX1_mornings_57 hl (by decide) rfl (fun ls hl => ?_)
        refine lv_aload hx hb dX1_mornings_59 (lv_at hl 0 rfl) ?_
        refine lv_iconst (v := (0 : Int32)) hx hb dX1_mornings_61 (by decide) ?_
        refine lv_aload hx hb dX1_mornings_62 (lv_at hl 0 rfl) ?_
        refine g_fiN X hI hf fX4_2 q206 rfl rfl dX1_mornings_64 (fun v110 hf => ?_)
        refine lv_iload_n hx hb dX1_mornings_67 rfl (lv_at hl 2 rfl) ?_
        refine lv_isub hx hb dX1_mornings_68 ?_
        refine g_cBI hI hf (fun v9 h9 e9 l9 l9' => g_rS (b := 0) X hI l9 l9' ⟨Nat.le_refl _, Nat.le_refl _⟩ (As := [.int (0 : Int32), .int (v110 - x1)]) (m_J13_max X.2.2.2.2.2.2.2.2.2.2.1 e9) ydJ13_max q1288 q564 q151 q565 rfl (Nat.le_of_ble_eq_true rfl) (Nat.le_of_ble_eq_true rfl) hl.1 rfl (Nat.le_of_ble_eq_true rfl) dX1_mornings_69) (fun r111 h H locs cells slots hf hI => ?_)
        refine g_piN X hI hf fX4_2 q206 rfl dX1_mornings_72 (fun h H locs hf hI => ?_)
        refine lv_iload_n hx hb dX1_mornings_75 rfl (lv_at hl 3 rfl) ?_
        refine lv_aload hx hb dX1_mornings_76 (lv_at hl 0 rfl) ?_
        refine g_fiN X hI hf fX4_2 q206 rfl rfl dX1_mornings_78 (fun v112 hf => ?_)
        refine lv_iadd hx hb dX1_mornings_81 ?_
        refine lv_istore_n (lv' := [(2, .int (x2 + v112)), (4, .ref v109), (0, .ref a0), (1, .int x1), (3, .int x3)]) hx hb dX1_mornings_82 rfl hl (by decide) rfl (fun ls hl => ?_)
        exact b_X1_mornings_83 X ih _ _ _ _ _ _ _ _ _ _ hf hI (lv_sub hl [2, 3, 0, 4] rfl)
      · have hf := g_t c34 hf
        refine lv_goto (tgt := 83) hx hb dX1_mornings_37 (by decide) ?_
        exact b_X1_mornings_83 X ih _ _ _ _ _ _ _ _ _ _ hf hI (lv_sub hl [0, 1, 2, 3] rfl)
def f_X1_mornings (a0 : Nat) (x1 : Int32) : gM (Int32 ⊕ gE) :=
    gB (f_X1_isIn x1 (1 : Int32) (60 : Int32)) fun r1 =>
    gT (f_X1_must r1) fun _ =>
    gB (gCk a0 0) fun _ =>
    gB (f_X1_remembers a0) fun _ =>
    f_X1_mornings_18 gN a0 x1 (0 : Int32) (0 : Int32)
set_option maxHeartbeats 4000000 in
set_option maxRecDepth 100000 in
theorem m_X1_mornings {G : gG} {l : Launch} (hfl : l.stackTraces = false) {a0 : Nat} {x1 : Int32} {h h' : g_H} {r : (Int32 ⊕ gE)} (hf : (f_X1_mornings a0 x1).1 h = some (r, h')) : gMet G l yX1_mornings (Cond.code yX1_mornings cX1_mornings 5 (some .int)) 7 121 [.ref a0, .int x1] h (g_w g_wI r) h' := by
  refine g_head hfl ((f_X1_mornings a0 x1).2 h r h' hf) (plainFor_of_name (by decide)) (Nat.le_of_ble_eq_true rfl) (fun p e s m below meth c H locs cells slots ls X hI hl9 => ?_)
  have hl : lv_has ls 5 [(0, .ref a0), (1, .int x1)] := hl9
  have hx := X.1
  have hb := X.2.1
  have hown := X.2.2.2.1
  have hts := X.2.2.2.2.1
  unfold f_X1_mornings at hf
  refine lv_iload_n hx hb dX1_mornings_0 rfl (lv_at hl 1 rfl) ?_
  refine lv_iconst (v := (1 : Int32)) hx hb dX1_mornings_1 (by decide) ?_
  refine lv_bipush (v := (60 : Int32)) hx hb dX1_mornings_2 (by decide) ?_
  refine g_cBI hI hf (fun v9 h9 e9 l9 l9' => g_rS (b := 0) X hI l9 l9' ⟨Nat.le_refl _, Nat.le_refl _⟩ (As := [.int x1, .int (1 : Int32), .int (60 : Int32)]) (m_X1_isIn X.2.2.2.2.2.2.2.2.2.2.1 e9) ydX1_isIn q532 q533 q121 q534 rfl (Nat.le_of_ble_eq_true rfl) (Nat.le_of_ble_eq_true rfl) hl.1 rfl (Nat.le_of_ble_eq_true rfl) dX1_mornings_4) (fun r1 h H locs cells slots hf hI => ?_)
  refine g_cTU X hI (by decide) hf (fun v9 h9 e9 l9 l9' => g_rS (b := 0) X hI l9 l9' ⟨Nat.le_refl _, Nat.le_refl _⟩ (As := [.int r1]) (m_X1_must X.2.2.2.2.2.2.2.2.2.2.1 e9) ydX1_must q1200 q1201 q121 q1202 rfl (Nat.le_of_ble_eq_true rfl) (Nat.le_of_ble_eq_true rfl) hl.1 rfl (Nat.le_of_ble_eq_true rfl) dX1_mornings_7) (fun r2 h H locs cells slots hf hI => ?_)
  refine lv_aload_n hx hb dX1_mornings_10 rfl (lv_at hl 0 rfl) ?_
  obtain ⟨hs, hf⟩ := gCk_b hf
  refine g_cBU hI hf (fun v9 h9 e9 l9 l9' => g_rV X hI l9 l9' ⟨Nat.le_refl _, Nat.le_refl _⟩ (As := []) (m_X1_remembers X.2.2.2.2.2.2.2.2.2.2.1 e9) ydX1_remembers hs rfl rfl q1230 q1232 qs38 q121 q1233 rfl (Nat.le_of_ble_eq_true rfl) (Nat.le_of_ble_eq_true rfl) hl.1 rfl (Nat.le_of_ble_eq_true rfl) dX1_mornings_11) (fun r3 h H locs cells slots hf hI => ?_)
  refine lv_iconst (v := (0 : Int32)) hx hb dX1_mornings_14 (by decide) ?_
  refine lv_istore_n (lv' := [(2, .int (0 : Int32)), (0, .ref a0), (1, .int x1)]) hx hb dX1_mornings_15 rfl hl (by decide) rfl (fun ls hl => ?_)
  refine lv_iconst (v := (0 : Int32)) hx hb dX1_mornings_16 (by decide) ?_
  refine lv_istore_n (lv' := [(3, .int (0 : Int32)), (2, .int (0 : Int32)), (0, .ref a0), (1, .int x1)]) hx hb dX1_mornings_17 rfl hl (by decide) rfl (fun ls hl => ?_)
  exact b_X1_mornings_18 X gN _ _ _ _ _ _ _ _ _ _ hf hI (lv_sub hl [2, 3, 1, 0] rfl)
/-! X0_mornings -/
def f_X0_mornings (a0 : Nat) (x1 : Int32) (a2 : Nat) : gM Int32 :=
    gB (gCk a0 0) fun _ =>
    gB (f_X1_mornings a0 x1) fun r9 => match r9 with
    | .inl r1 => (gB (gSI a2 2 (0 : Int32) (r1)) fun _ =>
    (gRet (0 : Int32)))
    | .inr x9 => (gIf (x9.1 = 17)
    ((gRet (1 : Int32)))
    (gFail))
set_option maxHeartbeats 4000000 in
set_option maxRecDepth 100000 in
theorem m_X0_mornings {G : gG} {l : Launch} (hfl : l.stackTraces = false) {a0 : Nat} {x1 : Int32} {a2 : Nat} {h h' : g_H} {r : Int32} (hf : (f_X0_mornings a0 x1 a2).1 h = some (r, h')) : gMet G l yX0_mornings (Cond.codeWith yX0_mornings cX0_mornings 4 (some .int) [(0, 9, 12, 13)]) 8 145 [.ref a0, .int x1, .ref a2] h (.inl (g_wI r)) h' := by
  refine g_headW hfl ((f_X0_mornings a0 x1 a2).2 h r h' hf) (plainFor_of_name (by decide)) (Nat.le_of_ble_eq_true rfl) (fun p e s m below meth c H locs cells slots ls X hI hl9 => ?_)
  have hl : lv_has ls 4 [(0, .ref a0), (1, .int x1), (2, .ref a2)] := hl9
  have hx := X.1
  have hb := X.2.1
  have hown := X.2.2.2.1
  have hts := X.2.2.2.2.1
  unfold f_X0_mornings at hf
  refine lv_aload_n hx hb dX0_mornings_0 rfl (lv_at hl 2 rfl) ?_
  refine lv_iconst (v := (0 : Int32)) hx hb dX0_mornings_1 (by decide) ?_
  refine lv_aload_n hx hb dX0_mornings_2 rfl (lv_at hl 0 rfl) ?_
  refine lv_iload_n hx hb dX0_mornings_3 rfl (lv_at hl 1 rfl) ?_
  obtain ⟨hs, hf⟩ := gCk_b hf
  refine g_cHI hI hf (fun v9 h9 e9 l9 l9' => g_rV X hI l9 l9' ⟨Nat.le_refl _, Nat.le_refl _⟩ (As := [.int x1]) (m_X1_mornings X.2.2.2.2.2.2.2.2.2.2.1 e9) ydX1_mornings hs rfl rfl q1284 q1285 q1286 q121 q1287 rfl (Nat.le_of_ble_eq_true rfl) (Nat.le_of_ble_eq_true rfl) hl.1 rfl (Nat.le_of_ble_eq_true rfl) dX0_mornings_4) (fun r1 h H locs cells slots hf hI => ?_) ?_
  · refine lv_i2l hx hb dX0_mornings_7 rfl ?_
    refine g_si2 X hI hf dX0_mornings_8 (fun h H locs hf hI => ?_)
    refine lv_goto (tgt := 15) hx hb dX0_mornings_9 (by decide) ?_
    refine lv_iconst (v := (0 : Int32)) hx hb dX0_mornings_15 (by decide) ?_
    cases gRet_e hf
    exact g_retI X hI rfl dX0_mornings_16
  · intro ci9 x9 h H locs cells slots r9 ce9 hf hr9 hI hce hcv hcl
    by_cases k0 : ci9 = 17
    · subst k0
      cases hr9
      have hf := g_t rfl hf
      refine g_catch0 X hI (name := "java/lang/IllegalArgumentException") rfl (by rfl) (by decide) (by decide) q785 q922 hce hcv hcl ?_
      refine lv_astore_n (lv' := [(3, .ref x9), (0, .ref a0), (1, .int x1), (2, .ref a2)]) hx hb dX0_mornings_12 rfl hl (by decide) rfl (fun ls hl => ?_)
      refine lv_iconst (v := (1 : Int32)) hx hb dX0_mornings_13 (by decide) ?_
      cases gRet_e hf
      exact g_retI X hI rfl dX0_mornings_14
    have hf := g_f k0 hf
    exact (gFail_f hf).elim
/-! X8_remembers -/
abbrev w_X8_remembers_55 (G : gG) (l : Launch) (p : Program) (e : Env) (s : State) (m : MethodId) (args : Array Value) (below : List Frame) (meth : Method) (c : Code) (h0 : g_H) (r : Unit) (h' : g_H) (k : Nat → Int32 → gM Unit) : Prop := ∀ (a0 : Nat) (x1 : Int32) (h : g_H) (H : Heap) (locs : List Loc) (cells slots : Nat) (ls : Array Slot), (k a0 x1).1 h = some (r, h') → gI G h0 h H locs cells slots → lv_has ls 2 [(0, .ref a0), (1, .int x1)] → W p l e (g_rm 1 20 h0 h') s m args below meth c H locs cells slots (gQ G below args s h0 h' (.inl (g_wU r))) (F0 m 55 ls [])
abbrev w_X8_remembers_53 (G : gG) (l : Launch) (p : Program) (e : Env) (s : State) (m : MethodId) (args : Array Value) (below : List Frame) (meth : Method) (c : Code) (h0 : g_H) (r : Unit) (h' : g_H) (k : Nat → gM Unit) : Prop := ∀ (a0 : Nat) (h : g_H) (H : Heap) (locs : List Loc) (cells slots : Nat) (ls : Array Slot), (k a0).1 h = some (r, h') → gI G h0 h H locs cells slots → lv_has ls 2 [(0, .ref a0)] → W p l e (g_rm 1 20 h0 h') s m args below meth c H locs cells slots (gQ G below args s h0 h' (.inl (g_wU r))) (F0 m 53 ls [])
abbrev w_X8_remembers_40 (G : gG) (l : Launch) (p : Program) (e : Env) (s : State) (m : MethodId) (args : Array Value) (below : List Frame) (meth : Method) (c : Code) (h0 : g_H) (r : Unit) (h' : g_H) (k : Nat → gM Unit) : Prop := ∀ (a0 : Nat) (h : g_H) (H : Heap) (locs : List Loc) (cells slots : Nat) (ls : Array Slot), (k a0).1 h = some (r, h') → gI G h0 h H locs cells slots → lv_has ls 2 [(0, .ref a0)] → W p l e (g_rm 1 20 h0 h') s m args below meth c H locs cells slots (gQ G below args s h0 h' (.inl (g_wU r))) (F0 m 40 ls [])
abbrev w_X8_remembers_11 (G : gG) (l : Launch) (p : Program) (e : Env) (s : State) (m : MethodId) (args : Array Value) (below : List Frame) (meth : Method) (c : Code) (h0 : g_H) (r : Unit) (h' : g_H) (k : Nat → Int32 → gM Unit) : Prop := ∀ (a0 : Nat) (x1 : Int32) (h : g_H) (H : Heap) (locs : List Loc) (cells slots : Nat) (ls : Array Slot), (k a0 x1).1 h = some (r, h') → gI G h0 h H locs cells slots → lv_has ls 2 [(0, .ref a0), (1, .int x1)] → W p l e (g_rm 1 20 h0 h') s m args below meth c H locs cells slots (gQ G below args s h0 h' (.inl (g_wU r))) (F0 m 11 ls [])
def f_X8_remembers_55 : Nat → Nat → Int32 → gM Unit
  | 0, _, _ => gFail
  | n + 1, a0, x1 =>
    gIf ((305 : Int32) ≤ x1)
    (gRet ())
    (gB (gFR a0 7 5) fun v101 =>
    gB (gFI a0 7 7) fun v102 =>
    gB (gFR a0 7 1) fun v103 =>
    gB (gAI v103 0 x1) fun v104 =>
    gB (gSI v101 0 (((305 : Int32) * (v102 - (1 : Int32))) + x1) v104) fun _ =>
    f_X8_remembers_55 n a0 (x1 + (1 : Int32)))
set_option maxHeartbeats 4000000 in
set_option maxRecDepth 100000 in
theorem b_X8_remembers_55 {G : gG} {l : Launch} {p : Program} {e : Env} {s : State} {m : MethodId} {args : Array Value} {below : List Frame} {meth : Method} {c : Code} {h0 : g_H} {r : Unit} {h' : g_H} (X : gX G l yX8_remembers.cls cX8_remembers 2 none [] yX8_remembers.name p s m args meth c) : ∀ n : Nat, w_X8_remembers_55 G l p e s m args below meth c h0 r h' (f_X8_remembers_55 n) := by
  have hx := X.1
  have hb := X.2.1
  have hown := X.2.2.2.1
  have hts := X.2.2.2.2.1
  intro n
  induction n with
  | zero =>
    intro a0 x1 h H locs cells slots ls hf hI hl
    exact (gFail_f hf).elim
  | succ n ih =>
    intro a0 x1 h H locs cells slots ls hf hI hl
    rw [f_X8_remembers_55] at hf
    refine lv_iload_n hx hb dX8_remembers_55 rfl (lv_at hl 1 rfl) ?_
    refine lv_sipush (v := (305 : Int32)) hx hb dX8_remembers_56 (by decide) ?_
    refine lv_icmp_ge (tgt := 91) hx hb dX8_remembers_59 (by decide) (fun c59 => ?_) (fun c59 => ?_)
    · have hf := g_t c59 hf
      cases gRet_e hf
      exact g_retU X hI rfl dX8_remembers_91
    · have hf := g_f c59 hf
      refine lv_aload_n hx hb dX8_remembers_62 rfl (lv_at hl 0 rfl) ?_
      refine g_fr X hI hf fX8_5 q1449 rfl rfl dX8_remembers_63 (fun v101 hf => ?_)
      refine lv_sipush (v := (305 : Int32)) hx hb dX8_remembers_66 (by decide) ?_
      refine lv_aload_n hx hb dX8_remembers_69 rfl (lv_at hl 0 rfl) ?_
      refine g_fi X hI hf fX8_7 q1451 rfl rfl dX8_remembers_70 (fun v102 hf => ?_)
      refine lv_iconst (v := (1 : Int32)) hx hb dX8_remembers_73 (by decide) ?_
      refine lv_isub hx hb dX8_remembers_74 ?_
      refine lv_imul hx hb dX8_remembers_75 ?_
      refine lv_iload_n hx hb dX8_remembers_76 rfl (lv_at hl 1 rfl) ?_
      refine lv_iadd hx hb dX8_remembers_77 ?_
      refine lv_aload_n hx hb dX8_remembers_78 rfl (lv_at hl 0 rfl) ?_
      refine g_fr X hI hf fX8_1 q1445 rfl rfl dX8_remembers_79 (fun v103 hf => ?_)
      refine lv_iload_n hx hb dX8_remembers_82 rfl (lv_at hl 1 rfl) ?_
      refine g_ai0 X hI hf dX8_remembers_83 (fun v104 hf => ?_)
      refine g_si0 X hI hf dX8_remembers_84 (fun h H locs hf hI => ?_)
      refine lv_iinc (v := (x1 + (1 : Int32))) (lv' := [(1, .int (x1 + (1 : Int32))), (0, .ref a0)]) hx hb dX8_remembers_85 hl (k := 1) rfl rfl (by decide) rfl (fun ls hl => ?_)
      refine lv_goto (tgt := 55) hx hb dX8_remembers_88 (by decide) ?_
      exact ih _ _ _ _ _ _ _ _ hf hI (lv_sub hl [1, 0] rfl)
def f_X8_remembers_53 (a0 : Nat) : gM Unit :=
    f_X8_remembers_55 gN a0 (0 : Int32)
set_option maxHeartbeats 4000000 in
set_option maxRecDepth 100000 in
theorem b_X8_remembers_53 {G : gG} {l : Launch} {p : Program} {e : Env} {s : State} {m : MethodId} {args : Array Value} {below : List Frame} {meth : Method} {c : Code} {h0 : g_H} {r : Unit} {h' : g_H} (X : gX G l yX8_remembers.cls cX8_remembers 2 none [] yX8_remembers.name p s m args meth c) : w_X8_remembers_53 G l p e s m args below meth c h0 r h' (f_X8_remembers_53) := by
  have hx := X.1
  have hb := X.2.1
  have hown := X.2.2.2.1
  have hts := X.2.2.2.2.1
  intro a0 h H locs cells slots ls hf hI hl
  unfold f_X8_remembers_53 at hf
  refine lv_iconst (v := (0 : Int32)) hx hb dX8_remembers_53 (by decide) ?_
  refine lv_istore_n (lv' := [(1, .int (0 : Int32)), (0, .ref a0)]) hx hb dX8_remembers_54 rfl hl (by decide) rfl (fun ls hl => ?_)
  exact b_X8_remembers_55 X gN _ _ _ _ _ _ _ _ hf hI (lv_sub hl [1, 0] rfl)
def f_X8_remembers_40 (a0 : Nat) : gM Unit :=
    f_X8_remembers_53 a0
set_option maxHeartbeats 4000000 in
set_option maxRecDepth 100000 in
theorem b_X8_remembers_40 {G : gG} {l : Launch} {p : Program} {e : Env} {s : State} {m : MethodId} {args : Array Value} {below : List Frame} {meth : Method} {c : Code} {h0 : g_H} {r : Unit} {h' : g_H} (X : gX G l yX8_remembers.cls cX8_remembers 2 none [] yX8_remembers.name p s m args meth c) : w_X8_remembers_40 G l p e s m args below meth c h0 r h' (f_X8_remembers_40) := by
  have hx := X.1
  have hb := X.2.1
  have hown := X.2.2.2.1
  have hts := X.2.2.2.2.1
  intro a0 h H locs cells slots ls hf hI hl
  unfold f_X8_remembers_40 at hf
  refine lv_goto (tgt := 53) hx hb dX8_remembers_40 (by decide) ?_
  exact b_X8_remembers_53 X _ _ _ _ _ _ _ hf hI (lv_sub hl [0] rfl)
def f_X8_remembers_11 : Nat → Nat → Int32 → gM Unit
  | 0, _, _ => gFail
  | n + 1, a0, x1 =>
    gIf ((3355 : Int32) ≤ x1)
    (f_X8_remembers_40 a0)
    (gB (gFR a0 7 5) fun v101 =>
    gB (gFR a0 7 5) fun v102 =>
    gB (gAI v102 0 (x1 + (305 : Int32))) fun v103 =>
    gB (gSI v101 0 x1 v103) fun _ =>
    f_X8_remembers_11 n a0 (x1 + (1 : Int32)))
set_option maxHeartbeats 4000000 in
set_option maxRecDepth 100000 in
theorem b_X8_remembers_11 {G : gG} {l : Launch} {p : Program} {e : Env} {s : State} {m : MethodId} {args : Array Value} {below : List Frame} {meth : Method} {c : Code} {h0 : g_H} {r : Unit} {h' : g_H} (X : gX G l yX8_remembers.cls cX8_remembers 2 none [] yX8_remembers.name p s m args meth c) : ∀ n : Nat, w_X8_remembers_11 G l p e s m args below meth c h0 r h' (f_X8_remembers_11 n) := by
  have hx := X.1
  have hb := X.2.1
  have hown := X.2.2.2.1
  have hts := X.2.2.2.2.1
  intro n
  induction n with
  | zero =>
    intro a0 x1 h H locs cells slots ls hf hI hl
    exact (gFail_f hf).elim
  | succ n ih =>
    intro a0 x1 h H locs cells slots ls hf hI hl
    rw [f_X8_remembers_11] at hf
    refine lv_iload_n hx hb dX8_remembers_11 rfl (lv_at hl 1 rfl) ?_
    refine lv_sipush (v := (3355 : Int32)) hx hb dX8_remembers_12 (by decide) ?_
    refine lv_icmp_ge (tgt := 40) hx hb dX8_remembers_15 (by decide) (fun c15 => ?_) (fun c15 => ?_)
    · have hf := g_t c15 hf
      exact b_X8_remembers_40 X _ _ _ _ _ _ _ hf hI (lv_sub hl [0] rfl)
    · have hf := g_f c15 hf
      refine lv_aload_n hx hb dX8_remembers_18 rfl (lv_at hl 0 rfl) ?_
      refine g_fr X hI hf fX8_5 q1449 rfl rfl dX8_remembers_19 (fun v101 hf => ?_)
      refine lv_iload_n hx hb dX8_remembers_22 rfl (lv_at hl 1 rfl) ?_
      refine lv_aload_n hx hb dX8_remembers_23 rfl (lv_at hl 0 rfl) ?_
      refine g_fr X hI hf fX8_5 q1449 rfl rfl dX8_remembers_24 (fun v102 hf => ?_)
      refine lv_iload_n hx hb dX8_remembers_27 rfl (lv_at hl 1 rfl) ?_
      refine lv_sipush (v := (305 : Int32)) hx hb dX8_remembers_28 (by decide) ?_
      refine lv_iadd hx hb dX8_remembers_31 ?_
      refine g_ai0 X hI hf dX8_remembers_32 (fun v103 hf => ?_)
      refine g_si0 X hI hf dX8_remembers_33 (fun h H locs hf hI => ?_)
      refine lv_iinc (v := (x1 + (1 : Int32))) (lv' := [(1, .int (x1 + (1 : Int32))), (0, .ref a0)]) hx hb dX8_remembers_34 hl (k := 1) rfl rfl (by decide) rfl (fun ls hl => ?_)
      refine lv_goto (tgt := 11) hx hb dX8_remembers_37 (by decide) ?_
      exact ih _ _ _ _ _ _ _ _ hf hI (lv_sub hl [1, 0] rfl)
def f_X8_remembers (a0 : Nat) : gM Unit :=
    gB (gFI a0 7 7) fun v1 =>
    gIf (v1 = (12 : Int32))
    (f_X8_remembers_11 gN a0 (0 : Int32))
    (gB (gFI a0 7 7) fun v2 =>
    gB (gPI a0 7 7 (v2 + (1 : Int32))) fun _ =>
    f_X8_remembers_53 a0)
set_option maxHeartbeats 4000000 in
set_option maxRecDepth 100000 in
theorem m_X8_remembers {G : gG} {l : Launch} (hfl : l.stackTraces = false) {a0 : Nat} {h h' : g_H} {r : Unit} (hf : (f_X8_remembers a0).1 h = some (r, h')) : gMet G l yX8_remembers (Cond.code yX8_remembers cX8_remembers 2 none) 1 20 [.ref a0] h (.inl (g_wU r)) h' := by
  refine g_head hfl ((f_X8_remembers a0).2 h r h' hf) (plainFor_of_name (by decide)) (Nat.le_of_ble_eq_true rfl) (fun p e s m below meth c H locs cells slots ls X hI hl9 => ?_)
  have hl : lv_has ls 2 [(0, .ref a0)] := hl9
  have hx := X.1
  have hb := X.2.1
  have hown := X.2.2.2.1
  have hts := X.2.2.2.2.1
  unfold f_X8_remembers at hf
  refine lv_aload_n hx hb dX8_remembers_0 rfl (lv_at hl 0 rfl) ?_
  refine g_fi X hI hf fX8_7 q1451 rfl rfl dX8_remembers_1 (fun v1 hf => ?_)
  refine lv_bipush (v := (12 : Int32)) hx hb dX8_remembers_4 (by decide) ?_
  refine lv_icmp_ne (tgt := 43) hx hb dX8_remembers_6 (by decide) (fun c6 => ?_) (fun c6 => ?_)
  · have hf := g_f c6 hf
    refine lv_aload_n hx hb dX8_remembers_43 rfl (lv_at hl 0 rfl) ?_
    refine lv_dup hx hb dX8_remembers_44 rfl ?_
    refine g_fi X hI hf fX8_7 q1451 rfl rfl dX8_remembers_45 (fun v2 hf => ?_)
    refine lv_iconst (v := (1 : Int32)) hx hb dX8_remembers_48 (by decide) ?_
    refine lv_iadd hx hb dX8_remembers_49 ?_
    refine g_pi X hI hf fX8_7 q1451 rfl dX8_remembers_50 (fun h H locs hf hI => ?_)
    exact b_X8_remembers_53 X _ _ _ _ _ _ _ hf hI (lv_sub hl [0] rfl)
  · have hf := g_t c6 hf
    refine lv_iconst (v := (0 : Int32)) hx hb dX8_remembers_9 (by decide) ?_
    refine lv_istore_n (lv' := [(1, .int (0 : Int32)), (0, .ref a0)]) hx hb dX8_remembers_10 rfl hl (by decide) rfl (fun ls hl => ?_)
    exact b_X8_remembers_11 X gN _ _ _ _ _ _ _ _ hf hI (lv_sub hl [1, 0] rfl)
/-! X8_mornings -/
abbrev w_X8_mornings_88 (G : gG) (l : Launch) (p : Program) (e : Env) (s : State) (m : MethodId) (args : Array Value) (below : List Frame) (meth : Method) (c : Code) (h0 : g_H) (r : Int32) (h' : g_H) (k : Nat → Int32 → Int32 → Int32 → gM Int32) : Prop := ∀ (a0 : Nat) (x1 : Int32) (x2 : Int32) (x3 : Int32) (h : g_H) (H : Heap) (locs : List Loc) (cells slots : Nat) (ls : Array Slot), (k a0 x1 x2 x3).1 h = some (r, h') → gI G h0 h H locs cells slots → lv_has ls 4 [(0, .ref a0), (1, .int x1), (2, .int x2), (3, .int x3)] → W p l e (g_rm 4 84 h0 h') s m args below meth c H locs cells slots (gQ G below args s h0 h' (.inl (g_wI r))) (F0 m 88 ls [])
abbrev w_X8_mornings_94 (G : gG) (l : Launch) (p : Program) (e : Env) (s : State) (m : MethodId) (args : Array Value) (below : List Frame) (meth : Method) (c : Code) (h0 : g_H) (r : Int32) (h' : g_H) (k : Nat → Int32 → Int32 → gM Int32) : Prop := ∀ (a0 : Nat) (x1 : Int32) (x2 : Int32) (h : g_H) (H : Heap) (locs : List Loc) (cells slots : Nat) (ls : Array Slot), (k a0 x1 x2).1 h = some (r, h') → gI G h0 h H locs cells slots → lv_has ls 4 [(0, .ref a0), (1, .int x1), (2, .int x2)] → W p l e (g_rm 4 84 h0 h') s m args below meth c H locs cells slots (gQ G below args s h0 h' (.inl (g_wI r))) (F0 m 94 ls [])
abbrev w_X8_mornings_38 (G : gG) (l : Launch) (p : Program) (e : Env) (s : State) (m : MethodId) (args : Array Value) (below : List Frame) (meth : Method) (c : Code) (h0 : g_H) (r : Int32) (h' : g_H) (k : Nat → Int32 → Int32 → Int32 → gM Int32) : Prop := ∀ (a0 : Nat) (x1 : Int32) (x2 : Int32) (x3 : Int32) (h : g_H) (H : Heap) (locs : List Loc) (cells slots : Nat) (ls : Array Slot), (k a0 x1 x2 x3).1 h = some (r, h') → gI G h0 h H locs cells slots → lv_has ls 4 [(0, .ref a0), (1, .int x1), (2, .int x2), (3, .int x3)] → W p l e (g_rm 4 84 h0 h') s m args below meth c H locs cells slots (gQ G below args s h0 h' (.inl (g_wI r))) (F0 m 38 ls [])
abbrev w_X8_mornings_21 (G : gG) (l : Launch) (p : Program) (e : Env) (s : State) (m : MethodId) (args : Array Value) (below : List Frame) (meth : Method) (c : Code) (h0 : g_H) (r : Int32) (h' : g_H) (k : Nat → Int32 → Nat → Int32 → gM Int32) : Prop := ∀ (a0 : Nat) (x1 : Int32) (b0 : Nat) (u1 : Int32) (h : g_H) (H : Heap) (locs : List Loc) (cells slots : Nat) (ls : Array Slot), (k a0 x1 b0 u1).1 h = some (r, h') → gI G h0 h H locs cells slots → lv_has ls 4 [(0, .ref a0), (1, .int x1)] → W p l e (g_rm 4 84 h0 h') s m args below meth c H locs cells slots (gQ G below args s h0 h' (.inl (g_wI r))) (F0 m 21 ls [.int u1, .ref b0])
def f_X8_mornings_88 (k38 : Nat → Int32 → Int32 → Int32 → gM Int32) (a0 : Nat) (x1 : Int32) (x2 : Int32) (x3 : Int32) : gM Int32 :=
    k38 a0 x1 x2 (x3 + (1 : Int32))
set_option maxHeartbeats 4000000 in
set_option maxRecDepth 100000 in
theorem b_X8_mornings_88 {G : gG} {l : Launch} {p : Program} {e : Env} {s : State} {m : MethodId} {args : Array Value} {below : List Frame} {meth : Method} {c : Code} {h0 : g_H} {r : Int32} {h' : g_H} (X : gX G l yX8_mornings.cls cX8_mornings 4 (some .int) [] yX8_mornings.name p s m args meth c) {k38 : Nat → Int32 → Int32 → Int32 → gM Int32} (K38 : w_X8_mornings_38 G l p e s m args below meth c h0 r h' k38) : w_X8_mornings_88 G l p e s m args below meth c h0 r h' (f_X8_mornings_88 k38) := by
  have hx := X.1
  have hb := X.2.1
  have hown := X.2.2.2.1
  have hts := X.2.2.2.2.1
  intro a0 x1 x2 x3 h H locs cells slots ls hf hI hl
  unfold f_X8_mornings_88 at hf
  refine lv_iinc (v := (x3 + (1 : Int32))) (lv' := [(3, .int (x3 + (1 : Int32))), (0, .ref a0), (1, .int x1), (2, .int x2)]) hx hb dX8_mornings_88 hl (k := 3) rfl rfl (by decide) rfl (fun ls hl => ?_)
  refine lv_goto (tgt := 38) hx hb dX8_mornings_91 (by decide) ?_
  exact K38 _ _ _ _ _ _ _ _ _ _ hf hI (lv_sub hl [1, 2, 3, 0] rfl)
def f_X8_mornings_94 (a0 : Nat) (x1 : Int32) (x2 : Int32) : gM Int32 :=
    gB (gFR a0 7 1) fun v101 =>
    gB (gFR a0 7 1) fun v102 =>
    gB (gAI v102 0 (4 : Int32)) fun v103 =>
    gB (f_J13_min (9999 : Int32) (v103 + x1)) fun r104 =>
    gB (gSI v101 0 (4 : Int32) r104) fun _ =>
    (gRet x2)
set_option maxHeartbeats 4000000 in
set_option maxRecDepth 100000 in
theorem b_X8_mornings_94 {G : gG} {l : Launch} {p : Program} {e : Env} {s : State} {m : MethodId} {args : Array Value} {below : List Frame} {meth : Method} {c : Code} {h0 : g_H} {r : Int32} {h' : g_H} (X : gX G l yX8_mornings.cls cX8_mornings 4 (some .int) [] yX8_mornings.name p s m args meth c) : w_X8_mornings_94 G l p e s m args below meth c h0 r h' (f_X8_mornings_94) := by
  have hx := X.1
  have hb := X.2.1
  have hown := X.2.2.2.1
  have hts := X.2.2.2.2.1
  intro a0 x1 x2 h H locs cells slots ls hf hI hl
  unfold f_X8_mornings_94 at hf
  refine lv_aload_n hx hb dX8_mornings_94 rfl (lv_at hl 0 rfl) ?_
  refine g_fr X hI hf fX8_1 q1445 rfl rfl dX8_mornings_95 (fun v101 hf => ?_)
  refine lv_iconst (v := (4 : Int32)) hx hb dX8_mornings_98 (by decide) ?_
  refine lv_sipush (v := (9999 : Int32)) hx hb dX8_mornings_99 (by decide) ?_
  refine lv_aload_n hx hb dX8_mornings_102 rfl (lv_at hl 0 rfl) ?_
  refine g_fr X hI hf fX8_1 q1445 rfl rfl dX8_mornings_103 (fun v102 hf => ?_)
  refine lv_iconst (v := (4 : Int32)) hx hb dX8_mornings_106 (by decide) ?_
  refine g_ai0 X hI hf dX8_mornings_107 (fun v103 hf => ?_)
  refine lv_iload_n hx hb dX8_mornings_108 rfl (lv_at hl 1 rfl) ?_
  refine lv_iadd hx hb dX8_mornings_109 ?_
  refine g_cBI hI hf (fun v9 h9 e9 l9 l9' => g_rS (b := 0) X hI l9 l9' ⟨Nat.le_refl _, Nat.le_refl _⟩ (As := [.int (9999 : Int32), .int (v103 + x1)]) (m_J13_min X.2.2.2.2.2.2.2.2.2.2.1 e9) ydJ13_min q1845 q740 q151 q741 rfl (Nat.le_of_ble_eq_true rfl) (Nat.le_of_ble_eq_true rfl) hl.1 rfl (Nat.le_of_ble_eq_true rfl) dX8_mornings_110) (fun r104 h H locs cells slots hf hI => ?_)
  refine g_si0 X hI hf dX8_mornings_113 (fun h H locs hf hI => ?_)
  refine lv_iload_n hx hb dX8_mornings_114 rfl (lv_at hl 2 rfl) ?_
  cases gRet_e hf
  exact g_retI X hI rfl dX8_mornings_115
def f_X8_mornings_38 : Nat → Nat → Int32 → Int32 → Int32 → gM Int32
  | 0, _, _, _, _ => gFail
  | n + 1, a0, x1, x2, x3 =>
    gB (gCk a0 7) fun _ =>
    gB (f_X8_props a0) fun r101 =>
    gIf (r101 ≤ x3)
    (f_X8_mornings_94 a0 x1 x2)
    (gB (gCk a0 7) fun _ =>
    gB (f_X8_isNailed a0 x3) fun r102 =>
    gIf (r102 = 0)
    (f_X8_mornings_88 (f_X8_mornings_38 n) a0 x1 x2 x3)
    (gB (gFR a0 7 1) fun v103 =>
    gB (f_X8_propAt x3 (2 : Int32)) fun r104 =>
    gB (gCk a0 7) fun _ =>
    gB (f_X8_ofProp a0 x3 (2 : Int32)) fun r105 =>
    gB (f_J13_max (0 : Int32) (r105 - x1)) fun r106 =>
    gB (gSI v103 0 r104 r106) fun _ =>
    gB (gCk a0 7) fun _ =>
    gB (f_X8_ofProp a0 x3 (2 : Int32)) fun r107 =>
    f_X8_mornings_88 (f_X8_mornings_38 n) a0 x1 (x2 + r107) x3))
set_option maxHeartbeats 4000000 in
set_option maxRecDepth 100000 in
theorem b_X8_mornings_38 {G : gG} {l : Launch} {p : Program} {e : Env} {s : State} {m : MethodId} {args : Array Value} {below : List Frame} {meth : Method} {c : Code} {h0 : g_H} {r : Int32} {h' : g_H} (X : gX G l yX8_mornings.cls cX8_mornings 4 (some .int) [] yX8_mornings.name p s m args meth c) : ∀ n : Nat, w_X8_mornings_38 G l p e s m args below meth c h0 r h' (f_X8_mornings_38 n) := by
  have hx := X.1
  have hb := X.2.1
  have hown := X.2.2.2.1
  have hts := X.2.2.2.2.1
  intro n
  induction n with
  | zero =>
    intro a0 x1 x2 x3 h H locs cells slots ls hf hI hl
    exact (gFail_f hf).elim
  | succ n ih =>
    intro a0 x1 x2 x3 h H locs cells slots ls hf hI hl
    rw [f_X8_mornings_38] at hf
    refine lv_iload_n hx hb dX8_mornings_38 rfl (lv_at hl 3 rfl) ?_
    refine lv_aload_n hx hb dX8_mornings_39 rfl (lv_at hl 0 rfl) ?_
    obtain ⟨hs, hf⟩ := gCk_b hf
    refine g_cBI hI hf (fun v9 h9 e9 l9 l9' => g_rV X hI l9 l9' ⟨Nat.le_refl _, Nat.le_refl _⟩ (As := []) (m_X8_props X.2.2.2.2.2.2.2.2.2.2.1 e9) ydX8_props hs rfl rfl q1626 q1628 qs53 q131 q1629 rfl (Nat.le_of_ble_eq_true rfl) (Nat.le_of_ble_eq_true rfl) hl.1 rfl (Nat.le_of_ble_eq_true rfl) dX8_mornings_40) (fun r101 h H locs cells slots hf hI => ?_)
    refine lv_icmp_ge (tgt := 94) hx hb dX8_mornings_43 (by decide) (fun c43 => ?_) (fun c43 => ?_)
    · have hf := g_t c43 hf
      exact b_X8_mornings_94 X _ _ _ _ _ _ _ _ _ hf hI (lv_sub hl [0, 1, 2] rfl)
    · have hf := g_f c43 hf
      refine lv_aload_n hx hb dX8_mornings_46 rfl (lv_at hl 0 rfl) ?_
      refine lv_iload_n hx hb dX8_mornings_47 rfl (lv_at hl 3 rfl) ?_
      obtain ⟨hs, hf⟩ := gCk_b hf
      refine g_cBI hI hf (fun v9 h9 e9 l9 l9' => g_rV X hI l9 l9' ⟨Nat.le_refl _, Nat.le_refl _⟩ (As := [.int x3]) (m_X8_isNailed X.2.2.2.2.2.2.2.2.2.2.1 e9) ydX8_isNailed hs rfl rfl q1850 q1852 qs92 q131 q1853 rfl (Nat.le_of_ble_eq_true rfl) (Nat.le_of_ble_eq_true rfl) hl.1 rfl (Nat.le_of_ble_eq_true rfl) dX8_mornings_48) (fun r102 h H locs cells slots hf hI => ?_)
      refine lv_if_ne (tgt := 57) hx hb dX8_mornings_51 (by decide) (fun c51 => ?_) (fun c51 => ?_)
      · have hf := g_f c51 hf
        refine lv_aload_n hx hb dX8_mornings_57 rfl (lv_at hl 0 rfl) ?_
        refine g_fr X hI hf fX8_1 q1445 rfl rfl dX8_mornings_58 (fun v103 hf => ?_)
        refine lv_iload_n hx hb dX8_mornings_61 rfl (lv_at hl 3 rfl) ?_
        refine lv_iconst (v := (2 : Int32)) hx hb dX8_mornings_62 (by decide) ?_
        refine g_cBI hI hf (fun v9 h9 e9 l9 l9' => g_rS (b := 0) X hI l9 l9' ⟨Nat.le_refl _, Nat.le_refl _⟩ (As := [.int x3, .int (2 : Int32)]) (m_X8_propAt X.2.2.2.2.2.2.2.2.2.2.1 e9) ydX8_propAt q1663 q1664 q131 q1665 rfl (Nat.le_of_ble_eq_true rfl) (Nat.le_of_ble_eq_true rfl) hl.1 rfl (Nat.le_of_ble_eq_true rfl) dX8_mornings_63) (fun r104 h H locs cells slots hf hI => ?_)
        refine lv_iconst (v := (0 : Int32)) hx hb dX8_mornings_66 (by decide) ?_
        refine lv_aload_n hx hb dX8_mornings_67 rfl (lv_at hl 0 rfl) ?_
        refine lv_iload_n hx hb dX8_mornings_68 rfl (lv_at hl 3 rfl) ?_
        refine lv_iconst (v := (2 : Int32)) hx hb dX8_mornings_69 (by decide) ?_
        obtain ⟨hs, hf⟩ := gCk_b hf
        refine g_cBI hI hf (fun v9 h9 e9 l9 l9' => g_rV X hI l9 l9' ⟨Nat.le_refl _, Nat.le_refl _⟩ (As := [.int x3, .int (2 : Int32)]) (m_X8_ofProp X.2.2.2.2.2.2.2.2.2.2.1 e9) ydX8_ofProp hs rfl rfl q1659 q1661 qs59 q131 q1662 rfl (Nat.le_of_ble_eq_true rfl) (Nat.le_of_ble_eq_true rfl) hl.1 rfl (Nat.le_of_ble_eq_true rfl) dX8_mornings_70) (fun r105 h H locs cells slots hf hI => ?_)
        refine lv_iload_n hx hb dX8_mornings_73 rfl (lv_at hl 1 rfl) ?_
        refine lv_isub hx hb dX8_mornings_74 ?_
        refine g_cBI hI hf (fun v9 h9 e9 l9 l9' => g_rS (b := 0) X hI l9 l9' ⟨Nat.le_refl _, Nat.le_refl _⟩ (As := [.int (0 : Int32), .int (r105 - x1)]) (m_J13_max X.2.2.2.2.2.2.2.2.2.2.1 e9) ydJ13_max q1799 q564 q151 q565 rfl (Nat.le_of_ble_eq_true rfl) (Nat.le_of_ble_eq_true rfl) hl.1 rfl (Nat.le_of_ble_eq_true rfl) dX8_mornings_75) (fun r106 h H locs cells slots hf hI => ?_)
        refine g_si0 X hI hf dX8_mornings_78 (fun h H locs hf hI => ?_)
        refine lv_iload_n hx hb dX8_mornings_79 rfl (lv_at hl 2 rfl) ?_
        refine lv_aload_n hx hb dX8_mornings_80 rfl (lv_at hl 0 rfl) ?_
        refine lv_iload_n hx hb dX8_mornings_81 rfl (lv_at hl 3 rfl) ?_
        refine lv_iconst (v := (2 : Int32)) hx hb dX8_mornings_82 (by decide) ?_
        obtain ⟨hs, hf⟩ := gCk_b hf
        refine g_cBI hI hf (fun v9 h9 e9 l9 l9' => g_rV X hI l9 l9' ⟨Nat.le_refl _, Nat.le_refl _⟩ (As := [.int x3, .int (2 : Int32)]) (m_X8_ofProp X.2.2.2.2.2.2.2.2.2.2.1 e9) ydX8_ofProp hs rfl rfl q1659 q1661 qs59 q131 q1662 rfl (Nat.le_of_ble_eq_true rfl) (Nat.le_of_ble_eq_true rfl) hl.1 rfl (Nat.le_of_ble_eq_true rfl) dX8_mornings_83) (fun r107 h H locs cells slots hf hI => ?_)
        refine lv_iadd hx hb dX8_mornings_86 ?_
        refine lv_istore_n (lv' := [(2, .int (x2 + r107)), (0, .ref a0), (1, .int x1), (3, .int x3)]) hx hb dX8_mornings_87 rfl hl (by decide) rfl (fun ls hl => ?_)
        exact b_X8_mornings_88 X ih _ _ _ _ _ _ _ _ _ _ hf hI (lv_sub hl [1, 2, 0, 3] rfl)
      · have hf := g_t c51 hf
        refine lv_goto (tgt := 88) hx hb dX8_mornings_54 (by decide) ?_
        exact b_X8_mornings_88 X ih _ _ _ _ _ _ _ _ _ _ hf hI (lv_sub hl [0, 1, 2, 3] rfl)
def f_X8_mornings_21 (a0 : Nat) (x1 : Int32) (b0 : Nat) (u1 : Int32) : gM Int32 :=
    gB (gCk b0 7) fun _ =>
    gB (f_X8_throwsIf b0 u1 (1 : Int32)) fun r101 =>
    gIf (r101 = 0)
    (gB (gCk a0 7) fun _ =>
    gB (f_X8_remembers a0) fun _ =>
    f_X8_mornings_38 gN a0 x1 (0 : Int32) (0 : Int32))
    ((gRet (0 : Int32)))
set_option maxHeartbeats 4000000 in
set_option maxRecDepth 100000 in
theorem b_X8_mornings_21 {G : gG} {l : Launch} {p : Program} {e : Env} {s : State} {m : MethodId} {args : Array Value} {below : List Frame} {meth : Method} {c : Code} {h0 : g_H} {r : Int32} {h' : g_H} (X : gX G l yX8_mornings.cls cX8_mornings 4 (some .int) [] yX8_mornings.name p s m args meth c) : w_X8_mornings_21 G l p e s m args below meth c h0 r h' (f_X8_mornings_21) := by
  have hx := X.1
  have hb := X.2.1
  have hown := X.2.2.2.1
  have hts := X.2.2.2.2.1
  intro a0 x1 b0 u1 h H locs cells slots ls hf hI hl
  unfold f_X8_mornings_21 at hf
  refine lv_iconst (v := (1 : Int32)) hx hb dX8_mornings_21 (by decide) ?_
  obtain ⟨hs, hf⟩ := gCk_b hf
  refine g_cBI hI hf (fun v9 h9 e9 l9 l9' => g_rV X hI l9 l9' ⟨Nat.le_refl _, Nat.le_refl _⟩ (As := [.int u1, .int (1 : Int32)]) (m_X8_throwsIf X.2.2.2.2.2.2.2.2.2.2.1 e9) ydX8_throwsIf hs rfl rfl q1736 q1738 qs72 q131 q1739 rfl (Nat.le_of_ble_eq_true rfl) (Nat.le_of_ble_eq_true rfl) hl.1 rfl (Nat.le_of_ble_eq_true rfl) dX8_mornings_22) (fun r101 h H locs cells slots hf hI => ?_)
  refine lv_if_eq (tgt := 30) hx hb dX8_mornings_25 (by decide) (fun c25 => ?_) (fun c25 => ?_)
  · have hf := g_t c25 hf
    refine lv_aload_n hx hb dX8_mornings_30 rfl (lv_at hl 0 rfl) ?_
    obtain ⟨hs, hf⟩ := gCk_b hf
    refine g_cBU hI hf (fun v9 h9 e9 l9 l9' => g_rV X hI l9 l9' ⟨Nat.le_refl _, Nat.le_refl _⟩ (As := []) (m_X8_remembers X.2.2.2.2.2.2.2.2.2.2.1 e9) ydX8_remembers hs rfl rfl q1808 q1810 qs83 q131 q1811 rfl (Nat.le_of_ble_eq_true rfl) (Nat.le_of_ble_eq_true rfl) hl.1 rfl (Nat.le_of_ble_eq_true rfl) dX8_mornings_31) (fun r102 h H locs cells slots hf hI => ?_)
    refine lv_iconst (v := (0 : Int32)) hx hb dX8_mornings_34 (by decide) ?_
    refine lv_istore_n (lv' := [(2, .int (0 : Int32)), (0, .ref a0), (1, .int x1)]) hx hb dX8_mornings_35 rfl hl (by decide) rfl (fun ls hl => ?_)
    refine lv_iconst (v := (0 : Int32)) hx hb dX8_mornings_36 (by decide) ?_
    refine lv_istore_n (lv' := [(3, .int (0 : Int32)), (2, .int (0 : Int32)), (0, .ref a0), (1, .int x1)]) hx hb dX8_mornings_37 rfl hl (by decide) rfl (fun ls hl => ?_)
    exact b_X8_mornings_38 X gN _ _ _ _ _ _ _ _ _ _ hf hI (lv_sub hl [2, 3, 1, 0] rfl)
  · have hf := g_f c25 hf
    refine lv_iconst (v := (0 : Int32)) hx hb dX8_mornings_28 (by decide) ?_
    cases gRet_e hf
    exact g_retI X hI rfl dX8_mornings_29
def f_X8_mornings (a0 : Nat) (x1 : Int32) : gM Int32 :=
    gB (gPI a0 7 0 (0 : Int32)) fun _ =>
    gB (f_X8_in x1 (1 : Int32) (60 : Int32)) fun r1 =>
    gIf (r1 = 0)
    (f_X8_mornings_21 a0 x1 a0 (1 : Int32))
    (f_X8_mornings_21 a0 x1 a0 (0 : Int32))
set_option maxHeartbeats 4000000 in
set_option maxRecDepth 100000 in
theorem m_X8_mornings {G : gG} {l : Launch} (hfl : l.stackTraces = false) {a0 : Nat} {x1 : Int32} {h h' : g_H} {r : Int32} (hf : (f_X8_mornings a0 x1).1 h = some (r, h')) : gMet G l yX8_mornings (Cond.code yX8_mornings cX8_mornings 4 (some .int)) 4 84 [.ref a0, .int x1] h (.inl (g_wI r)) h' := by
  refine g_head hfl ((f_X8_mornings a0 x1).2 h r h' hf) (plainFor_of_name (by decide)) (Nat.le_of_ble_eq_true rfl) (fun p e s m below meth c H locs cells slots ls X hI hl9 => ?_)
  have hl : lv_has ls 4 [(0, .ref a0), (1, .int x1)] := hl9
  have hx := X.1
  have hb := X.2.1
  have hown := X.2.2.2.1
  have hts := X.2.2.2.2.1
  unfold f_X8_mornings at hf
  refine lv_aload_n hx hb dX8_mornings_0 rfl (lv_at hl 0 rfl) ?_
  refine lv_iconst (v := (0 : Int32)) hx hb dX8_mornings_1 (by decide) ?_
  refine g_pi X hI hf fX8_0 q1444 rfl dX8_mornings_2 (fun h H locs hf hI => ?_)
  refine lv_aload_n hx hb dX8_mornings_5 rfl (lv_at hl 0 rfl) ?_
  refine lv_iload_n hx hb dX8_mornings_6 rfl (lv_at hl 1 rfl) ?_
  refine lv_iconst (v := (1 : Int32)) hx hb dX8_mornings_7 (by decide) ?_
  refine lv_bipush (v := (60 : Int32)) hx hb dX8_mornings_8 (by decide) ?_
  refine g_cBI hI hf (fun v9 h9 e9 l9 l9' => g_rS (b := 0) X hI l9 l9' ⟨Nat.le_refl _, Nat.le_refl _⟩ (As := [.int x1, .int (1 : Int32), .int (60 : Int32)]) (m_X8_in X.2.2.2.2.2.2.2.2.2.2.1 e9) ydX8_in q1634 q1635 q131 q1636 rfl (Nat.le_of_ble_eq_true rfl) (Nat.le_of_ble_eq_true rfl) hl.1 rfl (Nat.le_of_ble_eq_true rfl) dX8_mornings_10) (fun r1 h H locs cells slots hf hI => ?_)
  refine lv_if_ne (tgt := 20) hx hb dX8_mornings_13 (by decide) (fun c13 => ?_) (fun c13 => ?_)
  · have hf := g_f c13 hf
    refine lv_iconst (v := (0 : Int32)) hx hb dX8_mornings_20 (by decide) ?_
    exact b_X8_mornings_21 X _ _ _ _ _ _ _ _ _ _ hf hI (lv_sub hl [0, 1] rfl)
  · have hf := g_t c13 hf
    refine lv_iconst (v := (1 : Int32)) hx hb dX8_mornings_16 (by decide) ?_
    refine lv_goto (tgt := 21) hx hb dX8_mornings_17 (by decide) ?_
    exact b_X8_mornings_21 X _ _ _ _ _ _ _ _ _ _ hf hI (lv_sub hl [0, 1] rfl)
end
