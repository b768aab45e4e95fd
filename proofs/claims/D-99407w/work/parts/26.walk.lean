noncomputable section
/-! X8_usher -/
abbrev w_X8_usher_57 (G : gG) (l : Launch) (p : Program) (e : Env) (s : State) (m : MethodId) (args : Array Value) (below : List Frame) (meth : Method) (c : Code) (h0 : g_H) (r : Int32) (h' : g_H) (k : Nat → Int32 → Int32 → Int32 → Int32 → Int32 → gM Int32) : Prop := ∀ (a0 : Nat) (x1 : Int32) (x3 : Int32) (x4 : Int32) (u0 : Int32) (u1 : Int32) (h : g_H) (H : Heap) (locs : List Loc) (cells slots : Nat) (ls : Array Slot), (k a0 x1 x3 x4 u0 u1).1 h = some (r, h') → gI G h0 h H locs cells slots → lv_has ls 5 [(0, .ref a0), (1, .int x1), (3, .int x3), (4, .int x4)] → W p l e (g_rm 13 299 h0 h') s m args below meth c H locs cells slots (gQ G below args s h0 h' (.inl (g_wI r))) (F0 m 57 ls [.int u1, .int u0])
abbrev w_X8_usher_65 (G : gG) (l : Launch) (p : Program) (e : Env) (s : State) (m : MethodId) (args : Array Value) (below : List Frame) (meth : Method) (c : Code) (h0 : g_H) (r : Int32) (h' : g_H) (k : Nat → Int32 → Int32 → Int32 → gM Int32) : Prop := ∀ (a0 : Nat) (x1 : Int32) (x2 : Int32) (x3 : Int32) (h : g_H) (H : Heap) (locs : List Loc) (cells slots : Nat) (ls : Array Slot), (k a0 x1 x2 x3).1 h = some (r, h') → gI G h0 h H locs cells slots → lv_has ls 5 [(0, .ref a0), (1, .int x1), (2, .int x2), (3, .int x3)] → W p l e (g_rm 13 299 h0 h') s m args below meth c H locs cells slots (gQ G below args s h0 h' (.inl (g_wI r))) (F0 m 65 ls [])
abbrev w_X8_usher_33 (G : gG) (l : Launch) (p : Program) (e : Env) (s : State) (m : MethodId) (args : Array Value) (below : List Frame) (meth : Method) (c : Code) (h0 : g_H) (r : Int32) (h' : g_H) (k : Nat → Int32 → Int32 → Int32 → Int32 → gM Int32) : Prop := ∀ (a0 : Nat) (x1 : Int32) (x2 : Int32) (x3 : Int32) (x4 : Int32) (h : g_H) (H : Heap) (locs : List Loc) (cells slots : Nat) (ls : Array Slot), (k a0 x1 x2 x3 x4).1 h = some (r, h') → gI G h0 h H locs cells slots → lv_has ls 5 [(0, .ref a0), (1, .int x1), (2, .int x2), (3, .int x3), (4, .int x4)] → W p l e (g_rm 13 299 h0 h') s m args below meth c H locs cells slots (gQ G below args s h0 h' (.inl (g_wI r))) (F0 m 33 ls [])
abbrev w_X8_usher_71 (G : gG) (l : Launch) (p : Program) (e : Env) (s : State) (m : MethodId) (args : Array Value) (below : List Frame) (meth : Method) (c : Code) (h0 : g_H) (r : Int32) (h' : g_H) (k : Int32 → gM Int32) : Prop := ∀ (x2 : Int32) (h : g_H) (H : Heap) (locs : List Loc) (cells slots : Nat) (ls : Array Slot), (k x2).1 h = some (r, h') → gI G h0 h H locs cells slots → lv_has ls 5 [(2, .int x2)] → W p l e (g_rm 13 299 h0 h') s m args below meth c H locs cells slots (gQ G below args s h0 h' (.inl (g_wI r))) (F0 m 71 ls [])
abbrev w_X8_usher_24 (G : gG) (l : Launch) (p : Program) (e : Env) (s : State) (m : MethodId) (args : Array Value) (below : List Frame) (meth : Method) (c : Code) (h0 : g_H) (r : Int32) (h' : g_H) (k : Nat → Int32 → Int32 → Int32 → gM Int32) : Prop := ∀ (a0 : Nat) (x1 : Int32) (x2 : Int32) (x3 : Int32) (h : g_H) (H : Heap) (locs : List Loc) (cells slots : Nat) (ls : Array Slot), (k a0 x1 x2 x3).1 h = some (r, h') → gI G h0 h H locs cells slots → lv_has ls 5 [(0, .ref a0), (1, .int x1), (2, .int x2), (3, .int x3)] → W p l e (g_rm 13 299 h0 h') s m args below meth c H locs cells slots (gQ G below args s h0 h' (.inl (g_wI r))) (F0 m 24 ls [])
def f_X8_usher_57 (k33 : Nat → Int32 → Int32 → Int32 → Int32 → gM Int32) (a0 : Nat) (x1 : Int32) (x3 : Int32) (x4 : Int32) (u0 : Int32) (u1 : Int32) : gM Int32 :=
    k33 a0 x1 (u0 + u1) x3 (x4 + (1 : Int32))
set_option maxHeartbeats 4000000 in
set_option maxRecDepth 100000 in
theorem b_X8_usher_57 {G : gG} {l : Launch} {p : Program} {e : Env} {s : State} {m : MethodId} {args : Array Value} {below : List Frame} {meth : Method} {c : Code} {h0 : g_H} {r : Int32} {h' : g_H} (X : gX G l yX8_usher.cls cX8_usher 5 (some .int) [] yX8_usher.name p s m args meth c) {k33 : Nat → Int32 → Int32 → Int32 → Int32 → gM Int32} (K33 : w_X8_usher_33 G l p e s m args below meth c h0 r h' k33) : w_X8_usher_57 G l p e s m args below meth c h0 r h' (f_X8_usher_57 k33) := by
  have hx := X.1
  have hb := X.2.1
  have hown := X.2.2.2.1
  have hts := X.2.2.2.2.1
  intro a0 x1 x3 x4 u0 u1 h H locs cells slots ls hf hI hl
  unfold f_X8_usher_57 at hf
  refine lv_iadd hx hb dX8_usher_57 ?_
  refine lv_istore_n (lv' := [(2, .int (u0 + u1)), (0, .ref a0), (1, .int x1), (3, .int x3), (4, .int x4)]) hx hb dX8_usher_58 rfl hl (by decide) rfl (fun ls hl => ?_)
  refine lv_iinc (v := (x4 + (1 : Int32))) (lv' := [(4, .int (x4 + (1 : Int32))), (2, .int (u0 + u1)), (0, .ref a0), (1, .int x1), (3, .int x3)]) hx hb dX8_usher_59 hl (k := 4) rfl rfl (by decide) rfl (fun ls hl => ?_)
  refine lv_goto (tgt := 33) hx hb dX8_usher_62 (by decide) ?_
  exact K33 _ _ _ _ _ _ _ _ _ _ _ hf hI (lv_sub hl [2, 3, 1, 4, 0] rfl)
def f_X8_usher_65 (k24 : Nat → Int32 → Int32 → Int32 → gM Int32) (a0 : Nat) (x1 : Int32) (x2 : Int32) (x3 : Int32) : gM Int32 :=
    k24 a0 x1 x2 (x3 + (1 : Int32))
set_option maxHeartbeats 4000000 in
set_option maxRecDepth 100000 in
theorem b_X8_usher_65 {G : gG} {l : Launch} {p : Program} {e : Env} {s : State} {m : MethodId} {args : Array Value} {below : List Frame} {meth : Method} {c : Code} {h0 : g_H} {r : Int32} {h' : g_H} (X : gX G l yX8_usher.cls cX8_usher 5 (some .int) [] yX8_usher.name p s m args meth c) {k24 : Nat → Int32 → Int32 → Int32 → gM Int32} (K24 : w_X8_usher_24 G l p e s m args below meth c h0 r h' k24) : w_X8_usher_65 G l p e s m args below meth c h0 r h' (f_X8_usher_65 k24) := by
  have hx := X.1
  have hb := X.2.1
  have hown := X.2.2.2.1
  have hts := X.2.2.2.2.1
  intro a0 x1 x2 x3 h H locs cells slots ls hf hI hl
  unfold f_X8_usher_65 at hf
  refine lv_iinc (v := (x3 + (1 : Int32))) (lv' := [(3, .int (x3 + (1 : Int32))), (0, .ref a0), (1, .int x1), (2, .int x2)]) hx hb dX8_usher_65 hl (k := 3) rfl rfl (by decide) rfl (fun ls hl => ?_)
  refine lv_goto (tgt := 24) hx hb dX8_usher_68 (by decide) ?_
  exact K24 _ _ _ _ _ _ _ _ _ _ hf hI (lv_sub hl [1, 2, 3, 0] rfl)
def f_X8_usher_33 (k24 : Nat → Int32 → Int32 → Int32 → gM Int32) : Nat → Nat → Int32 → Int32 → Int32 → Int32 → gM Int32
  | 0, _, _, _, _, _ => gFail
  | n + 1, a0, x1, x2, x3, x4 =>
    gIf ((8 : Int32) < x4)
    (f_X8_usher_65 k24 a0 x1 x2 x3)
    (gB (gCk a0 7) fun _ =>
    gB (f_X8_rests a0 x1 x3 x4) fun r101 =>
    gIf (r101 = 0)
    (f_X8_usher_57 (f_X8_usher_33 k24 n) a0 x1 x3 x4 x2 (0 : Int32))
    (f_X8_usher_57 (f_X8_usher_33 k24 n) a0 x1 x3 x4 x2 (1 : Int32)))
set_option maxHeartbeats 4000000 in
set_option maxRecDepth 100000 in
theorem b_X8_usher_33 {G : gG} {l : Launch} {p : Program} {e : Env} {s : State} {m : MethodId} {args : Array Value} {below : List Frame} {meth : Method} {c : Code} {h0 : g_H} {r : Int32} {h' : g_H} (X : gX G l yX8_usher.cls cX8_usher 5 (some .int) [] yX8_usher.name p s m args meth c) {k24 : Nat → Int32 → Int32 → Int32 → gM Int32} (K24 : w_X8_usher_24 G l p e s m args below meth c h0 r h' k24) : ∀ n : Nat, w_X8_usher_33 G l p e s m args below meth c h0 r h' (f_X8_usher_33 k24 n) := by
  have hx := X.1
  have hb := X.2.1
  have hown := X.2.2.2.1
  have hts := X.2.2.2.2.1
  intro n
  induction n with
  | zero =>
    intro a0 x1 x2 x3 x4 h H locs cells slots ls hf hI hl
    exact (gFail_f hf).elim
  | succ n ih =>
    intro a0 x1 x2 x3 x4 h H locs cells slots ls hf hI hl
    rw [f_X8_usher_33] at hf
    refine lv_iload hx hb dX8_usher_33 (lv_at hl 4 rfl) ?_
    refine lv_bipush (v := (8 : Int32)) hx hb dX8_usher_35 (by decide) ?_
    refine lv_icmp_gt (tgt := 65) hx hb dX8_usher_37 (by decide) (fun c37 => ?_) (fun c37 => ?_)
    · have hf := g_t c37 hf
      exact b_X8_usher_65 X K24 _ _ _ _ _ _ _ _ _ _ hf hI (lv_sub hl [0, 1, 2, 3] rfl)
    · have hf := g_f c37 hf
      refine lv_iload_n hx hb dX8_usher_40 rfl (lv_at hl 2 rfl) ?_
      refine lv_aload_n hx hb dX8_usher_41 rfl (lv_at hl 0 rfl) ?_
      refine lv_iload_n hx hb dX8_usher_42 rfl (lv_at hl 1 rfl) ?_
      refine lv_iload_n hx hb dX8_usher_43 rfl (lv_at hl 3 rfl) ?_
      refine lv_iload hx hb dX8_usher_44 (lv_at hl 4 rfl) ?_
      obtain ⟨hs, hf⟩ := gCk_b hf
      refine g_cBI hI hf (fun v9 h9 e9 l9 l9' => g_rV X hI l9 l9' ⟨Nat.le_refl _, Nat.le_refl _⟩ (As := [.int x1, .int x3, .int x4]) (m_X8_rests X.2.2.2.2.2.2.2.2.2.2.1 e9) ydX8_rests hs rfl rfl q2025 q2027 qs110 q131 q2028 rfl (Nat.le_of_ble_eq_true rfl) (Nat.le_of_ble_eq_true rfl) hl.1 rfl (Nat.le_of_ble_eq_true rfl) dX8_usher_46) (fun r101 h H locs cells slots hf hI => ?_)
      refine lv_if_eq (tgt := 56) hx hb dX8_usher_49 (by decide) (fun c49 => ?_) (fun c49 => ?_)
      · have hf := g_t c49 hf
        refine lv_iconst (v := (0 : Int32)) hx hb dX8_usher_56 (by decide) ?_
        exact b_X8_usher_57 X ih _ _ _ _ _ _ _ _ _ _ _ _ hf hI (lv_sub hl [0, 1, 3, 4] rfl)
      · have hf := g_f c49 hf
        refine lv_iconst (v := (1 : Int32)) hx hb dX8_usher_52 (by decide) ?_
        refine lv_goto (tgt := 57) hx hb dX8_usher_53 (by decide) ?_
        exact b_X8_usher_57 X ih _ _ _ _ _ _ _ _ _ _ _ _ hf hI (lv_sub hl [0, 1, 3, 4] rfl)
def f_X8_usher_71 (x2 : Int32) : gM Int32 :=
    (gRet x2)
set_option maxHeartbeats 4000000 in
set_option maxRecDepth 100000 in
theorem b_X8_usher_71 {G : gG} {l : Launch} {p : Program} {e : Env} {s : State} {m : MethodId} {args : Array Value} {below : List Frame} {meth : Method} {c : Code} {h0 : g_H} {r : Int32} {h' : g_H} (X : gX G l yX8_usher.cls cX8_usher 5 (some .int) [] yX8_usher.name p s m args meth c) : w_X8_usher_71 G l p e s m args below meth c h0 r h' (f_X8_usher_71) := by
  have hx := X.1
  have hb := X.2.1
  have hown := X.2.2.2.1
  have hts := X.2.2.2.2.1
  intro x2 h H locs cells slots ls hf hI hl
  unfold f_X8_usher_71 at hf
  refine lv_iload_n hx hb dX8_usher_71 rfl (lv_at hl 0 rfl) ?_
  cases gRet_e hf
  exact g_retI X hI rfl dX8_usher_72
def f_X8_usher_24 : Nat → Nat → Int32 → Int32 → Int32 → gM Int32
  | 0, _, _, _, _ => gFail
  | n + 1, a0, x1, x2, x3 =>
    gIf ((8 : Int32) < x3)
    (f_X8_usher_71 x2)
    (f_X8_usher_33 (f_X8_usher_24 n) gN a0 x1 x2 x3 (0 : Int32))
set_option maxHeartbeats 4000000 in
set_option maxRecDepth 100000 in
theorem b_X8_usher_24 {G : gG} {l : Launch} {p : Program} {e : Env} {s : State} {m : MethodId} {args : Array Value} {below : List Frame} {meth : Method} {c : Code} {h0 : g_H} {r : Int32} {h' : g_H} (X : gX G l yX8_usher.cls cX8_usher 5 (some .int) [] yX8_usher.name p s m args meth c) : ∀ n : Nat, w_X8_usher_24 G l p e s m args below meth c h0 r h' (f_X8_usher_24 n) := by
  have hx := X.1
  have hb := X.2.1
  have hown := X.2.2.2.1
  have hts := X.2.2.2.2.1
  intro n
  induction n with
  | zero =>
    intro a0 x1 x2 x3 h H locs cells slots ls hf hI hl
    exact (gFail_f hf).elim
  | succ n ih =>
    intro a0 x1 x2 x3 h H locs cells slots ls hf hI hl
    rw [f_X8_usher_24] at hf
    refine lv_iload_n hx hb dX8_usher_24 rfl (lv_at hl 3 rfl) ?_
    refine lv_bipush (v := (8 : Int32)) hx hb dX8_usher_25 (by decide) ?_
    refine lv_icmp_gt (tgt := 71) hx hb dX8_usher_27 (by decide) (fun c27 => ?_) (fun c27 => ?_)
    · have hf := g_t c27 hf
      exact b_X8_usher_71 X _ _ _ _ _ _ _ hf hI (lv_sub hl [2] rfl)
    · have hf := g_f c27 hf
      refine lv_iconst (v := (0 : Int32)) hx hb dX8_usher_30 (by decide) ?_
      refine lv_istore (lv' := [(4, .int (0 : Int32)), (0, .ref a0), (1, .int x1), (2, .int x2), (3, .int x3)]) hx hb dX8_usher_31 hl (by decide) rfl (fun ls hl => ?_)
      exact b_X8_usher_33 X ih gN _ _ _ _ _ _ _ _ _ _ _ hf hI (lv_sub hl [1, 2, 3, 4, 0] rfl)
def f_X8_usher (a0 : Nat) (x1 : Int32) : gM Int32 :=
    gB (gPI a0 7 0 (0 : Int32)) fun _ =>
    gB (gCk a0 7) fun _ =>
    gB (f_X8_noOne a0 x1) fun r1 =>
    gB (gCk a0 7) fun _ =>
    gB (f_X8_throwsIf a0 r1 (1 : Int32)) fun r2 =>
    gIf (r2 = 0)
    (f_X8_usher_24 gN a0 x1 (0 : Int32) (0 : Int32))
    ((gRet (0 : Int32)))
set_option maxHeartbeats 4000000 in
set_option maxRecDepth 100000 in
theorem m_X8_usher {G : gG} {l : Launch} (hfl : l.stackTraces = false) {a0 : Nat} {x1 : Int32} {h h' : g_H} {r : Int32} (hf : (f_X8_usher a0 x1).1 h = some (r, h')) : gMet G l yX8_usher (Cond.code yX8_usher cX8_usher 5 (some .int)) 13 299 [.ref a0, .int x1] h (.inl (g_wI r)) h' := by
  refine g_head hfl ((f_X8_usher a0 x1).2 h r h' hf) (plainFor_of_name (by decide)) (Nat.le_of_ble_eq_true rfl) (fun p e s m below meth c H locs cells slots ls X hI hl9 => ?_)
  have hl : lv_has ls 5 [(0, .ref a0), (1, .int x1)] := hl9
  have hx := X.1
  have hb := X.2.1
  have hown := X.2.2.2.1
  have hts := X.2.2.2.2.1
  unfold f_X8_usher at hf
  refine lv_aload_n hx hb dX8_usher_0 rfl (lv_at hl 0 rfl) ?_
  refine lv_iconst (v := (0 : Int32)) hx hb dX8_usher_1 (by decide) ?_
  refine g_pi X hI hf fX8_0 q1444 rfl dX8_usher_2 (fun h H locs hf hI => ?_)
  refine lv_aload_n hx hb dX8_usher_5 rfl (lv_at hl 0 rfl) ?_
  refine lv_aload_n hx hb dX8_usher_6 rfl (lv_at hl 0 rfl) ?_
  refine lv_iload_n hx hb dX8_usher_7 rfl (lv_at hl 1 rfl) ?_
  obtain ⟨hs, hf⟩ := gCk_b hf
  refine g_cBI hI hf (fun v9 h9 e9 l9 l9' => g_rV X hI l9 l9' ⟨Nat.le_refl _, Nat.le_refl _⟩ (As := [.int x1]) (m_X8_noOne X.2.2.2.2.2.2.2.2.2.2.1 e9) ydX8_noOne hs rfl rfl q1763 q1765 qs74 q131 q1766 rfl (Nat.le_of_ble_eq_true rfl) (Nat.le_of_ble_eq_true rfl) hl.1 rfl (Nat.le_of_ble_eq_true rfl) dX8_usher_8) (fun r1 h H locs cells slots hf hI => ?_)
  refine lv_iconst (v := (1 : Int32)) hx hb dX8_usher_11 (by decide) ?_
  obtain ⟨hs, hf⟩ := gCk_b hf
  refine g_cBI hI hf (fun v9 h9 e9 l9 l9' => g_rV X hI l9 l9' ⟨Nat.le_refl _, Nat.le_refl _⟩ (As := [.int r1, .int (1 : Int32)]) (m_X8_throwsIf X.2.2.2.2.2.2.2.2.2.2.1 e9) ydX8_throwsIf hs rfl rfl q1736 q1738 qs72 q131 q1739 rfl (Nat.le_of_ble_eq_true rfl) (Nat.le_of_ble_eq_true rfl) hl.1 rfl (Nat.le_of_ble_eq_true rfl) dX8_usher_12) (fun r2 h H locs cells slots hf hI => ?_)
  refine lv_if_eq (tgt := 20) hx hb dX8_usher_15 (by decide) (fun c15 => ?_) (fun c15 => ?_)
  · have hf := g_t c15 hf
    refine lv_iconst (v := (0 : Int32)) hx hb dX8_usher_20 (by decide) ?_
    refine lv_istore_n (lv' := [(2, .int (0 : Int32)), (0, .ref a0), (1, .int x1)]) hx hb dX8_usher_21 rfl hl (by decide) rfl (fun ls hl => ?_)
    refine lv_iconst (v := (0 : Int32)) hx hb dX8_usher_22 (by decide) ?_
    refine lv_istore_n (lv' := [(3, .int (0 : Int32)), (2, .int (0 : Int32)), (0, .ref a0), (1, .int x1)]) hx hb dX8_usher_23 rfl hl (by decide) rfl (fun ls hl => ?_)
    exact b_X8_usher_24 X gN _ _ _ _ _ _ _ _ _ _ hf hI (lv_sub hl [2, 3, 1, 0] rfl)
  · have hf := g_f c15 hf
    refine lv_iconst (v := (0 : Int32)) hx hb dX8_usher_18 (by decide) ?_
    cases gRet_e hf
    exact g_retI X hI rfl dX8_usher_19
/-! X1_alike -/
abbrev w_X1_alike_90 (G : gG) (l : Launch) (p : Program) (e : Env) (s : State) (m : MethodId) (args : Array Value) (below : List Frame) (meth : Method) (c : Code) (h0 : g_H) (r : Int32) (h' : g_H) (k : Nat → Int32 → Int32 → Int32 → Int32 → gM Int32) : Prop := ∀ (a0 : Nat) (x2 : Int32) (x3 : Int32) (u0 : Int32) (u1 : Int32) (h : g_H) (H : Heap) (locs : List Loc) (cells slots : Nat) (ls : Array Slot), (k a0 x2 x3 u0 u1).1 h = some (r, h') → gI G h0 h H locs cells slots → lv_has ls 4 [(0, .ref a0), (2, .int x2), (3, .int x3)] → W p l e (g_rm 1 20 h0 h') s m args below meth c H locs cells slots (gQ G below args s h0 h' (.inl (g_wI r))) (F0 m 90 ls [.int u1, .int u0])
abbrev w_X1_alike_89 (G : gG) (l : Launch) (p : Program) (e : Env) (s : State) (m : MethodId) (args : Array Value) (below : List Frame) (meth : Method) (c : Code) (h0 : g_H) (r : Int32) (h' : g_H) (k : Nat → Int32 → Int32 → Int32 → gM Int32) : Prop := ∀ (a0 : Nat) (x2 : Int32) (x3 : Int32) (u0 : Int32) (h : g_H) (H : Heap) (locs : List Loc) (cells slots : Nat) (ls : Array Slot), (k a0 x2 x3 u0).1 h = some (r, h') → gI G h0 h H locs cells slots → lv_has ls 4 [(0, .ref a0), (2, .int x2), (3, .int x3)] → W p l e (g_rm 1 20 h0 h') s m args below meth c H locs cells slots (gQ G below args s h0 h' (.inl (g_wI r))) (F0 m 89 ls [.int u0])
abbrev w_X1_alike_98 (G : gG) (l : Launch) (p : Program) (e : Env) (s : State) (m : MethodId) (args : Array Value) (below : List Frame) (meth : Method) (c : Code) (h0 : g_H) (r : Int32) (h' : g_H) (k : Nat → Int32 → Int32 → gM Int32) : Prop := ∀ (a0 : Nat) (x1 : Int32) (x2 : Int32) (h : g_H) (H : Heap) (locs : List Loc) (cells slots : Nat) (ls : Array Slot), (k a0 x1 x2).1 h = some (r, h') → gI G h0 h H locs cells slots → lv_has ls 4 [(0, .ref a0), (1, .int x1), (2, .int x2)] → W p l e (g_rm 1 20 h0 h') s m args below meth c H locs cells slots (gQ G below args s h0 h' (.inl (g_wI r))) (F0 m 98 ls [])
abbrev w_X1_alike_19 (G : gG) (l : Launch) (p : Program) (e : Env) (s : State) (m : MethodId) (args : Array Value) (below : List Frame) (meth : Method) (c : Code) (h0 : g_H) (r : Int32) (h' : g_H) (k : Nat → Int32 → Int32 → Int32 → gM Int32) : Prop := ∀ (a0 : Nat) (x1 : Int32) (x2 : Int32) (x3 : Int32) (h : g_H) (H : Heap) (locs : List Loc) (cells slots : Nat) (ls : Array Slot), (k a0 x1 x2 x3).1 h = some (r, h') → gI G h0 h H locs cells slots → lv_has ls 4 [(0, .ref a0), (1, .int x1), (2, .int x2), (3, .int x3)] → W p l e (g_rm 1 20 h0 h') s m args below meth c H locs cells slots (gQ G below args s h0 h' (.inl (g_wI r))) (F0 m 19 ls [])
abbrev w_X1_alike_104 (G : gG) (l : Launch) (p : Program) (e : Env) (s : State) (m : MethodId) (args : Array Value) (below : List Frame) (meth : Method) (c : Code) (h0 : g_H) (r : Int32) (h' : g_H) (k : Int32 → gM Int32) : Prop := ∀ (x1 : Int32) (h : g_H) (H : Heap) (locs : List Loc) (cells slots : Nat) (ls : Array Slot), (k x1).1 h = some (r, h') → gI G h0 h H locs cells slots → lv_has ls 4 [(1, .int x1)] → W p l e (g_rm 1 20 h0 h') s m args below meth c H locs cells slots (gQ G below args s h0 h' (.inl (g_wI r))) (F0 m 104 ls [])
abbrev w_X1_alike_4 (G : gG) (l : Launch) (p : Program) (e : Env) (s : State) (m : MethodId) (args : Array Value) (below : List Frame) (meth : Method) (c : Code) (h0 : g_H) (r : Int32) (h' : g_H) (k : Nat → Int32 → Int32 → gM Int32) : Prop := ∀ (a0 : Nat) (x1 : Int32) (x2 : Int32) (h : g_H) (H : Heap) (locs : List Loc) (cells slots : Nat) (ls : Array Slot), (k a0 x1 x2).1 h = some (r, h') → gI G h0 h H locs cells slots → lv_has ls 4 [(0, .ref a0), (1, .int x1), (2, .int x2)] → W p l e (g_rm 1 20 h0 h') s m args below meth c H locs cells slots (gQ G below args s h0 h' (.inl (g_wI r))) (F0 m 4 ls [])
def f_X1_alike_90 (k19 : Nat → Int32 → Int32 → Int32 → gM Int32) (a0 : Nat) (x2 : Int32) (x3 : Int32) (u0 : Int32) (u1 : Int32) : gM Int32 :=
    k19 a0 (u0 + u1) x2 (x3 + (1 : Int32))
set_option maxHeartbeats 4000000 in
set_option maxRecDepth 100000 in
theorem b_X1_alike_90 {G : gG} {l : Launch} {p : Program} {e : Env} {s : State} {m : MethodId} {args : Array Value} {below : List Frame} {meth : Method} {c : Code} {h0 : g_H} {r : Int32} {h' : g_H} (X : gX G l yX1_alike.cls cX1_alike 4 (some .int) [] yX1_alike.name p s m args meth c) {k19 : Nat → Int32 → Int32 → Int32 → gM Int32} (K19 : w_X1_alike_19 G l p e s m args below meth c h0 r h' k19) : w_X1_alike_90 G l p e s m args below meth c h0 r h' (f_X1_alike_90 k19) := by
  have hx := X.1
  have hb := X.2.1
  have hown := X.2.2.2.1
  have hts := X.2.2.2.2.1
  intro a0 x2 x3 u0 u1 h H locs cells slots ls hf hI hl
  unfold f_X1_alike_90 at hf
  refine lv_iadd hx hb dX1_alike_90 ?_
  refine lv_istore_n (lv' := [(1, .int (u0 + u1)), (0, .ref a0), (2, .int x2), (3, .int x3)]) hx hb dX1_alike_91 rfl hl (by decide) rfl (fun ls hl => ?_)
  refine lv_iinc (v := (x3 + (1 : Int32))) (lv' := [(3, .int (x3 + (1 : Int32))), (1, .int (u0 + u1)), (0, .ref a0), (2, .int x2)]) hx hb dX1_alike_92 hl (k := 3) rfl rfl (by decide) rfl (fun ls hl => ?_)
  refine lv_goto (tgt := 19) hx hb dX1_alike_95 (by decide) ?_
  exact K19 _ _ _ _ _ _ _ _ _ _ hf hI (lv_sub hl [2, 1, 3, 0] rfl)
def f_X1_alike_89 (k19 : Nat → Int32 → Int32 → Int32 → gM Int32) (a0 : Nat) (x2 : Int32) (x3 : Int32) (u0 : Int32) : gM Int32 :=
    f_X1_alike_90 k19 a0 x2 x3 u0 (0 : Int32)
set_option maxHeartbeats 4000000 in
set_option maxRecDepth 100000 in
theorem b_X1_alike_89 {G : gG} {l : Launch} {p : Program} {e : Env} {s : State} {m : MethodId} {args : Array Value} {below : List Frame} {meth : Method} {c : Code} {h0 : g_H} {r : Int32} {h' : g_H} (X : gX G l yX1_alike.cls cX1_alike 4 (some .int) [] yX1_alike.name p s m args meth c) {k19 : Nat → Int32 → Int32 → Int32 → gM Int32} (K19 : w_X1_alike_19 G l p e s m args below meth c h0 r h' k19) : w_X1_alike_89 G l p e s m args below meth c h0 r h' (f_X1_alike_89 k19) := by
  have hx := X.1
  have hb := X.2.1
  have hown := X.2.2.2.1
  have hts := X.2.2.2.2.1
  intro a0 x2 x3 u0 h H locs cells slots ls hf hI hl
  unfold f_X1_alike_89 at hf
  refine lv_iconst (v := (0 : Int32)) hx hb dX1_alike_89 (by decide) ?_
  exact b_X1_alike_90 X K19 _ _ _ _ _ _ _ _ _ _ _ hf hI (lv_sub hl [0, 1, 2] rfl)
def f_X1_alike_98 (k4 : Nat → Int32 → Int32 → gM Int32) (a0 : Nat) (x1 : Int32) (x2 : Int32) : gM Int32 :=
    k4 a0 x1 (x2 + (1 : Int32))
set_option maxHeartbeats 4000000 in
set_option maxRecDepth 100000 in
theorem b_X1_alike_98 {G : gG} {l : Launch} {p : Program} {e : Env} {s : State} {m : MethodId} {args : Array Value} {below : List Frame} {meth : Method} {c : Code} {h0 : g_H} {r : Int32} {h' : g_H} (X : gX G l yX1_alike.cls cX1_alike 4 (some .int) [] yX1_alike.name p s m args meth c) {k4 : Nat → Int32 → Int32 → gM Int32} (K4 : w_X1_alike_4 G l p e s m args below meth c h0 r h' k4) : w_X1_alike_98 G l p e s m args below meth c h0 r h' (f_X1_alike_98 k4) := by
  have hx := X.1
  have hb := X.2.1
  have hown := X.2.2.2.1
  have hts := X.2.2.2.2.1
  intro a0 x1 x2 h H locs cells slots ls hf hI hl
  unfold f_X1_alike_98 at hf
  refine lv_iinc (v := (x2 + (1 : Int32))) (lv' := [(2, .int (x2 + (1 : Int32))), (0, .ref a0), (1, .int x1)]) hx hb dX1_alike_98 hl (k := 2) rfl rfl (by decide) rfl (fun ls hl => ?_)
  refine lv_goto (tgt := 4) hx hb dX1_alike_101 (by decide) ?_
  exact K4 _ _ _ _ _ _ _ _ _ hf hI (lv_sub hl [1, 2, 0] rfl)
def f_X1_alike_19 (k4 : Nat → Int32 → Int32 → gM Int32) : Nat → Nat → Int32 → Int32 → Int32 → gM Int32
  | 0, _, _, _, _ => gFail
  | n + 1, a0, x1, x2, x3 =>
    gB (gFR a0 0 1) fun v101 =>
    gB (gFI v101 2 7) fun v102 =>
    gIf (v102 ≤ x3)
    (f_X1_alike_98 k4 a0 x1 x2)
    (gB (gFR a0 0 1) fun v103 =>
    gB (gFR v103 2 1) fun v104 =>
    gB (gAR v104 5 x2) fun v105 =>
    gB (gFI v105 4 0) fun v106 =>
    gB (gFR a0 0 1) fun v107 =>
    gB (gFR v107 2 1) fun v108 =>
    gB (gAR v108 5 x3) fun v109 =>
    gB (gFI v109 4 0) fun v110 =>
    gIf (v106 = v110)
    (gB (gFR a0 0 1) fun v111 =>
    gB (gFR v111 2 1) fun v112 =>
    gB (gAR v112 5 x2) fun v113 =>
    gB (gFI v113 4 1) fun v114 =>
    gB (gFR a0 0 1) fun v115 =>
    gB (gFR v115 2 1) fun v116 =>
    gB (gAR v116 5 x3) fun v117 =>
    gB (gFI v117 4 1) fun v118 =>
    gIf (v114 = v118)
    (f_X1_alike_90 (f_X1_alike_19 k4 n) a0 x2 x3 x1 (1 : Int32))
    (f_X1_alike_89 (f_X1_alike_19 k4 n) a0 x2 x3 x1))
    (f_X1_alike_89 (f_X1_alike_19 k4 n) a0 x2 x3 x1))
set_option maxHeartbeats 4000000 in
set_option maxRecDepth 100000 in
theorem b_X1_alike_19 {G : gG} {l : Launch} {p : Program} {e : Env} {s : State} {m : MethodId} {args : Array Value} {below : List Frame} {meth : Method} {c : Code} {h0 : g_H} {r : Int32} {h' : g_H} (X : gX G l yX1_alike.cls cX1_alike 4 (some .int) [] yX1_alike.name p s m args meth c) {k4 : Nat → Int32 → Int32 → gM Int32} (K4 : w_X1_alike_4 G l p e s m args below meth c h0 r h' k4) : ∀ n : Nat, w_X1_alike_19 G l p e s m args below meth c h0 r h' (f_X1_alike_19 k4 n) := by
  have hx := X.1
  have hb := X.2.1
  have hown := X.2.2.2.1
  have hts := X.2.2.2.2.1
  intro n
  induction n with
  | zero =>
    intro a0 x1 x2 x3 h H locs cells slots ls hf hI hl
    exact (gFail_f hf).elim
  | succ n ih =>
    intro a0 x1 x2 x3 h H locs cells slots ls hf hI hl
    rw [f_X1_alike_19] at hf
    refine lv_iload_n hx hb dX1_alike_19 rfl (lv_at hl 3 rfl) ?_
    refine lv_aload_n hx hb dX1_alike_20 rfl (lv_at hl 0 rfl) ?_
    refine g_fr X hI hf fX1_1 q461 rfl rfl dX1_alike_21 (fun v101 hf => ?_)
    refine g_fiN X hI hf fX3_7 q271 rfl rfl dX1_alike_24 (fun v102 hf => ?_)
    refine lv_icmp_ge (tgt := 98) hx hb dX1_alike_27 (by decide) (fun c27 => ?_) (fun c27 => ?_)
    · have hf := g_t c27 hf
      exact b_X1_alike_98 X K4 _ _ _ _ _ _ _ _ _ hf hI (lv_sub hl [0, 1, 2] rfl)
    · have hf := g_f c27 hf
      refine lv_iload_n hx hb dX1_alike_30 rfl (lv_at hl 1 rfl) ?_
      refine lv_aload_n hx hb dX1_alike_31 rfl (lv_at hl 0 rfl) ?_
      refine g_fr X hI hf fX1_1 q461 rfl rfl dX1_alike_32 (fun v103 hf => ?_)
      refine g_frN X hI hf fX3_1 q257 rfl rfl dX1_alike_35 (fun v104 hf => ?_)
      refine lv_iload_n hx hb dX1_alike_38 rfl (lv_at hl 2 rfl) ?_
      refine g_ar5 X hI hf dX1_alike_39 (fun v105 hf => ?_)
      refine g_fiN X hI hf fX5_0 q230 rfl rfl dX1_alike_40 (fun v106 hf => ?_)
      refine lv_aload_n hx hb dX1_alike_43 rfl (lv_at hl 0 rfl) ?_
      refine g_fr X hI hf fX1_1 q461 rfl rfl dX1_alike_44 (fun v107 hf => ?_)
      refine g_frN X hI hf fX3_1 q257 rfl rfl dX1_alike_47 (fun v108 hf => ?_)
      refine lv_iload_n hx hb dX1_alike_50 rfl (lv_at hl 3 rfl) ?_
      refine g_ar5 X hI hf dX1_alike_51 (fun v109 hf => ?_)
      refine g_fiN X hI hf fX5_0 q230 rfl rfl dX1_alike_52 (fun v110 hf => ?_)
      refine lv_icmp_ne (tgt := 89) hx hb dX1_alike_55 (by decide) (fun c55 => ?_) (fun c55 => ?_)
      · have hf := g_f c55 hf
        exact b_X1_alike_89 X ih _ _ _ _ _ _ _ _ _ _ hf hI (lv_sub hl [0, 2, 3] rfl)
      · have hf := g_t c55 hf
        refine lv_aload_n hx hb dX1_alike_58 rfl (lv_at hl 0 rfl) ?_
        refine g_fr X hI hf fX1_1 q461 rfl rfl dX1_alike_59 (fun v111 hf => ?_)
        refine g_frN X hI hf fX3_1 q257 rfl rfl dX1_alike_62 (fun v112 hf => ?_)
        refine lv_iload_n hx hb dX1_alike_65 rfl (lv_at hl 2 rfl) ?_
        refine g_ar5 X hI hf dX1_alike_66 (fun v113 hf => ?_)
        refine g_fiN X hI hf fX5_1 q235 rfl rfl dX1_alike_67 (fun v114 hf => ?_)
        refine lv_aload_n hx hb dX1_alike_70 rfl (lv_at hl 0 rfl) ?_
        refine g_fr X hI hf fX1_1 q461 rfl rfl dX1_alike_71 (fun v115 hf => ?_)
        refine g_frN X hI hf fX3_1 q257 rfl rfl dX1_alike_74 (fun v116 hf => ?_)
        refine lv_iload_n hx hb dX1_alike_77 rfl (lv_at hl 3 rfl) ?_
        refine g_ar5 X hI hf dX1_alike_78 (fun v117 hf => ?_)
        refine g_fiN X hI hf fX5_1 q235 rfl rfl dX1_alike_79 (fun v118 hf => ?_)
        refine lv_icmp_ne (tgt := 89) hx hb dX1_alike_82 (by decide) (fun c82 => ?_) (fun c82 => ?_)
        · have hf := g_f c82 hf
          exact b_X1_alike_89 X ih _ _ _ _ _ _ _ _ _ _ hf hI (lv_sub hl [0, 2, 3] rfl)
        · have hf := g_t c82 hf
          refine lv_iconst (v := (1 : Int32)) hx hb dX1_alike_85 (by decide) ?_
          refine lv_goto (tgt := 90) hx hb dX1_alike_86 (by decide) ?_
          exact b_X1_alike_90 X ih _ _ _ _ _ _ _ _ _ _ _ hf hI (lv_sub hl [0, 2, 3] rfl)
def f_X1_alike_104 (x1 : Int32) : gM Int32 :=
    (gRet x1)
set_option maxHeartbeats 4000000 in
set_option maxRecDepth 100000 in
theorem b_X1_alike_104 {G : gG} {l : Launch} {p : Program} {e : Env} {s : State} {m : MethodId} {args : Array Value} {below : List Frame} {meth : Method} {c : Code} {h0 : g_H} {r : Int32} {h' : g_H} (X : gX G l yX1_alike.cls cX1_alike 4 (some .int) [] yX1_alike.name p s m args meth c) : w_X1_alike_104 G l p e s m args below meth c h0 r h' (f_X1_alike_104) := by
  have hx := X.1
  have hb := X.2.1
  have hown := X.2.2.2.1
  have hts := X.2.2.2.2.1
  intro x1 h H locs cells slots ls hf hI hl
  unfold f_X1_alike_104 at hf
  refine lv_iload_n hx hb dX1_alike_104 rfl (lv_at hl 0 rfl) ?_
  cases gRet_e hf
  exact g_retI X hI rfl dX1_alike_105
def f_X1_alike_4 : Nat → Nat → Int32 → Int32 → gM Int32
  | 0, _, _, _ => gFail
  | n + 1, a0, x1, x2 =>
    gB (gFR a0 0 1) fun v101 =>
    gB (gFI v101 2 7) fun v102 =>
    gIf (v102 ≤ x2)
    (f_X1_alike_104 x1)
    (f_X1_alike_19 (f_X1_alike_4 n) gN a0 x1 x2 (x2 + (1 : Int32)))
set_option maxHeartbeats 4000000 in
set_option maxRecDepth 100000 in
theorem b_X1_alike_4 {G : gG} {l : Launch} {p : Program} {e : Env} {s : State} {m : MethodId} {args : Array Value} {below : List Frame} {meth : Method} {c : Code} {h0 : g_H} {r : Int32} {h' : g_H} (X : gX G l yX1_alike.cls cX1_alike 4 (some .int) [] yX1_alike.name p s m args meth c) : ∀ n : Nat, w_X1_alike_4 G l p e s m args below meth c h0 r h' (f_X1_alike_4 n) := by
  have hx := X.1
  have hb := X.2.1
  have hown := X.2.2.2.1
  have hts := X.2.2.2.2.1
  intro n
  induction n with
  | zero =>
    intro a0 x1 x2 h H locs cells slots ls hf hI hl
    exact (gFail_f hf).elim
  | succ n ih =>
    intro a0 x1 x2 h H locs cells slots ls hf hI hl
    rw [f_X1_alike_4] at hf
    refine lv_iload_n hx hb dX1_alike_4 rfl (lv_at hl 2 rfl) ?_
    refine lv_aload_n hx hb dX1_alike_5 rfl (lv_at hl 0 rfl) ?_
    refine g_fr X hI hf fX1_1 q461 rfl rfl dX1_alike_6 (fun v101 hf => ?_)
    refine g_fiN X hI hf fX3_7 q271 rfl rfl dX1_alike_9 (fun v102 hf => ?_)
    refine lv_icmp_ge (tgt := 104) hx hb dX1_alike_12 (by decide) (fun c12 => ?_) (fun c12 => ?_)
    · have hf := g_t c12 hf
      exact b_X1_alike_104 X _ _ _ _ _ _ _ hf hI (lv_sub hl [1] rfl)
    · have hf := g_f c12 hf
      refine lv_iload_n hx hb dX1_alike_15 rfl (lv_at hl 2 rfl) ?_
      refine lv_iconst (v := (1 : Int32)) hx hb dX1_alike_16 (by decide) ?_
      refine lv_iadd hx hb dX1_alike_17 ?_
      refine lv_istore_n (lv' := [(3, .int (x2 + (1 : Int32))), (0, .ref a0), (1, .int x1), (2, .int x2)]) hx hb dX1_alike_18 rfl hl (by decide) rfl (fun ls hl => ?_)
      exact b_X1_alike_19 X ih gN _ _ _ _ _ _ _ _ _ _ hf hI (lv_sub hl [1, 2, 3, 0] rfl)
def f_X1_alike (a0 : Nat) : gM Int32 :=
    f_X1_alike_4 gN a0 (0 : Int32) (0 : Int32)
set_option maxHeartbeats 4000000 in
set_option maxRecDepth 100000 in
theorem m_X1_alike {G : gG} {l : Launch} (hfl : l.stackTraces = false) {a0 : Nat} {h h' : g_H} {r : Int32} (hf : (f_X1_alike a0).1 h = some (r, h')) : gMet G l yX1_alike (Cond.code yX1_alike cX1_alike 4 (some .int)) 1 20 [.ref a0] h (.inl (g_wI r)) h' := by
  refine g_head hfl ((f_X1_alike a0).2 h r h' hf) (plainFor_of_name (by decide)) (Nat.le_of_ble_eq_true rfl) (fun p e s m below meth c H locs cells slots ls X hI hl9 => ?_)
  have hl : lv_has ls 4 [(0, .ref a0)] := hl9
  have hx := X.1
  have hb := X.2.1
  have hown := X.2.2.2.1
  have hts := X.2.2.2.2.1
  unfold f_X1_alike at hf
  refine lv_iconst (v := (0 : Int32)) hx hb dX1_alike_0 (by decide) ?_
  refine lv_istore_n (lv' := [(1, .int (0 : Int32)), (0, .ref a0)]) hx hb dX1_alike_1 rfl hl (by decide) rfl (fun ls hl => ?_)
  refine lv_iconst (v := (0 : Int32)) hx hb dX1_alike_2 (by decide) ?_
  refine lv_istore_n (lv' := [(2, .int (0 : Int32)), (1, .int (0 : Int32)), (0, .ref a0)]) hx hb dX1_alike_3 rfl hl (by decide) rfl (fun ls hl => ?_)
  exact b_X1_alike_4 X gN _ _ _ _ _ _ _ _ _ hf hI (lv_sub hl [2, 1, 0] rfl)
/-! X8_alike -/
abbrev w_X8_alike_60 (G : gG) (l : Launch) (p : Program) (e : Env) (s : State) (m : MethodId) (args : Array Value) (below : List Frame) (meth : Method) (c : Code) (h0 : g_H) (r : Int32) (h' : g_H) (k : Nat → Int32 → Int32 → Int32 → Int32 → gM Int32) : Prop := ∀ (a0 : Nat) (x2 : Int32) (x3 : Int32) (u0 : Int32) (u1 : Int32) (h : g_H) (H : Heap) (locs : List Loc) (cells slots : Nat) (ls : Array Slot), (k a0 x2 x3 u0 u1).1 h = some (r, h') → gI G h0 h H locs cells slots → lv_has ls 4 [(0, .ref a0), (2, .int x2), (3, .int x3)] → W p l e (g_rm 3 63 h0 h') s m args below meth c H locs cells slots (gQ G below args s h0 h' (.inl (g_wI r))) (F0 m 60 ls [.int u1, .int u0])
abbrev w_X8_alike_59 (G : gG) (l : Launch) (p : Program) (e : Env) (s : State) (m : MethodId) (args : Array Value) (below : List Frame) (meth : Method) (c : Code) (h0 : g_H) (r : Int32) (h' : g_H) (k : Nat → Int32 → Int32 → Int32 → gM Int32) : Prop := ∀ (a0 : Nat) (x2 : Int32) (x3 : Int32) (u0 : Int32) (h : g_H) (H : Heap) (locs : List Loc) (cells slots : Nat) (ls : Array Slot), (k a0 x2 x3 u0).1 h = some (r, h') → gI G h0 h H locs cells slots → lv_has ls 4 [(0, .ref a0), (2, .int x2), (3, .int x3)] → W p l e (g_rm 3 63 h0 h') s m args below meth c H locs cells slots (gQ G below args s h0 h' (.inl (g_wI r))) (F0 m 59 ls [.int u0])
abbrev w_X8_alike_68 (G : gG) (l : Launch) (p : Program) (e : Env) (s : State) (m : MethodId) (args : Array Value) (below : List Frame) (meth : Method) (c : Code) (h0 : g_H) (r : Int32) (h' : g_H) (k : Nat → Int32 → Int32 → gM Int32) : Prop := ∀ (a0 : Nat) (x1 : Int32) (x2 : Int32) (h : g_H) (H : Heap) (locs : List Loc) (cells slots : Nat) (ls : Array Slot), (k a0 x1 x2).1 h = some (r, h') → gI G h0 h H locs cells slots → lv_has ls 4 [(0, .ref a0), (1, .int x1), (2, .int x2)] → W p l e (g_rm 3 63 h0 h') s m args below meth c H locs cells slots (gQ G below args s h0 h' (.inl (g_wI r))) (F0 m 68 ls [])
abbrev w_X8_alike_19 (G : gG) (l : Launch) (p : Program) (e : Env) (s : State) (m : MethodId) (args : Array Value) (below : List Frame) (meth : Method) (c : Code) (h0 : g_H) (r : Int32) (h' : g_H) (k : Nat → Int32 → Int32 → Int32 → gM Int32) : Prop := ∀ (a0 : Nat) (x1 : Int32) (x2 : Int32) (x3 : Int32) (h : g_H) (H : Heap) (locs : List Loc) (cells slots : Nat) (ls : Array Slot), (k a0 x1 x2 x3).1 h = some (r, h') → gI G h0 h H locs cells slots → lv_has ls 4 [(0, .ref a0), (1, .int x1), (2, .int x2), (3, .int x3)] → W p l e (g_rm 3 63 h0 h') s m args below meth c H locs cells slots (gQ G below args s h0 h' (.inl (g_wI r))) (F0 m 19 ls [])
abbrev w_X8_alike_74 (G : gG) (l : Launch) (p : Program) (e : Env) (s : State) (m : MethodId) (args : Array Value) (below : List Frame) (meth : Method) (c : Code) (h0 : g_H) (r : Int32) (h' : g_H) (k : Int32 → gM Int32) : Prop := ∀ (x1 : Int32) (h : g_H) (H : Heap) (locs : List Loc) (cells slots : Nat) (ls : Array Slot), (k x1).1 h = some (r, h') → gI G h0 h H locs cells slots → lv_has ls 4 [(1, .int x1)] → W p l e (g_rm 3 63 h0 h') s m args below meth c H locs cells slots (gQ G below args s h0 h' (.inl (g_wI r))) (F0 m 74 ls [])
abbrev w_X8_alike_9 (G : gG) (l : Launch) (p : Program) (e : Env) (s : State) (m : MethodId) (args : Array Value) (below : List Frame) (meth : Method) (c : Code) (h0 : g_H) (r : Int32) (h' : g_H) (k : Nat → Int32 → Int32 → gM Int32) : Prop := ∀ (a0 : Nat) (x1 : Int32) (x2 : Int32) (h : g_H) (H : Heap) (locs : List Loc) (cells slots : Nat) (ls : Array Slot), (k a0 x1 x2).1 h = some (r, h') → gI G h0 h H locs cells slots → lv_has ls 4 [(0, .ref a0), (1, .int x1), (2, .int x2)] → W p l e (g_rm 3 63 h0 h') s m args below meth c H locs cells slots (gQ G below args s h0 h' (.inl (g_wI r))) (F0 m 9 ls [])
def f_X8_alike_60 (k19 : Nat → Int32 → Int32 → Int32 → gM Int32) (a0 : Nat) (x2 : Int32) (x3 : Int32) (u0 : Int32) (u1 : Int32) : gM Int32 :=
    k19 a0 (u0 + u1) x2 (x3 + (1 : Int32))
set_option maxHeartbeats 4000000 in
set_option maxRecDepth 100000 in
theorem b_X8_alike_60 {G : gG} {l : Launch} {p : Program} {e : Env} {s : State} {m : MethodId} {args : Array Value} {below : List Frame} {meth : Method} {c : Code} {h0 : g_H} {r : Int32} {h' : g_H} (X : gX G l yX8_alike.cls cX8_alike 4 (some .int) [] yX8_alike.name p s m args meth c) {k19 : Nat → Int32 → Int32 → Int32 → gM Int32} (K19 : w_X8_alike_19 G l p e s m args below meth c h0 r h' k19) : w_X8_alike_60 G l p e s m args below meth c h0 r h' (f_X8_alike_60 k19) := by
  have hx := X.1
  have hb := X.2.1
  have hown := X.2.2.2.1
  have hts := X.2.2.2.2.1
  intro a0 x2 x3 u0 u1 h H locs cells slots ls hf hI hl
  unfold f_X8_alike_60 at hf
  refine lv_iadd hx hb dX8_alike_60 ?_
  refine lv_istore_n (lv' := [(1, .int (u0 + u1)), (0, .ref a0), (2, .int x2), (3, .int x3)]) hx hb dX8_alike_61 rfl hl (by decide) rfl (fun ls hl => ?_)
  refine lv_iinc (v := (x3 + (1 : Int32))) (lv' := [(3, .int (x3 + (1 : Int32))), (1, .int (u0 + u1)), (0, .ref a0), (2, .int x2)]) hx hb dX8_alike_62 hl (k := 3) rfl rfl (by decide) rfl (fun ls hl => ?_)
  refine lv_goto (tgt := 19) hx hb dX8_alike_65 (by decide) ?_
  exact K19 _ _ _ _ _ _ _ _ _ _ hf hI (lv_sub hl [2, 1, 3, 0] rfl)
def f_X8_alike_59 (k19 : Nat → Int32 → Int32 → Int32 → gM Int32) (a0 : Nat) (x2 : Int32) (x3 : Int32) (u0 : Int32) : gM Int32 :=
    f_X8_alike_60 k19 a0 x2 x3 u0 (0 : Int32)
set_option maxHeartbeats 4000000 in
set_option maxRecDepth 100000 in
theorem b_X8_alike_59 {G : gG} {l : Launch} {p : Program} {e : Env} {s : State} {m : MethodId} {args : Array Value} {below : List Frame} {meth : Method} {c : Code} {h0 : g_H} {r : Int32} {h' : g_H} (X : gX G l yX8_alike.cls cX8_alike 4 (some .int) [] yX8_alike.name p s m args meth c) {k19 : Nat → Int32 → Int32 → Int32 → gM Int32} (K19 : w_X8_alike_19 G l p e s m args below meth c h0 r h' k19) : w_X8_alike_59 G l p e s m args below meth c h0 r h' (f_X8_alike_59 k19) := by
  have hx := X.1
  have hb := X.2.1
  have hown := X.2.2.2.1
  have hts := X.2.2.2.2.1
  intro a0 x2 x3 u0 h H locs cells slots ls hf hI hl
  unfold f_X8_alike_59 at hf
  refine lv_iconst (v := (0 : Int32)) hx hb dX8_alike_59 (by decide) ?_
  exact b_X8_alike_60 X K19 _ _ _ _ _ _ _ _ _ _ _ hf hI (lv_sub hl [0, 1, 2] rfl)
def f_X8_alike_68 (k9 : Nat → Int32 → Int32 → gM Int32) (a0 : Nat) (x1 : Int32) (x2 : Int32) : gM Int32 :=
    k9 a0 x1 (x2 + (1 : Int32))
set_option maxHeartbeats 4000000 in
set_option maxRecDepth 100000 in
theorem b_X8_alike_68 {G : gG} {l : Launch} {p : Program} {e : Env} {s : State} {m : MethodId} {args : Array Value} {below : List Frame} {meth : Method} {c : Code} {h0 : g_H} {r : Int32} {h' : g_H} (X : gX G l yX8_alike.cls cX8_alike 4 (some .int) [] yX8_alike.name p s m args meth c) {k9 : Nat → Int32 → Int32 → gM Int32} (K9 : w_X8_alike_9 G l p e s m args below meth c h0 r h' k9) : w_X8_alike_68 G l p e s m args below meth c h0 r h' (f_X8_alike_68 k9) := by
  have hx := X.1
  have hb := X.2.1
  have hown := X.2.2.2.1
  have hts := X.2.2.2.2.1
  intro a0 x1 x2 h H locs cells slots ls hf hI hl
  unfold f_X8_alike_68 at hf
  refine lv_iinc (v := (x2 + (1 : Int32))) (lv' := [(2, .int (x2 + (1 : Int32))), (0, .ref a0), (1, .int x1)]) hx hb dX8_alike_68 hl (k := 2) rfl rfl (by decide) rfl (fun ls hl => ?_)
  refine lv_goto (tgt := 9) hx hb dX8_alike_71 (by decide) ?_
  exact K9 _ _ _ _ _ _ _ _ _ hf hI (lv_sub hl [1, 2, 0] rfl)
def f_X8_alike_19 (k9 : Nat → Int32 → Int32 → gM Int32) : Nat → Nat → Int32 → Int32 → Int32 → gM Int32
  | 0, _, _, _, _ => gFail
  | n + 1, a0, x1, x2, x3 =>
    gIf (x2 ≤ x3)
    (f_X8_alike_68 k9 a0 x1 x2)
    (gB (gCk a0 7) fun _ =>
    gB (f_X8_of a0 x2 (0 : Int32)) fun r101 =>
    gB (gCk a0 7) fun _ =>
    gB (f_X8_of a0 x3 (0 : Int32)) fun r102 =>
    gIf (r101 = r102)
    (gB (gCk a0 7) fun _ =>
    gB (f_X8_of a0 x2 (1 : Int32)) fun r103 =>
    gB (gCk a0 7) fun _ =>
    gB (f_X8_of a0 x3 (1 : Int32)) fun r104 =>
    gIf (r103 = r104)
    (f_X8_alike_60 (f_X8_alike_19 k9 n) a0 x2 x3 x1 (1 : Int32))
    (f_X8_alike_59 (f_X8_alike_19 k9 n) a0 x2 x3 x1))
    (f_X8_alike_59 (f_X8_alike_19 k9 n) a0 x2 x3 x1))
set_option maxHeartbeats 4000000 in
set_option maxRecDepth 100000 in
theorem b_X8_alike_19 {G : gG} {l : Launch} {p : Program} {e : Env} {s : State} {m : MethodId} {args : Array Value} {below : List Frame} {meth : Method} {c : Code} {h0 : g_H} {r : Int32} {h' : g_H} (X : gX G l yX8_alike.cls cX8_alike 4 (some .int) [] yX8_alike.name p s m args meth c) {k9 : Nat → Int32 → Int32 → gM Int32} (K9 : w_X8_alike_9 G l p e s m args below meth c h0 r h' k9) : ∀ n : Nat, w_X8_alike_19 G l p e s m args below meth c h0 r h' (f_X8_alike_19 k9 n) := by
  have hx := X.1
  have hb := X.2.1
  have hown := X.2.2.2.1
  have hts := X.2.2.2.2.1
  intro n
  induction n with
  | zero =>
    intro a0 x1 x2 x3 h H locs cells slots ls hf hI hl
    exact (gFail_f hf).elim
  | succ n ih =>
    intro a0 x1 x2 x3 h H locs cells slots ls hf hI hl
    rw [f_X8_alike_19] at hf
    refine lv_iload_n hx hb dX8_alike_19 rfl (lv_at hl 3 rfl) ?_
    refine lv_iload_n hx hb dX8_alike_20 rfl (lv_at hl 2 rfl) ?_
    refine lv_icmp_ge (tgt := 68) hx hb dX8_alike_21 (by decide) (fun c21 => ?_) (fun c21 => ?_)
    · have hf := g_t c21 hf
      exact b_X8_alike_68 X K9 _ _ _ _ _ _ _ _ _ hf hI (lv_sub hl [0, 1, 2] rfl)
    · have hf := g_f c21 hf
      refine lv_iload_n hx hb dX8_alike_24 rfl (lv_at hl 1 rfl) ?_
      refine lv_aload_n hx hb dX8_alike_25 rfl (lv_at hl 0 rfl) ?_
      refine lv_iload_n hx hb dX8_alike_26 rfl (lv_at hl 2 rfl) ?_
      refine lv_iconst (v := (0 : Int32)) hx hb dX8_alike_27 (by decide) ?_
      obtain ⟨hs, hf⟩ := gCk_b hf
      refine g_cBI hI hf (fun v9 h9 e9 l9 l9' => g_rV X hI l9 l9' ⟨Nat.le_refl _, Nat.le_refl _⟩ (As := [.int x2, .int (0 : Int32)]) (m_X8_of X.2.2.2.2.2.2.2.2.2.2.1 e9) ydX8_of hs rfl rfl q1767 q1769 qs75 q131 q1770 rfl (Nat.le_of_ble_eq_true rfl) (Nat.le_of_ble_eq_true rfl) hl.1 rfl (Nat.le_of_ble_eq_true rfl) dX8_alike_28) (fun r101 h H locs cells slots hf hI => ?_)
      refine lv_aload_n hx hb dX8_alike_31 rfl (lv_at hl 0 rfl) ?_
      refine lv_iload_n hx hb dX8_alike_32 rfl (lv_at hl 3 rfl) ?_
      refine lv_iconst (v := (0 : Int32)) hx hb dX8_alike_33 (by decide) ?_
      obtain ⟨hs, hf⟩ := gCk_b hf
      refine g_cBI hI hf (fun v9 h9 e9 l9 l9' => g_rV X hI l9 l9' ⟨Nat.le_refl _, Nat.le_refl _⟩ (As := [.int x3, .int (0 : Int32)]) (m_X8_of X.2.2.2.2.2.2.2.2.2.2.1 e9) ydX8_of hs rfl rfl q1767 q1769 qs75 q131 q1770 rfl (Nat.le_of_ble_eq_true rfl) (Nat.le_of_ble_eq_true rfl) hl.1 rfl (Nat.le_of_ble_eq_true rfl) dX8_alike_34) (fun r102 h H locs cells slots hf hI => ?_)
      refine lv_icmp_ne (tgt := 59) hx hb dX8_alike_37 (by decide) (fun c37 => ?_) (fun c37 => ?_)
      · have hf := g_f c37 hf
        exact b_X8_alike_59 X ih _ _ _ _ _ _ _ _ _ _ hf hI (lv_sub hl [0, 2, 3] rfl)
      · have hf := g_t c37 hf
        refine lv_aload_n hx hb dX8_alike_40 rfl (lv_at hl 0 rfl) ?_
        refine lv_iload_n hx hb dX8_alike_41 rfl (lv_at hl 2 rfl) ?_
        refine lv_iconst (v := (1 : Int32)) hx hb dX8_alike_42 (by decide) ?_
        obtain ⟨hs, hf⟩ := gCk_b hf
        refine g_cBI hI hf (fun v9 h9 e9 l9 l9' => g_rV X hI l9 l9' ⟨Nat.le_refl _, Nat.le_refl _⟩ (As := [.int x2, .int (1 : Int32)]) (m_X8_of X.2.2.2.2.2.2.2.2.2.2.1 e9) ydX8_of hs rfl rfl q1767 q1769 qs75 q131 q1770 rfl (Nat.le_of_ble_eq_true rfl) (Nat.le_of_ble_eq_true rfl) hl.1 rfl (Nat.le_of_ble_eq_true rfl) dX8_alike_43) (fun r103 h H locs cells slots hf hI => ?_)
        refine lv_aload_n hx hb dX8_alike_46 rfl (lv_at hl 0 rfl) ?_
        refine lv_iload_n hx hb dX8_alike_47 rfl (lv_at hl 3 rfl) ?_
        refine lv_iconst (v := (1 : Int32)) hx hb dX8_alike_48 (by decide) ?_
        obtain ⟨hs, hf⟩ := gCk_b hf
        refine g_cBI hI hf (fun v9 h9 e9 l9 l9' => g_rV X hI l9 l9' ⟨Nat.le_refl _, Nat.le_refl _⟩ (As := [.int x3, .int (1 : Int32)]) (m_X8_of X.2.2.2.2.2.2.2.2.2.2.1 e9) ydX8_of hs rfl rfl q1767 q1769 qs75 q131 q1770 rfl (Nat.le_of_ble_eq_true rfl) (Nat.le_of_ble_eq_true rfl) hl.1 rfl (Nat.le_of_ble_eq_true rfl) dX8_alike_49) (fun r104 h H locs cells slots hf hI => ?_)
        refine lv_icmp_ne (tgt := 59) hx hb dX8_alike_52 (by decide) (fun c52 => ?_) (fun c52 => ?_)
        · have hf := g_f c52 hf
          exact b_X8_alike_59 X ih _ _ _ _ _ _ _ _ _ _ hf hI (lv_sub hl [0, 2, 3] rfl)
        · have hf := g_t c52 hf
          refine lv_iconst (v := (1 : Int32)) hx hb dX8_alike_55 (by decide) ?_
          refine lv_goto (tgt := 60) hx hb dX8_alike_56 (by decide) ?_
          exact b_X8_alike_60 X ih _ _ _ _ _ _ _ _ _ _ _ hf hI (lv_sub hl [0, 2, 3] rfl)
def f_X8_alike_74 (x1 : Int32) : gM Int32 :=
    (gRet x1)
set_option maxHeartbeats 4000000 in
set_option maxRecDepth 100000 in
theorem b_X8_alike_74 {G : gG} {l : Launch} {p : Program} {e : Env} {s : State} {m : MethodId} {args : Array Value} {below : List Frame} {meth : Method} {c : Code} {h0 : g_H} {r : Int32} {h' : g_H} (X : gX G l yX8_alike.cls cX8_alike 4 (some .int) [] yX8_alike.name p s m args meth c) : w_X8_alike_74 G l p e s m args below meth c h0 r h' (f_X8_alike_74) := by
  have hx := X.1
  have hb := X.2.1
  have hown := X.2.2.2.1
  have hts := X.2.2.2.2.1
  intro x1 h H locs cells slots ls hf hI hl
  unfold f_X8_alike_74 at hf
  refine lv_iload_n hx hb dX8_alike_74 rfl (lv_at hl 0 rfl) ?_
  cases gRet_e hf
  exact g_retI X hI rfl dX8_alike_75
def f_X8_alike_9 : Nat → Nat → Int32 → Int32 → gM Int32
  | 0, _, _, _ => gFail
  | n + 1, a0, x1, x2 =>
    gB (gCk a0 7) fun _ =>
    gB (f_X8_oneCount a0) fun r101 =>
    gIf (r101 ≤ x2)
    (f_X8_alike_74 x1)
    (f_X8_alike_19 (f_X8_alike_9 n) gN a0 x1 x2 (0 : Int32))
set_option maxHeartbeats 4000000 in
set_option maxRecDepth 100000 in
theorem b_X8_alike_9 {G : gG} {l : Launch} {p : Program} {e : Env} {s : State} {m : MethodId} {args : Array Value} {below : List Frame} {meth : Method} {c : Code} {h0 : g_H} {r : Int32} {h' : g_H} (X : gX G l yX8_alike.cls cX8_alike 4 (some .int) [] yX8_alike.name p s m args meth c) : ∀ n : Nat, w_X8_alike_9 G l p e s m args below meth c h0 r h' (f_X8_alike_9 n) := by
  have hx := X.1
  have hb := X.2.1
  have hown := X.2.2.2.1
  have hts := X.2.2.2.2.1
  intro n
  induction n with
  | zero =>
    intro a0 x1 x2 h H locs cells slots ls hf hI hl
    exact (gFail_f hf).elim
  | succ n ih =>
    intro a0 x1 x2 h H locs cells slots ls hf hI hl
    rw [f_X8_alike_9] at hf
    refine lv_iload_n hx hb dX8_alike_9 rfl (lv_at hl 2 rfl) ?_
    refine lv_aload_n hx hb dX8_alike_10 rfl (lv_at hl 0 rfl) ?_
    obtain ⟨hs, hf⟩ := gCk_b hf
    refine g_cBI hI hf (fun v9 h9 e9 l9 l9' => g_rV X hI l9 l9' ⟨Nat.le_refl _, Nat.le_refl _⟩ (As := []) (m_X8_oneCount X.2.2.2.2.2.2.2.2.2.2.1 e9) ydX8_oneCount hs rfl rfl q1673 q1675 qs61 q131 q1676 rfl (Nat.le_of_ble_eq_true rfl) (Nat.le_of_ble_eq_true rfl) hl.1 rfl (Nat.le_of_ble_eq_true rfl) dX8_alike_11) (fun r101 h H locs cells slots hf hI => ?_)
    refine lv_icmp_ge (tgt := 74) hx hb dX8_alike_14 (by decide) (fun c14 => ?_) (fun c14 => ?_)
    · have hf := g_t c14 hf
      exact b_X8_alike_74 X _ _ _ _ _ _ _ hf hI (lv_sub hl [1] rfl)
    · have hf := g_f c14 hf
      refine lv_iconst (v := (0 : Int32)) hx hb dX8_alike_17 (by decide) ?_
      refine lv_istore_n (lv' := [(3, .int (0 : Int32)), (0, .ref a0), (1, .int x1), (2, .int x2)]) hx hb dX8_alike_18 rfl hl (by decide) rfl (fun ls hl => ?_)
      exact b_X8_alike_19 X ih gN _ _ _ _ _ _ _ _ _ _ hf hI (lv_sub hl [1, 2, 3, 0] rfl)
def f_X8_alike (a0 : Nat) : gM Int32 :=
    gB (gPI a0 7 0 (0 : Int32)) fun _ =>
    f_X8_alike_9 gN a0 (0 : Int32) (0 : Int32)
set_option maxHeartbeats 4000000 in
set_option maxRecDepth 100000 in
theorem m_X8_alike {G : gG} {l : Launch} (hfl : l.stackTraces = false) {a0 : Nat} {h h' : g_H} {r : Int32} (hf : (f_X8_alike a0).1 h = some (r, h')) : gMet G l yX8_alike (Cond.code yX8_alike cX8_alike 4 (some .int)) 3 63 [.ref a0] h (.inl (g_wI r)) h' := by
  refine g_head hfl ((f_X8_alike a0).2 h r h' hf) (plainFor_of_name (by decide)) (Nat.le_of_ble_eq_true rfl) (fun p e s m below meth c H locs cells slots ls X hI hl9 => ?_)
  have hl : lv_has ls 4 [(0, .ref a0)] := hl9
  have hx := X.1
  have hb := X.2.1
  have hown := X.2.2.2.1
  have hts := X.2.2.2.2.1
  unfold f_X8_alike at hf
  refine lv_aload_n hx hb dX8_alike_0 rfl (lv_at hl 0 rfl) ?_
  refine lv_iconst (v := (0 : Int32)) hx hb dX8_alike_1 (by decide) ?_
  refine g_pi X hI hf fX8_0 q1444 rfl dX8_alike_2 (fun h H locs hf hI => ?_)
  refine lv_iconst (v := (0 : Int32)) hx hb dX8_alike_5 (by decide) ?_
  refine lv_istore_n (lv' := [(1, .int (0 : Int32)), (0, .ref a0)]) hx hb dX8_alike_6 rfl hl (by decide) rfl (fun ls hl => ?_)
  refine lv_iconst (v := (0 : Int32)) hx hb dX8_alike_7 (by decide) ?_
  refine lv_istore_n (lv' := [(2, .int (0 : Int32)), (1, .int (0 : Int32)), (0, .ref a0)]) hx hb dX8_alike_8 rfl hl (by decide) rfl (fun ls hl => ?_)
  exact b_X8_alike_9 X gN _ _ _ _ _ _ _ _ _ hf hI (lv_sub hl [2, 1, 0] rfl)
/-! X7_odds -/
def f_X7_odds (a0 : Nat) : gM Int32 :=
    gB (gFI a0 6 4) fun v1 =>
    gB (gFI a0 6 3) fun v2 =>
    gB (gGd (¬ (v2).toInt64 = 0)) fun _ =>
    (gRet ((((10000 : Int64) * (v1).toInt64) / (v2).toInt64)).toInt32)
set_option maxHeartbeats 4000000 in
set_option maxRecDepth 100000 in
theorem m_X7_odds {G : gG} {l : Launch} (hfl : l.stackTraces = false) {a0 : Nat} {h h' : g_H} {r : Int32} (hf : (f_X7_odds a0).1 h = some (r, h')) : gMet G l yX7_odds (Cond.code yX7_odds cX7_odds 1 (some .int)) 1 20 [.ref a0] h (.inl (g_wI r)) h' := by
  refine g_head hfl ((f_X7_odds a0).2 h r h' hf) (plainFor_of_name (by decide)) (Nat.le_of_ble_eq_true rfl) (fun p e s m below meth c H locs cells slots ls X hI hl9 => ?_)
  have hl : lv_has ls 1 [(0, .ref a0)] := hl9
  have hx := X.1
  have hb := X.2.1
  have hown := X.2.2.2.1
  have hts := X.2.2.2.2.1
  unfold f_X7_odds at hf
  refine lv_ldc2 (v := (10000 : Int64)) hx hb hown (hts _ q631) dX7_odds_0 ?_
  refine lv_aload_n hx hb dX7_odds_3 rfl (lv_at hl 0 rfl) ?_
  refine g_fi X hI hf fX7_4 q442 rfl rfl dX7_odds_4 (fun v1 hf => ?_)
  refine lv_i2l hx hb dX7_odds_7 rfl ?_
  refine lv_lmul hx hb dX7_odds_8 ?_
  refine lv_aload_n hx hb dX7_odds_9 rfl (lv_at hl 0 rfl) ?_
  refine g_fi X hI hf fX7_3 q441 rfl rfl dX7_odds_10 (fun v2 hf => ?_)
  refine lv_i2l hx hb dX7_odds_13 rfl ?_
  obtain ⟨hz14, hf⟩ := gB_gd hf
  refine lv_ldiv hx hb dX7_odds_14 hz14 ?_
  refine lv_l2i hx hb dX7_odds_15 rfl ?_
  cases gRet_e hf
  exact g_retI X hI rfl dX7_odds_16
/-! X1_oddsOf -/
def f_X1_oddsOf (a0 : Nat) (x1 : Int32) : gM Int32 :=
    gB (gFR a0 0 5) fun v1 =>
    gB (gFR a0 0 1) fun v2 =>
    gB (gFR v2 2 1) fun v3 =>
    gB (gAR v3 5 x1) fun v4 =>
    gB (gCk v1 6) fun _ =>
    gB (f_X7_counts v1 v4) fun _ =>
    gB (gFR a0 0 5) fun v6 =>
    gB (gCk v6 6) fun _ =>
    gB (f_X7_odds v6) fun r7 =>
    (gRet r7)
set_option maxHeartbeats 4000000 in
set_option maxRecDepth 100000 in
theorem m_X1_oddsOf {G : gG} {l : Launch} (hfl : l.stackTraces = false) {a0 : Nat} {x1 : Int32} {h h' : g_H} {r : Int32} (hf : (f_X1_oddsOf a0 x1).1 h = some (r, h')) : gMet G l yX1_oddsOf (Cond.code yX1_oddsOf cX1_oddsOf 2 (some .int)) 103 1918 [.ref a0, .int x1] h (.inl (g_wI r)) h' := by
  refine g_head hfl ((f_X1_oddsOf a0 x1).2 h r h' hf) (plainFor_of_name (by decide)) (Nat.le_of_ble_eq_true rfl) (fun p e s m below meth c H locs cells slots ls X hI hl9 => ?_)
  have hl : lv_has ls 2 [(0, .ref a0), (1, .int x1)] := hl9
  have hx := X.1
  have hb := X.2.1
  have hown := X.2.2.2.1
  have hts := X.2.2.2.2.1
  unfold f_X1_oddsOf at hf
  refine lv_aload_n hx hb dX1_oddsOf_0 rfl (lv_at hl 0 rfl) ?_
  refine g_fr X hI hf fX1_5 q466 rfl rfl dX1_oddsOf_1 (fun v1 hf => ?_)
  refine lv_aload_n hx hb dX1_oddsOf_4 rfl (lv_at hl 0 rfl) ?_
  refine g_fr X hI hf fX1_1 q461 rfl rfl dX1_oddsOf_5 (fun v2 hf => ?_)
  refine g_frN X hI hf fX3_1 q257 rfl rfl dX1_oddsOf_8 (fun v3 hf => ?_)
  refine lv_iload_n hx hb dX1_oddsOf_11 rfl (lv_at hl 1 rfl) ?_
  refine g_ar5 X hI hf dX1_oddsOf_12 (fun v4 hf => ?_)
  obtain ⟨hs, hf⟩ := gCk_b hf
  refine g_cBU hI hf (fun v9 h9 e9 l9 l9' => g_rV X hI l9 l9' ⟨Nat.le_refl _, Nat.le_refl _⟩ (As := [.ref v4]) (m_X7_counts X.2.2.2.2.2.2.2.2.2.2.1 e9) ydX7_counts hs rfl rfl q547 q548 q549 q130 q550 rfl (Nat.le_of_ble_eq_true rfl) (Nat.le_of_ble_eq_true rfl) hl.1 rfl (Nat.le_of_ble_eq_true rfl) dX1_oddsOf_13) (fun r5 h H locs cells slots hf hI => ?_)
  refine lv_aload_n hx hb dX1_oddsOf_16 rfl (lv_at hl 0 rfl) ?_
  refine g_fr X hI hf fX1_5 q466 rfl rfl dX1_oddsOf_17 (fun v6 hf => ?_)
  obtain ⟨hs, hf⟩ := gCk_b hf
  refine g_cBI hI hf (fun v9 h9 e9 l9 l9' => g_rV X hI l9 l9' ⟨Nat.le_refl _, Nat.le_refl _⟩ (As := []) (m_X7_odds X.2.2.2.2.2.2.2.2.2.2.1 e9) ydX7_odds hs rfl rfl q627 q628 q629 q130 q630 rfl (Nat.le_of_ble_eq_true rfl) (Nat.le_of_ble_eq_true rfl) hl.1 rfl (Nat.le_of_ble_eq_true rfl) dX1_oddsOf_20) (fun r7 h H locs cells slots hf hI => ?_)
  cases gRet_e hf
  exact g_retI X hI rfl dX1_oddsOf_23
/-! X1_bravest -/
abbrev w_X1_bravest_61 (G : gG) (l : Launch) (p : Program) (e : Env) (s : State) (m : MethodId) (args : Array Value) (below : List Frame) (meth : Method) (c : Code) (h0 : g_H) (r : Int32) (h' : g_H) (k : Nat → Int32 → Int32 → Int32 → gM Int32) : Prop := ∀ (a0 : Nat) (x1 : Int32) (x2 : Int32) (x3 : Int32) (h : g_H) (H : Heap) (locs : List Loc) (cells slots : Nat) (ls : Array Slot), (k a0 x1 x2 x3).1 h = some (r, h') → gI G h0 h H locs cells slots → lv_has ls 5 [(0, .ref a0), (1, .int x1), (2, .int x2), (3, .int x3)] → W p l e (g_rm 104 1939 h0 h') s m args below meth c H locs cells slots (gQ G below args s h0 h' (.inl (g_wI r))) (F0 m 61 ls [])
abbrev w_X1_bravest_45 (G : gG) (l : Launch) (p : Program) (e : Env) (s : State) (m : MethodId) (args : Array Value) (below : List Frame) (meth : Method) (c : Code) (h0 : g_H) (r : Int32) (h' : g_H) (k : Nat → Int32 → Int32 → Int32 → Int32 → gM Int32) : Prop := ∀ (a0 : Nat) (x1 : Int32) (x2 : Int32) (x3 : Int32) (u0 : Int32) (h : g_H) (H : Heap) (locs : List Loc) (cells slots : Nat) (ls : Array Slot), (k a0 x1 x2 x3 u0).1 h = some (r, h') → gI G h0 h H locs cells slots → lv_has ls 5 [(0, .ref a0), (1, .int x1), (2, .int x2), (3, .int x3)] → W p l e (g_rm 104 1939 h0 h') s m args below meth c H locs cells slots (gQ G below args s h0 h' (.inl (g_wI r))) (F0 m 45 ls [.int u0])
abbrev w_X1_bravest_67 (G : gG) (l : Launch) (p : Program) (e : Env) (s : State) (m : MethodId) (args : Array Value) (below : List Frame) (meth : Method) (c : Code) (h0 : g_H) (r : Int32) (h' : g_H) (k : Int32 → gM Int32) : Prop := ∀ (x1 : Int32) (h : g_H) (H : Heap) (locs : List Loc) (cells slots : Nat) (ls : Array Slot), (k x1).1 h = some (r, h') → gI G h0 h H locs cells slots → lv_has ls 5 [(1, .int x1)] → W p l e (g_rm 104 1939 h0 h') s m args below meth c H locs cells slots (gQ G below args s h0 h' (.inl (g_wI r))) (F0 m 67 ls [])
abbrev w_X1_bravest_8 (G : gG) (l : Launch) (p : Program) (e : Env) (s : State) (m : MethodId) (args : Array Value) (below : List Frame) (meth : Method) (c : Code) (h0 : g_H) (r : Int32) (h' : g_H) (k : Nat → Int32 → Int32 → Int32 → gM Int32) : Prop := ∀ (a0 : Nat) (x1 : Int32) (x2 : Int32) (x3 : Int32) (h : g_H) (H : Heap) (locs : List Loc) (cells slots : Nat) (ls : Array Slot), (k a0 x1 x2 x3).1 h = some (r, h') → gI G h0 h H locs cells slots → lv_has ls 5 [(0, .ref a0), (1, .int x1), (2, .int x2), (3, .int x3)] → W p l e (g_rm 104 1939 h0 h') s m args below meth c H locs cells slots (gQ G below args s h0 h' (.inl (g_wI r))) (F0 m 8 ls [])
def f_X1_bravest_61 (k8 : Nat → Int32 → Int32 → Int32 → gM Int32) (a0 : Nat) (x1 : Int32) (x2 : Int32) (x3 : Int32) : gM Int32 :=
    k8 a0 x1 x2 (x3 + (1 : Int32))
set_option maxHeartbeats 4000000 in
set_option maxRecDepth 100000 in
theorem b_X1_bravest_61 {G : gG} {l : Launch} {p : Program} {e : Env} {s : State} {m : MethodId} {args : Array Value} {below : List Frame} {meth : Method} {c : Code} {h0 : g_H} {r : Int32} {h' : g_H} (X : gX G l yX1_bravest.cls cX1_bravest 5 (some .int) [] yX1_bravest.name p s m args meth c) {k8 : Nat → Int32 → Int32 → Int32 → gM Int32} (K8 : w_X1_bravest_8 G l p e s m args below meth c h0 r h' k8) : w_X1_bravest_61 G l p e s m args below meth c h0 r h' (f_X1_bravest_61 k8) := by
  have hx := X.1
  have hb := X.2.1
  have hown := X.2.2.2.1
  have hts := X.2.2.2.2.1
  intro a0 x1 x2 x3 h H locs cells slots ls hf hI hl
  unfold f_X1_bravest_61 at hf
  refine lv_iinc (v := (x3 + (1 : Int32))) (lv' := [(3, .int (x3 + (1 : Int32))), (0, .ref a0), (1, .int x1), (2, .int x2)]) hx hb dX1_bravest_61 hl (k := 3) rfl rfl (by decide) rfl (fun ls hl => ?_)
  refine lv_goto (tgt := 8) hx hb dX1_bravest_64 (by decide) ?_
  exact K8 _ _ _ _ _ _ _ _ _ _ hf hI (lv_sub hl [1, 2, 3, 0] rfl)
def f_X1_bravest_45 (k8 : Nat → Int32 → Int32 → Int32 → gM Int32) (a0 : Nat) (x1 : Int32) (x2 : Int32) (x3 : Int32) (u0 : Int32) : gM Int32 :=
    gIf (u0 < x2)
    (f_X1_bravest_61 k8 a0 x3 u0 x3)
    (f_X1_bravest_61 k8 a0 x1 x2 x3)
set_option maxHeartbeats 4000000 in
set_option maxRecDepth 100000 in
theorem b_X1_bravest_45 {G : gG} {l : Launch} {p : Program} {e : Env} {s : State} {m : MethodId} {args : Array Value} {below : List Frame} {meth : Method} {c : Code} {h0 : g_H} {r : Int32} {h' : g_H} (X : gX G l yX1_bravest.cls cX1_bravest 5 (some .int) [] yX1_bravest.name p s m args meth c) {k8 : Nat → Int32 → Int32 → Int32 → gM Int32} (K8 : w_X1_bravest_8 G l p e s m args below meth c h0 r h' k8) : w_X1_bravest_45 G l p e s m args below meth c h0 r h' (f_X1_bravest_45 k8) := by
  have hx := X.1
  have hb := X.2.1
  have hown := X.2.2.2.1
  have hts := X.2.2.2.2.1
  intro a0 x1 x2 x3 u0 h H locs cells slots ls hf hI hl
  unfold f_X1_bravest_45 at hf
  refine lv_istore (lv' := [(4, .int u0), (0, .ref a0), (1, .int x1), (2, .int x2), (3, .int x3)]) hx hb dX1_bravest_45 hl (by decide) rfl (fun ls hl => ?_)
  refine lv_iload hx hb dX1_bravest_47 (lv_at hl 0 rfl) ?_
  refine lv_iload_n hx hb dX1_bravest_49 rfl (lv_at hl 3 rfl) ?_
  refine lv_icmp_lt (tgt := 56) hx hb dX1_bravest_50 (by decide) (fun c50 => ?_) (fun c50 => ?_)
  · have hf := g_t c50 hf
    refine lv_iload hx hb dX1_bravest_56 (lv_at hl 0 rfl) ?_
    refine lv_istore_n (lv' := [(2, .int u0), (4, .int u0), (0, .ref a0), (1, .int x1), (3, .int x3)]) hx hb dX1_bravest_58 rfl hl (by decide) rfl (fun ls hl => ?_)
    refine lv_iload_n hx hb dX1_bravest_59 rfl (lv_at hl 4 rfl) ?_
    refine lv_istore_n (lv' := [(1, .int x3), (2, .int u0), (4, .int u0), (0, .ref a0), (3, .int x3)]) hx hb dX1_bravest_60 rfl hl (by decide) rfl (fun ls hl => ?_)
    exact b_X1_bravest_61 X K8 _ _ _ _ _ _ _ _ _ _ hf hI (lv_sub hl [3, 0, 1, 4] rfl)
  · have hf := g_f c50 hf
    refine lv_goto (tgt := 61) hx hb dX1_bravest_53 (by decide) ?_
    exact b_X1_bravest_61 X K8 _ _ _ _ _ _ _ _ _ _ hf hI (lv_sub hl [1, 2, 3, 4] rfl)
def f_X1_bravest_67 (x1 : Int32) : gM Int32 :=
    (gRet x1)
set_option maxHeartbeats 4000000 in
set_option maxRecDepth 100000 in
theorem b_X1_bravest_67 {G : gG} {l : Launch} {p : Program} {e : Env} {s : State} {m : MethodId} {args : Array Value} {below : List Frame} {meth : Method} {c : Code} {h0 : g_H} {r : Int32} {h' : g_H} (X : gX G l yX1_bravest.cls cX1_bravest 5 (some .int) [] yX1_bravest.name p s m args meth c) : w_X1_bravest_67 G l p e s m args below meth c h0 r h' (f_X1_bravest_67) := by
  have hx := X.1
  have hb := X.2.1
  have hown := X.2.2.2.1
  have hts := X.2.2.2.2.1
  intro x1 h H locs cells slots ls hf hI hl
  unfold f_X1_bravest_67 at hf
  refine lv_iload_n hx hb dX1_bravest_67 rfl (lv_at hl 0 rfl) ?_
  cases gRet_e hf
  exact g_retI X hI rfl dX1_bravest_68
def f_X1_bravest_8 : Nat → Nat → Int32 → Int32 → Int32 → gM Int32
  | 0, _, _, _, _ => gFail
  | n + 1, a0, x1, x2, x3 =>
    gB (gFR a0 0 1) fun v101 =>
    gB (gFI v101 2 7) fun v102 =>
    gIf (v102 ≤ x3)
    (f_X1_bravest_67 x1)
    (gB (gFR a0 0 1) fun v103 =>
    gB (gFR v103 2 1) fun v104 =>
    gB (gAR v104 5 x3) fun v105 =>
    gB (gFI v105 4 3) fun v106 =>
    gIf (v106 = 0)
    (gB (gCk a0 0) fun _ =>
    gB (f_X1_oddsOf a0 x3) fun r107 =>
    f_X1_bravest_45 (f_X1_bravest_8 n) a0 x1 x2 x3 r107)
    (f_X1_bravest_45 (f_X1_bravest_8 n) a0 x1 x2 x3 (100000000 : Int32)))
set_option maxHeartbeats 4000000 in
set_option maxRecDepth 100000 in
theorem b_X1_bravest_8 {G : gG} {l : Launch} {p : Program} {e : Env} {s : State} {m : MethodId} {args : Array Value} {below : List Frame} {meth : Method} {c : Code} {h0 : g_H} {r : Int32} {h' : g_H} (X : gX G l yX1_bravest.cls cX1_bravest 5 (some .int) [] yX1_bravest.name p s m args meth c) : ∀ n : Nat, w_X1_bravest_8 G l p e s m args below meth c h0 r h' (f_X1_bravest_8 n) := by
  have hx := X.1
  have hb := X.2.1
  have hown := X.2.2.2.1
  have hts := X.2.2.2.2.1
  intro n
  induction n with
  | zero =>
    intro a0 x1 x2 x3 h H locs cells slots ls hf hI hl
    exact (gFail_f hf).elim
  | succ n ih =>
    intro a0 x1 x2 x3 h H locs cells slots ls hf hI hl
    rw [f_X1_bravest_8] at hf
    refine lv_iload_n hx hb dX1_bravest_8 rfl (lv_at hl 3 rfl) ?_
    refine lv_aload_n hx hb dX1_bravest_9 rfl (lv_at hl 0 rfl) ?_
    refine g_fr X hI hf fX1_1 q461 rfl rfl dX1_bravest_10 (fun v101 hf => ?_)
    refine g_fiN X hI hf fX3_7 q271 rfl rfl dX1_bravest_13 (fun v102 hf => ?_)
    refine lv_icmp_ge (tgt := 67) hx hb dX1_bravest_16 (by decide) (fun c16 => ?_) (fun c16 => ?_)
    · have hf := g_t c16 hf
      exact b_X1_bravest_67 X _ _ _ _ _ _ _ hf hI (lv_sub hl [1] rfl)
    · have hf := g_f c16 hf
      refine lv_aload_n hx hb dX1_bravest_19 rfl (lv_at hl 0 rfl) ?_
      refine g_fr X hI hf fX1_1 q461 rfl rfl dX1_bravest_20 (fun v103 hf => ?_)
      refine g_frN X hI hf fX3_1 q257 rfl rfl dX1_bravest_23 (fun v104 hf => ?_)
      refine lv_iload_n hx hb dX1_bravest_26 rfl (lv_at hl 3 rfl) ?_
      refine g_ar5 X hI hf dX1_bravest_27 (fun v105 hf => ?_)
      refine g_fiN X hI hf fX5_3 q243 rfl rfl dX1_bravest_28 (fun v106 hf => ?_)
      refine lv_if_ne (tgt := 42) hx hb dX1_bravest_31 (by decide) (fun c31 => ?_) (fun c31 => ?_)
      · have hf := g_f c31 hf
        refine lv_ldcw (v := (100000000 : Int32)) hx hb hown (hts _ q726) dX1_bravest_42 ?_
        exact b_X1_bravest_45 X ih _ _ _ _ _ _ _ _ _ _ _ hf hI (lv_sub hl [0, 1, 2, 3] rfl)
      · have hf := g_t c31 hf
        refine lv_aload_n hx hb dX1_bravest_34 rfl (lv_at hl 0 rfl) ?_
        refine lv_iload_n hx hb dX1_bravest_35 rfl (lv_at hl 3 rfl) ?_
        obtain ⟨hs, hf⟩ := gCk_b hf
        refine g_cBI hI hf (fun v9 h9 e9 l9 l9' => g_rV X hI l9 l9' ⟨Nat.le_refl _, Nat.le_refl _⟩ (As := [.int x3]) (m_X1_oddsOf X.2.2.2.2.2.2.2.2.2.2.1 e9) ydX1_oddsOf hs rfl rfl q543 q545 qs2 q121 q546 rfl (Nat.le_of_ble_eq_true rfl) (Nat.le_of_ble_eq_true rfl) hl.1 rfl (Nat.le_of_ble_eq_true rfl) dX1_bravest_36) (fun r107 h H locs cells slots hf hI => ?_)
        refine lv_goto (tgt := 45) hx hb dX1_bravest_39 (by decide) ?_
        exact b_X1_bravest_45 X ih _ _ _ _ _ _ _ _ _ _ _ hf hI (lv_sub hl [0, 1, 2, 3] rfl)
def f_X1_bravest (a0 : Nat) : gM Int32 :=
    f_X1_bravest_8 gN a0 (-1 : Int32) (100000000 : Int32) (0 : Int32)
set_option maxHeartbeats 4000000 in
set_option maxRecDepth 100000 in
theorem m_X1_bravest {G : gG} {l : Launch} (hfl : l.stackTraces = false) {a0 : Nat} {h h' : g_H} {r : Int32} (hf : (f_X1_bravest a0).1 h = some (r, h')) : gMet G l yX1_bravest (Cond.code yX1_bravest cX1_bravest 5 (some .int)) 104 1939 [.ref a0] h (.inl (g_wI r)) h' := by
  refine g_head hfl ((f_X1_bravest a0).2 h r h' hf) (plainFor_of_name (by decide)) (Nat.le_of_ble_eq_true rfl) (fun p e s m below meth c H locs cells slots ls X hI hl9 => ?_)
  have hl : lv_has ls 5 [(0, .ref a0)] := hl9
  have hx := X.1
  have hb := X.2.1
  have hown := X.2.2.2.1
  have hts := X.2.2.2.2.1
  unfold f_X1_bravest at hf
  refine lv_iconst (v := (-1 : Int32)) hx hb dX1_bravest_0 (by decide) ?_
  refine lv_istore_n (lv' := [(1, .int (-1 : Int32)), (0, .ref a0)]) hx hb dX1_bravest_1 rfl hl (by decide) rfl (fun ls hl => ?_)
  refine lv_ldcw (v := (100000000 : Int32)) hx hb hown (hts _ q726) dX1_bravest_2 ?_
  refine lv_istore_n (lv' := [(2, .int (100000000 : Int32)), (1, .int (-1 : Int32)), (0, .ref a0)]) hx hb dX1_bravest_5 rfl hl (by decide) rfl (fun ls hl => ?_)
  refine lv_iconst (v := (0 : Int32)) hx hb dX1_bravest_6 (by decide) ?_
  refine lv_istore_n (lv' := [(3, .int (0 : Int32)), (2, .int (100000000 : Int32)), (1, .int (-1 : Int32)), (0, .ref a0)]) hx hb dX1_bravest_7 rfl hl (by decide) rfl (fun ls hl => ?_)
  exact b_X1_bravest_8 X gN _ _ _ _ _ _ _ _ _ _ hf hI (lv_sub hl [3, 2, 1, 0] rfl)
/-! X8_waysOf -/
abbrev w_X8_waysOf_30 (G : gG) (l : Launch) (p : Program) (e : Env) (s : State) (m : MethodId) (args : Array Value) (below : List Frame) (meth : Method) (c : Code) (h0 : g_H) (r : Int32) (h' : g_H) (k : Int32 → gM Int32) : Prop := ∀ (x2 : Int32) (h : g_H) (H : Heap) (locs : List Loc) (cells slots : Nat) (ls : Array Slot), (k x2).1 h = some (r, h') → gI G h0 h H locs cells slots → lv_has ls 4 [(2, .int x2)] → W p l e (g_rm 9 205 h0 h') s m args below meth c H locs cells slots (gQ G below args s h0 h' (.inl (g_wI r))) (F0 m 30 ls [])
abbrev w_X8_waysOf_9 (G : gG) (l : Launch) (p : Program) (e : Env) (s : State) (m : MethodId) (args : Array Value) (below : List Frame) (meth : Method) (c : Code) (h0 : g_H) (r : Int32) (h' : g_H) (k : Nat → Int32 → Int32 → gM Int32) : Prop := ∀ (a0 : Nat) (x2 : Int32) (x3 : Int32) (h : g_H) (H : Heap) (locs : List Loc) (cells slots : Nat) (ls : Array Slot), (k a0 x2 x3).1 h = some (r, h') → gI G h0 h H locs cells slots → lv_has ls 4 [(0, .ref a0), (2, .int x2), (3, .int x3)] → W p l e (g_rm 9 205 h0 h') s m args below meth c H locs cells slots (gQ G below args s h0 h' (.inl (g_wI r))) (F0 m 9 ls [])
def f_X8_waysOf_30 (x2 : Int32) : gM Int32 :=
    (gRet x2)
set_option maxHeartbeats 4000000 in
set_option maxRecDepth 100000 in
theorem b_X8_waysOf_30 {G : gG} {l : Launch} {p : Program} {e : Env} {s : State} {m : MethodId} {args : Array Value} {below : List Frame} {meth : Method} {c : Code} {h0 : g_H} {r : Int32} {h' : g_H} (X : gX G l yX8_waysOf.cls cX8_waysOf 4 (some .int) [] yX8_waysOf.name p s m args meth c) : w_X8_waysOf_30 G l p e s m args below meth c h0 r h' (f_X8_waysOf_30) := by
  have hx := X.1
  have hb := X.2.1
  have hown := X.2.2.2.1
  have hts := X.2.2.2.2.1
  intro x2 h H locs cells slots ls hf hI hl
  unfold f_X8_waysOf_30 at hf
  refine lv_iload_n hx hb dX8_waysOf_30 rfl (lv_at hl 0 rfl) ?_
  cases gRet_e hf
  exact g_retI X hI rfl dX8_waysOf_31
def f_X8_waysOf_9 : Nat → Nat → Int32 → Int32 → gM Int32
  | 0, _, _, _ => gFail
  | n + 1, a0, x2, x3 =>
    gIf ((10 : Int32) ≤ x3)
    (f_X8_waysOf_30 x2)
    (gB (gFR a0 7 35) fun v101 =>
    gB (gAI v101 0 x3) fun v102 =>
    f_X8_waysOf_9 n a0 (x2 + v102) (x3 + (1 : Int32)))
set_option maxHeartbeats 4000000 in
set_option maxRecDepth 100000 in
theorem b_X8_waysOf_9 {G : gG} {l : Launch} {p : Program} {e : Env} {s : State} {m : MethodId} {args : Array Value} {below : List Frame} {meth : Method} {c : Code} {h0 : g_H} {r : Int32} {h' : g_H} (X : gX G l yX8_waysOf.cls cX8_waysOf 4 (some .int) [] yX8_waysOf.name p s m args meth c) : ∀ n : Nat, w_X8_waysOf_9 G l p e s m args below meth c h0 r h' (f_X8_waysOf_9 n) := by
  have hx := X.1
  have hb := X.2.1
  have hown := X.2.2.2.1
  have hts := X.2.2.2.2.1
  intro n
  induction n with
  | zero =>
    intro a0 x2 x3 h H locs cells slots ls hf hI hl
    exact (gFail_f hf).elim
  | succ n ih =>
    intro a0 x2 x3 h H locs cells slots ls hf hI hl
    rw [f_X8_waysOf_9] at hf
    refine lv_iload_n hx hb dX8_waysOf_9 rfl (lv_at hl 2 rfl) ?_
    refine lv_bipush (v := (10 : Int32)) hx hb dX8_waysOf_10 (by decide) ?_
    refine lv_icmp_ge (tgt := 30) hx hb dX8_waysOf_12 (by decide) (fun c12 => ?_) (fun c12 => ?_)
    · have hf := g_t c12 hf
      exact b_X8_waysOf_30 X _ _ _ _ _ _ _ hf hI (lv_sub hl [1] rfl)
    · have hf := g_f c12 hf
      refine lv_iload_n hx hb dX8_waysOf_15 rfl (lv_at hl 1 rfl) ?_
      refine lv_aload_n hx hb dX8_waysOf_16 rfl (lv_at hl 0 rfl) ?_
      refine g_fr X hI hf fX8_35 q1479 rfl rfl dX8_waysOf_17 (fun v101 hf => ?_)
      refine lv_iload_n hx hb dX8_waysOf_20 rfl (lv_at hl 2 rfl) ?_
      refine g_ai0 X hI hf dX8_waysOf_21 (fun v102 hf => ?_)
      refine lv_iadd hx hb dX8_waysOf_22 ?_
      refine lv_istore_n (lv' := [(2, .int (x2 + v102)), (0, .ref a0), (3, .int x3)]) hx hb dX8_waysOf_23 rfl hl (by decide) rfl (fun ls hl => ?_)
      refine lv_iinc (v := (x3 + (1 : Int32))) (lv' := [(3, .int (x3 + (1 : Int32))), (2, .int (x2 + v102)), (0, .ref a0)]) hx hb dX8_waysOf_24 hl (k := 2) rfl rfl (by decide) rfl (fun ls hl => ?_)
      refine lv_goto (tgt := 9) hx hb dX8_waysOf_27 (by decide) ?_
      exact ih _ _ _ _ _ _ _ _ _ hf hI (lv_sub hl [2, 1, 0] rfl)
def f_X8_waysOf (a0 : Nat) (x1 : Int32) : gM Int32 :=
    gB (gCk a0 7) fun _ =>
    gB (f_X8_laysRows a0 x1) fun _ =>
    f_X8_waysOf_9 gN a0 (0 : Int32) (0 : Int32)
set_option maxHeartbeats 4000000 in
set_option maxRecDepth 100000 in
theorem m_X8_waysOf {G : gG} {l : Launch} (hfl : l.stackTraces = false) {a0 : Nat} {x1 : Int32} {h h' : g_H} {r : Int32} (hf : (f_X8_waysOf a0 x1).1 h = some (r, h')) : gMet G l yX8_waysOf (Cond.code yX8_waysOf cX8_waysOf 4 (some .int)) 9 205 [.ref a0, .int x1] h (.inl (g_wI r)) h' := by
  refine g_head hfl ((f_X8_waysOf a0 x1).2 h r h' hf) (plainFor_of_name (by decide)) (Nat.le_of_ble_eq_true rfl) (fun p e s m below meth c H locs cells slots ls X hI hl9 => ?_)
  have hl : lv_has ls 4 [(0, .ref a0), (1, .int x1)] := hl9
  have hx := X.1
  have hb := X.2.1
  have hown := X.2.2.2.1
  have hts := X.2.2.2.2.1
  unfold f_X8_waysOf at hf
  refine lv_aload_n hx hb dX8_waysOf_0 rfl (lv_at hl 0 rfl) ?_
  refine lv_iload_n hx hb dX8_waysOf_1 rfl (lv_at hl 1 rfl) ?_
  obtain ⟨hs, hf⟩ := gCk_b hf
  refine g_cBU hI hf (fun v9 h9 e9 l9 l9' => g_rV X hI l9 l9' ⟨Nat.le_refl _, Nat.le_refl _⟩ (As := [.int x1]) (m_X8_laysRows X.2.2.2.2.2.2.2.2.2.2.1 e9) ydX8_laysRows hs rfl rfl q1942 q1944 qs101 q131 q1945 rfl (Nat.le_of_ble_eq_true rfl) (Nat.le_of_ble_eq_true rfl) hl.1 rfl (Nat.le_of_ble_eq_true rfl) dX8_waysOf_2) (fun r1 h H locs cells slots hf hI => ?_)
  refine lv_iconst (v := (0 : Int32)) hx hb dX8_waysOf_5 (by decide) ?_
  refine lv_istore_n (lv' := [(2, .int (0 : Int32)), (0, .ref a0), (1, .int x1)]) hx hb dX8_waysOf_6 rfl hl (by decide) rfl (fun ls hl => ?_)
  refine lv_iconst (v := (0 : Int32)) hx hb dX8_waysOf_7 (by decide) ?_
  refine lv_istore_n (lv' := [(3, .int (0 : Int32)), (2, .int (0 : Int32)), (0, .ref a0), (1, .int x1)]) hx hb dX8_waysOf_8 rfl hl (by decide) rfl (fun ls hl => ?_)
  exact b_X8_waysOf_9 X gN _ _ _ _ _ _ _ _ _ hf hI (lv_sub hl [2, 1, 0] rfl)
/-! X8_oddsOf -/
def f_X8_oddsOf (a0 : Nat) (x1 : Int32) : gM Int32 :=
    gB (gCk a0 7) fun _ =>
    gB (f_X8_waysOf a0 x1) fun r1 =>
    gB (gFI a0 7 36) fun v2 =>
    gB (gGd (¬ (v2).toInt64 = 0)) fun _ =>
    (gRet ((((10000 : Int64) * (r1).toInt64) / (v2).toInt64)).toInt32)
set_option maxHeartbeats 4000000 in
set_option maxRecDepth 100000 in
theorem m_X8_oddsOf {G : gG} {l : Launch} (hfl : l.stackTraces = false) {a0 : Nat} {x1 : Int32} {h h' : g_H} {r : Int32} (hf : (f_X8_oddsOf a0 x1).1 h = some (r, h')) : gMet G l yX8_oddsOf (Cond.code yX8_oddsOf cX8_oddsOf 2 (some .int)) 10 228 [.ref a0, .int x1] h (.inl (g_wI r)) h' := by
  refine g_head hfl ((f_X8_oddsOf a0 x1).2 h r h' hf) (plainFor_of_name (by decide)) (Nat.le_of_ble_eq_true rfl) (fun p e s m below meth c H locs cells slots ls X hI hl9 => ?_)
  have hl : lv_has ls 2 [(0, .ref a0), (1, .int x1)] := hl9
  have hx := X.1
  have hb := X.2.1
  have hown := X.2.2.2.1
  have hts := X.2.2.2.2.1
  unfold f_X8_oddsOf at hf
  refine lv_ldc2 (v := (10000 : Int64)) hx hb hown (hts _ q1962) dX8_oddsOf_0 ?_
  refine lv_aload_n hx hb dX8_oddsOf_3 rfl (lv_at hl 0 rfl) ?_
  refine lv_iload_n hx hb dX8_oddsOf_4 rfl (lv_at hl 1 rfl) ?_
  obtain ⟨hs, hf⟩ := gCk_b hf
  refine g_cBI hI hf (fun v9 h9 e9 l9 l9' => g_rV X hI l9 l9' ⟨Nat.le_refl _, Nat.le_refl _⟩ (As := [.int x1]) (m_X8_waysOf X.2.2.2.2.2.2.2.2.2.2.1 e9) ydX8_waysOf hs rfl rfl q1938 q1940 qs100 q131 q1941 rfl (Nat.le_of_ble_eq_true rfl) (Nat.le_of_ble_eq_true rfl) hl.1 rfl (Nat.le_of_ble_eq_true rfl) dX8_oddsOf_5) (fun r1 h H locs cells slots hf hI => ?_)
  refine lv_i2l hx hb dX8_oddsOf_8 rfl ?_
  refine lv_lmul hx hb dX8_oddsOf_9 ?_
  refine lv_aload_n hx hb dX8_oddsOf_10 rfl (lv_at hl 0 rfl) ?_
  refine g_fi X hI hf fX8_36 q1480 rfl rfl dX8_oddsOf_11 (fun v2 hf => ?_)
  refine lv_i2l hx hb dX8_oddsOf_14 rfl ?_
  obtain ⟨hz15, hf⟩ := gB_gd hf
  refine lv_ldiv hx hb dX8_oddsOf_15 hz15 ?_
  refine lv_l2i hx hb dX8_oddsOf_16 rfl ?_
  cases gRet_e hf
  exact g_retI X hI rfl dX8_oddsOf_17
/-! X8_bravest -/
abbrev w_X8_bravest_53 (G : gG) (l : Launch) (p : Program) (e : Env) (s : State) (m : MethodId) (args : Array Value) (below : List Frame) (meth : Method) (c : Code) (h0 : g_H) (r : Int32) (h' : g_H) (k : Nat → Int32 → Int32 → Int32 → Int32 → gM Int32) : Prop := ∀ (a0 : Nat) (x2 : Int32) (x3 : Int32) (x4 : Int32) (u0 : Int32) (h : g_H) (H : Heap) (locs : List Loc) (cells slots : Nat) (ls : Array Slot), (k a0 x2 x3 x4 u0).1 h = some (r, h') → gI G h0 h H locs cells slots → lv_has ls 5 [(0, .ref a0), (2, .int x2), (3, .int x3), (4, .int x4)] → W p l e (g_rm 11 249 h0 h') s m args below meth c H locs cells slots (gQ G below args s h0 h' (.inl (g_wI r))) (F0 m 53 ls [.int u0])
abbrev w_X8_bravest_40 (G : gG) (l : Launch) (p : Program) (e : Env) (s : State) (m : MethodId) (args : Array Value) (below : List Frame) (meth : Method) (c : Code) (h0 : g_H) (r : Int32) (h' : g_H) (k : Nat → Int32 → Int32 → Int32 → Int32 → gM Int32) : Prop := ∀ (a0 : Nat) (x1 : Int32) (x2 : Int32) (x3 : Int32) (u0 : Int32) (h : g_H) (H : Heap) (locs : List Loc) (cells slots : Nat) (ls : Array Slot), (k a0 x1 x2 x3 u0).1 h = some (r, h') → gI G h0 h H locs cells slots → lv_has ls 5 [(0, .ref a0), (1, .int x1), (2, .int x2), (3, .int x3)] → W p l e (g_rm 11 249 h0 h') s m args below meth c H locs cells slots (gQ G below args s h0 h' (.inl (g_wI r))) (F0 m 40 ls [.int u0])
abbrev w_X8_bravest_67 (G : gG) (l : Launch) (p : Program) (e : Env) (s : State) (m : MethodId) (args : Array Value) (below : List Frame) (meth : Method) (c : Code) (h0 : g_H) (r : Int32) (h' : g_H) (k : Int32 → gM Int32) : Prop := ∀ (x1 : Int32) (h : g_H) (H : Heap) (locs : List Loc) (cells slots : Nat) (ls : Array Slot), (k x1).1 h = some (r, h') → gI G h0 h H locs cells slots → lv_has ls 5 [(1, .int x1)] → W p l e (g_rm 11 249 h0 h') s m args below meth c H locs cells slots (gQ G below args s h0 h' (.inl (g_wI r))) (F0 m 67 ls [])
abbrev w_X8_bravest_13 (G : gG) (l : Launch) (p : Program) (e : Env) (s : State) (m : MethodId) (args : Array Value) (below : List Frame) (meth : Method) (c : Code) (h0 : g_H) (r : Int32) (h' : g_H) (k : Nat → Int32 → Int32 → Int32 → gM Int32) : Prop := ∀ (a0 : Nat) (x1 : Int32) (x2 : Int32) (x3 : Int32) (h : g_H) (H : Heap) (locs : List Loc) (cells slots : Nat) (ls : Array Slot), (k a0 x1 x2 x3).1 h = some (r, h') → gI G h0 h H locs cells slots → lv_has ls 5 [(0, .ref a0), (1, .int x1), (2, .int x2), (3, .int x3)] → W p l e (g_rm 11 249 h0 h') s m args below meth c H locs cells slots (gQ G below args s h0 h' (.inl (g_wI r))) (F0 m 13 ls [])
def f_X8_bravest_53 (k13 : Nat → Int32 → Int32 → Int32 → gM Int32) (a0 : Nat) (x2 : Int32) (x3 : Int32) (x4 : Int32) (u0 : Int32) : gM Int32 :=
    gB (f_J13_min x2 x4) fun r101 =>
    k13 a0 u0 r101 (x3 + (1 : Int32))
set_option maxHeartbeats 4000000 in
set_option maxRecDepth 100000 in
theorem b_X8_bravest_53 {G : gG} {l : Launch} {p : Program} {e : Env} {s : State} {m : MethodId} {args : Array Value} {below : List Frame} {meth : Method} {c : Code} {h0 : g_H} {r : Int32} {h' : g_H} (X : gX G l yX8_bravest.cls cX8_bravest 5 (some .int) [] yX8_bravest.name p s m args meth c) {k13 : Nat → Int32 → Int32 → Int32 → gM Int32} (K13 : w_X8_bravest_13 G l p e s m args below meth c h0 r h' k13) : w_X8_bravest_53 G l p e s m args below meth c h0 r h' (f_X8_bravest_53 k13) := by
  have hx := X.1
  have hb := X.2.1
  have hown := X.2.2.2.1
  have hts := X.2.2.2.2.1
  intro a0 x2 x3 x4 u0 h H locs cells slots ls hf hI hl
  unfold f_X8_bravest_53 at hf
  refine lv_istore_n (lv' := [(1, .int u0), (0, .ref a0), (2, .int x2), (3, .int x3), (4, .int x4)]) hx hb dX8_bravest_53 rfl hl (by decide) rfl (fun ls hl => ?_)
  refine lv_iload_n hx hb dX8_bravest_54 rfl (lv_at hl 2 rfl) ?_
  refine lv_iload hx hb dX8_bravest_55 (lv_at hl 4 rfl) ?_
  refine g_cBI hI hf (fun v9 h9 e9 l9 l9' => g_rS (b := 0) X hI l9 l9' ⟨Nat.le_refl _, Nat.le_refl _⟩ (As := [.int x2, .int x4]) (m_J13_min X.2.2.2.2.2.2.2.2.2.2.1 e9) ydJ13_min q1845 q740 q151 q741 rfl (Nat.le_of_ble_eq_true rfl) (Nat.le_of_ble_eq_true rfl) hl.1 rfl (Nat.le_of_ble_eq_true rfl) dX8_bravest_57) (fun r101 h H locs cells slots hf hI => ?_)
  refine lv_istore_n (lv' := [(2, .int r101), (1, .int u0), (0, .ref a0), (3, .int x3), (4, .int x4)]) hx hb dX8_bravest_60 rfl hl (by decide) rfl (fun ls hl => ?_)
  refine lv_iinc (v := (x3 + (1 : Int32))) (lv' := [(3, .int (x3 + (1 : Int32))), (2, .int r101), (1, .int u0), (0, .ref a0), (4, .int x4)]) hx hb dX8_bravest_61 hl (k := 3) rfl rfl (by decide) rfl (fun ls hl => ?_)
  refine lv_goto (tgt := 13) hx hb dX8_bravest_64 (by decide) ?_
  exact K13 _ _ _ _ _ _ _ _ _ _ hf hI (lv_sub hl [3, 2, 1, 0] rfl)
def f_X8_bravest_40 (k13 : Nat → Int32 → Int32 → Int32 → gM Int32) (a0 : Nat) (x1 : Int32) (x2 : Int32) (x3 : Int32) (u0 : Int32) : gM Int32 :=
    gIf (x2 ≤ u0)
    (f_X8_bravest_53 k13 a0 x2 x3 u0 x1)
    (f_X8_bravest_53 k13 a0 x2 x3 u0 x3)
set_option maxHeartbeats 4000000 in
set_option maxRecDepth 100000 in
theorem b_X8_bravest_40 {G : gG} {l : Launch} {p : Program} {e : Env} {s : State} {m : MethodId} {args : Array Value} {below : List Frame} {meth : Method} {c : Code} {h0 : g_H} {r : Int32} {h' : g_H} (X : gX G l yX8_bravest.cls cX8_bravest 5 (some .int) [] yX8_bravest.name p s m args meth c) {k13 : Nat → Int32 → Int32 → Int32 → gM Int32} (K13 : w_X8_bravest_13 G l p e s m args below meth c h0 r h' k13) : w_X8_bravest_40 G l p e s m args below meth c h0 r h' (f_X8_bravest_40 k13) := by
  have hx := X.1
  have hb := X.2.1
  have hown := X.2.2.2.1
  have hts := X.2.2.2.2.1
  intro a0 x1 x2 x3 u0 h H locs cells slots ls hf hI hl
  unfold f_X8_bravest_40 at hf
  refine lv_istore (lv' := [(4, .int u0), (0, .ref a0), (1, .int x1), (2, .int x2), (3, .int x3)]) hx hb dX8_bravest_40 hl (by decide) rfl (fun ls hl => ?_)
  refine lv_iload hx hb dX8_bravest_42 (lv_at hl 0 rfl) ?_
  refine lv_iload_n hx hb dX8_bravest_44 rfl (lv_at hl 3 rfl) ?_
  refine lv_icmp_ge (tgt := 52) hx hb dX8_bravest_45 (by decide) (fun c45 => ?_) (fun c45 => ?_)
  · have hf := g_t c45 hf
    refine lv_iload_n hx hb dX8_bravest_52 rfl (lv_at hl 2 rfl) ?_
    exact b_X8_bravest_53 X K13 _ _ _ _ _ _ _ _ _ _ _ hf hI (lv_sub hl [1, 3, 4, 0] rfl)
  · have hf := g_f c45 hf
    refine lv_iload_n hx hb dX8_bravest_48 rfl (lv_at hl 4 rfl) ?_
    refine lv_goto (tgt := 53) hx hb dX8_bravest_49 (by decide) ?_
    exact b_X8_bravest_53 X K13 _ _ _ _ _ _ _ _ _ _ _ hf hI (lv_sub hl [1, 3, 4, 0] rfl)
def f_X8_bravest_67 (x1 : Int32) : gM Int32 :=
    (gRet x1)
set_option maxHeartbeats 4000000 in
set_option maxRecDepth 100000 in
theorem b_X8_bravest_67 {G : gG} {l : Launch} {p : Program} {e : Env} {s : State} {m : MethodId} {args : Array Value} {below : List Frame} {meth : Method} {c : Code} {h0 : g_H} {r : Int32} {h' : g_H} (X : gX G l yX8_bravest.cls cX8_bravest 5 (some .int) [] yX8_bravest.name p s m args meth c) : w_X8_bravest_67 G l p e s m args below meth c h0 r h' (f_X8_bravest_67) := by
  have hx := X.1
  have hb := X.2.1
  have hown := X.2.2.2.1
  have hts := X.2.2.2.2.1
  intro x1 h H locs cells slots ls hf hI hl
  unfold f_X8_bravest_67 at hf
  refine lv_iload_n hx hb dX8_bravest_67 rfl (lv_at hl 0 rfl) ?_
  cases gRet_e hf
  exact g_retI X hI rfl dX8_bravest_68
def f_X8_bravest_13 : Nat → Nat → Int32 → Int32 → Int32 → gM Int32
  | 0, _, _, _, _ => gFail
  | n + 1, a0, x1, x2, x3 =>
    gB (gCk a0 7) fun _ =>
    gB (f_X8_oneCount a0) fun r101 =>
    gIf (r101 ≤ x3)
    (f_X8_bravest_67 x1)
    (gB (gCk a0 7) fun _ =>
    gB (f_X8_waits a0 x3) fun r102 =>
    gIf (r102 = 0)
    (f_X8_bravest_40 (f_X8_bravest_13 n) a0 x1 x2 x3 (100000000 : Int32))
    (gB (gCk a0 7) fun _ =>
    gB (f_X8_oddsOf a0 x3) fun r103 =>
    f_X8_bravest_40 (f_X8_bravest_13 n) a0 x1 x2 x3 r103))
set_option maxHeartbeats 4000000 in
set_option maxRecDepth 100000 in
theorem b_X8_bravest_13 {G : gG} {l : Launch} {p : Program} {e : Env} {s : State} {m : MethodId} {args : Array Value} {below : List Frame} {meth : Method} {c : Code} {h0 : g_H} {r : Int32} {h' : g_H} (X : gX G l yX8_bravest.cls cX8_bravest 5 (some .int) [] yX8_bravest.name p s m args meth c) : ∀ n : Nat, w_X8_bravest_13 G l p e s m args below meth c h0 r h' (f_X8_bravest_13 n) := by
  have hx := X.1
  have hb := X.2.1
  have hown := X.2.2.2.1
  have hts := X.2.2.2.2.1
  intro n
  induction n with
  | zero =>
    intro a0 x1 x2 x3 h H locs cells slots ls hf hI hl
    exact (gFail_f hf).elim
  | succ n ih =>
    intro a0 x1 x2 x3 h H locs cells slots ls hf hI hl
    rw [f_X8_bravest_13] at hf
    refine lv_iload_n hx hb dX8_bravest_13 rfl (lv_at hl 3 rfl) ?_
    refine lv_aload_n hx hb dX8_bravest_14 rfl (lv_at hl 0 rfl) ?_
    obtain ⟨hs, hf⟩ := gCk_b hf
    refine g_cBI hI hf (fun v9 h9 e9 l9 l9' => g_rV X hI l9 l9' ⟨Nat.le_refl _, Nat.le_refl _⟩ (As := []) (m_X8_oneCount X.2.2.2.2.2.2.2.2.2.2.1 e9) ydX8_oneCount hs rfl rfl q1673 q1675 qs61 q131 q1676 rfl (Nat.le_of_ble_eq_true rfl) (Nat.le_of_ble_eq_true rfl) hl.1 rfl (Nat.le_of_ble_eq_true rfl) dX8_bravest_15) (fun r101 h H locs cells slots hf hI => ?_)
    refine lv_icmp_ge (tgt := 67) hx hb dX8_bravest_18 (by decide) (fun c18 => ?_) (fun c18 => ?_)
    · have hf := g_t c18 hf
      exact b_X8_bravest_67 X _ _ _ _ _ _ _ hf hI (lv_sub hl [1] rfl)
    · have hf := g_f c18 hf
      refine lv_aload_n hx hb dX8_bravest_21 rfl (lv_at hl 0 rfl) ?_
      refine lv_iload_n hx hb dX8_bravest_22 rfl (lv_at hl 3 rfl) ?_
      obtain ⟨hs, hf⟩ := gCk_b hf
      refine g_cBI hI hf (fun v9 h9 e9 l9 l9' => g_rV X hI l9 l9' ⟨Nat.le_refl _, Nat.le_refl _⟩ (As := [.int x3]) (m_X8_waits X.2.2.2.2.2.2.2.2.2.2.1 e9) ydX8_waits hs rfl rfl q1804 q1806 qs82 q131 q1807 rfl (Nat.le_of_ble_eq_true rfl) (Nat.le_of_ble_eq_true rfl) hl.1 rfl (Nat.le_of_ble_eq_true rfl) dX8_bravest_23) (fun r102 h H locs cells slots hf hI => ?_)
      refine lv_if_eq (tgt := 37) hx hb dX8_bravest_26 (by decide) (fun c26 => ?_) (fun c26 => ?_)
      · have hf := g_t c26 hf
        refine lv_ldcw (v := (100000000 : Int32)) hx hb hown (hts _ q1983) dX8_bravest_37 ?_
        exact b_X8_bravest_40 X ih _ _ _ _ _ _ _ _ _ _ _ hf hI (lv_sub hl [0, 1, 2, 3] rfl)
      · have hf := g_f c26 hf
        refine lv_aload_n hx hb dX8_bravest_29 rfl (lv_at hl 0 rfl) ?_
        refine lv_iload_n hx hb dX8_bravest_30 rfl (lv_at hl 3 rfl) ?_
        obtain ⟨hs, hf⟩ := gCk_b hf
        refine g_cBI hI hf (fun v9 h9 e9 l9 l9' => g_rV X hI l9 l9' ⟨Nat.le_refl _, Nat.le_refl _⟩ (As := [.int x3]) (m_X8_oddsOf X.2.2.2.2.2.2.2.2.2.2.1 e9) ydX8_oddsOf hs rfl rfl q1958 q1960 qs103 q131 q1961 rfl (Nat.le_of_ble_eq_true rfl) (Nat.le_of_ble_eq_true rfl) hl.1 rfl (Nat.le_of_ble_eq_true rfl) dX8_bravest_31) (fun r103 h H locs cells slots hf hI => ?_)
        refine lv_goto (tgt := 40) hx hb dX8_bravest_34 (by decide) ?_
        exact b_X8_bravest_40 X ih _ _ _ _ _ _ _ _ _ _ _ hf hI (lv_sub hl [0, 1, 2, 3] rfl)
def f_X8_bravest (a0 : Nat) : gM Int32 :=
    gB (gPI a0 7 0 (0 : Int32)) fun _ =>
    f_X8_bravest_13 gN a0 (-1 : Int32) (100000000 : Int32) (0 : Int32)
set_option maxHeartbeats 4000000 in
set_option maxRecDepth 100000 in
theorem m_X8_bravest {G : gG} {l : Launch} (hfl : l.stackTraces = false) {a0 : Nat} {h h' : g_H} {r : Int32} (hf : (f_X8_bravest a0).1 h = some (r, h')) : gMet G l yX8_bravest (Cond.code yX8_bravest cX8_bravest 5 (some .int)) 11 249 [.ref a0] h (.inl (g_wI r)) h' := by
  refine g_head hfl ((f_X8_bravest a0).2 h r h' hf) (plainFor_of_name (by decide)) (Nat.le_of_ble_eq_true rfl) (fun p e s m below meth c H locs cells slots ls X hI hl9 => ?_)
  have hl : lv_has ls 5 [(0, .ref a0)] := hl9
  have hx := X.1
  have hb := X.2.1
  have hown := X.2.2.2.1
  have hts := X.2.2.2.2.1
  unfold f_X8_bravest at hf
  refine lv_aload_n hx hb dX8_bravest_0 rfl (lv_at hl 0 rfl) ?_
  refine lv_iconst (v := (0 : Int32)) hx hb dX8_bravest_1 (by decide) ?_
  refine g_pi X hI hf fX8_0 q1444 rfl dX8_bravest_2 (fun h H locs hf hI => ?_)
  refine lv_iconst (v := (-1 : Int32)) hx hb dX8_bravest_5 (by decide) ?_
  refine lv_istore_n (lv' := [(1, .int (-1 : Int32)), (0, .ref a0)]) hx hb dX8_bravest_6 rfl hl (by decide) rfl (fun ls hl => ?_)
  refine lv_ldcw (v := (100000000 : Int32)) hx hb hown (hts _ q1983) dX8_bravest_7 ?_
  refine lv_istore_n (lv' := [(2, .int (100000000 : Int32)), (1, .int (-1 : Int32)), (0, .ref a0)]) hx hb dX8_bravest_10 rfl hl (by decide) rfl (fun ls hl => ?_)
  refine lv_iconst (v := (0 : Int32)) hx hb dX8_bravest_11 (by decide) ?_
  refine lv_istore_n (lv' := [(3, .int (0 : Int32)), (2, .int (100000000 : Int32)), (1, .int (-1 : Int32)), (0, .ref a0)]) hx hb dX8_bravest_12 rfl hl (by decide) rfl (fun ls hl => ?_)
  exact b_X8_bravest_13 X gN _ _ _ _ _ _ _ _ _ _ hf hI (lv_sub hl [3, 2, 1, 0] rfl)
/-! X1_nailedOnes -/
abbrev w_X1_nailedOnes_39 (G : gG) (l : Launch) (p : Program) (e : Env) (s : State) (m : MethodId) (args : Array Value) (below : List Frame) (meth : Method) (c : Code) (h0 : g_H) (r : Int32) (h' : g_H) (k : Nat → Int32 → Int32 → Int32 → gM Int32) : Prop := ∀ (a0 : Nat) (x2 : Int32) (u0 : Int32) (u1 : Int32) (h : g_H) (H : Heap) (locs : List Loc) (cells slots : Nat) (ls : Array Slot), (k a0 x2 u0 u1).1 h = some (r, h') → gI G h0 h H locs cells slots → lv_has ls 3 [(0, .ref a0), (2, .int x2)] → W p l e (g_rm 1 20 h0 h') s m args below meth c H locs cells slots (gQ G below args s h0 h' (.inl (g_wI r))) (F0 m 39 ls [.int u1, .int u0])
abbrev w_X1_nailedOnes_47 (G : gG) (l : Launch) (p : Program) (e : Env) (s : State) (m : MethodId) (args : Array Value) (below : List Frame) (meth : Method) (c : Code) (h0 : g_H) (r : Int32) (h' : g_H) (k : Int32 → gM Int32) : Prop := ∀ (x1 : Int32) (h : g_H) (H : Heap) (locs : List Loc) (cells slots : Nat) (ls : Array Slot), (k x1).1 h = some (r, h') → gI G h0 h H locs cells slots → lv_has ls 3 [(1, .int x1)] → W p l e (g_rm 1 20 h0 h') s m args below meth c H locs cells slots (gQ G below args s h0 h' (.inl (g_wI r))) (F0 m 47 ls [])
abbrev w_X1_nailedOnes_4 (G : gG) (l : Launch) (p : Program) (e : Env) (s : State) (m : MethodId) (args : Array Value) (below : List Frame) (meth : Method) (c : Code) (h0 : g_H) (r : Int32) (h' : g_H) (k : Nat → Int32 → Int32 → gM Int32) : Prop := ∀ (a0 : Nat) (x1 : Int32) (x2 : Int32) (h : g_H) (H : Heap) (locs : List Loc) (cells slots : Nat) (ls : Array Slot), (k a0 x1 x2).1 h = some (r, h') → gI G h0 h H locs cells slots → lv_has ls 3 [(0, .ref a0), (1, .int x1), (2, .int x2)] → W p l e (g_rm 1 20 h0 h') s m args below meth c H locs cells slots (gQ G below args s h0 h' (.inl (g_wI r))) (F0 m 4 ls [])
def f_X1_nailedOnes_39 (k4 : Nat → Int32 → Int32 → gM Int32) (a0 : Nat) (x2 : Int32) (u0 : Int32) (u1 : Int32) : gM Int32 :=
    k4 a0 (u0 ||| u1) (x2 + (1 : Int32))
set_option maxHeartbeats 4000000 in
set_option maxRecDepth 100000 in
theorem b_X1_nailedOnes_39 {G : gG} {l : Launch} {p : Program} {e : Env} {s : State} {m : MethodId} {args : Array Value} {below : List Frame} {meth : Method} {c : Code} {h0 : g_H} {r : Int32} {h' : g_H} (X : gX G l yX1_nailedOnes.cls cX1_nailedOnes 3 (some .int) [] yX1_nailedOnes.name p s m args meth c) {k4 : Nat → Int32 → Int32 → gM Int32} (K4 : w_X1_nailedOnes_4 G l p e s m args below meth c h0 r h' k4) : w_X1_nailedOnes_39 G l p e s m args below meth c h0 r h' (f_X1_nailedOnes_39 k4) := by
  have hx := X.1
  have hb := X.2.1
  have hown := X.2.2.2.1
  have hts := X.2.2.2.2.1
  intro a0 x2 u0 u1 h H locs cells slots ls hf hI hl
  unfold f_X1_nailedOnes_39 at hf
  refine lv_ior hx hb dX1_nailedOnes_39 ?_
  refine lv_istore_n (lv' := [(1, .int (u0 ||| u1)), (0, .ref a0), (2, .int x2)]) hx hb dX1_nailedOnes_40 rfl hl (by decide) rfl (fun ls hl => ?_)
  refine lv_iinc (v := (x2 + (1 : Int32))) (lv' := [(2, .int (x2 + (1 : Int32))), (1, .int (u0 ||| u1)), (0, .ref a0)]) hx hb dX1_nailedOnes_41 hl (k := 2) rfl rfl (by decide) rfl (fun ls hl => ?_)
  refine lv_goto (tgt := 4) hx hb dX1_nailedOnes_44 (by decide) ?_
  exact K4 _ _ _ _ _ _ _ _ _ hf hI (lv_sub hl [2, 1, 0] rfl)
def f_X1_nailedOnes_47 (x1 : Int32) : gM Int32 :=
    (gRet x1)
set_option maxHeartbeats 4000000 in
set_option maxRecDepth 100000 in
theorem b_X1_nailedOnes_47 {G : gG} {l : Launch} {p : Program} {e : Env} {s : State} {m : MethodId} {args : Array Value} {below : List Frame} {meth : Method} {c : Code} {h0 : g_H} {r : Int32} {h' : g_H} (X : gX G l yX1_nailedOnes.cls cX1_nailedOnes 3 (some .int) [] yX1_nailedOnes.name p s m args meth c) : w_X1_nailedOnes_47 G l p e s m args below meth c h0 r h' (f_X1_nailedOnes_47) := by
  have hx := X.1
  have hb := X.2.1
  have hown := X.2.2.2.1
  have hts := X.2.2.2.2.1
  intro x1 h H locs cells slots ls hf hI hl
  unfold f_X1_nailedOnes_47 at hf
  refine lv_iload_n hx hb dX1_nailedOnes_47 rfl (lv_at hl 0 rfl) ?_
  cases gRet_e hf
  exact g_retI X hI rfl dX1_nailedOnes_48
def f_X1_nailedOnes_4 : Nat → Nat → Int32 → Int32 → gM Int32
  | 0, _, _, _ => gFail
  | n + 1, a0, x1, x2 =>
    gIf ((10 : Int32) ≤ x2)
    (f_X1_nailedOnes_47 x1)
    (gB (gFR a0 0 1) fun v101 =>
    gB (gFR v101 2 3) fun v102 =>
    gB (gAI v102 0 x2) fun v103 =>
    gIf (v103 = (-1 : Int32))
    (f_X1_nailedOnes_39 (f_X1_nailedOnes_4 n) a0 x2 x1 (0 : Int32))
    (gB (gFR a0 0 1) fun v104 =>
    gB (gFR v104 2 3) fun v105 =>
    gB (gAI v105 0 x2) fun v106 =>
    f_X1_nailedOnes_39 (f_X1_nailedOnes_4 n) a0 x2 x1 ((1 : Int32) <<< (v106 &&& 31))))
set_option maxHeartbeats 4000000 in
set_option maxRecDepth 100000 in
theorem b_X1_nailedOnes_4 {G : gG} {l : Launch} {p : Program} {e : Env} {s : State} {m : MethodId} {args : Array Value} {below : List Frame} {meth : Method} {c : Code} {h0 : g_H} {r : Int32} {h' : g_H} (X : gX G l yX1_nailedOnes.cls cX1_nailedOnes 3 (some .int) [] yX1_nailedOnes.name p s m args meth c) : ∀ n : Nat, w_X1_nailedOnes_4 G l p e s m args below meth c h0 r h' (f_X1_nailedOnes_4 n) := by
  have hx := X.1
  have hb := X.2.1
  have hown := X.2.2.2.1
  have hts := X.2.2.2.2.1
  intro n
  induction n with
  | zero =>
    intro a0 x1 x2 h H locs cells slots ls hf hI hl
    exact (gFail_f hf).elim
  | succ n ih =>
    intro a0 x1 x2 h H locs cells slots ls hf hI hl
    rw [f_X1_nailedOnes_4] at hf
    refine lv_iload_n hx hb dX1_nailedOnes_4 rfl (lv_at hl 2 rfl) ?_
    refine lv_bipush (v := (10 : Int32)) hx hb dX1_nailedOnes_5 (by decide) ?_
    refine lv_icmp_ge (tgt := 47) hx hb dX1_nailedOnes_7 (by decide) (fun c7 => ?_) (fun c7 => ?_)
    · have hf := g_t c7 hf
      exact b_X1_nailedOnes_47 X _ _ _ _ _ _ _ hf hI (lv_sub hl [1] rfl)
    · have hf := g_f c7 hf
      refine lv_iload_n hx hb dX1_nailedOnes_10 rfl (lv_at hl 1 rfl) ?_
      refine lv_aload_n hx hb dX1_nailedOnes_11 rfl (lv_at hl 0 rfl) ?_
      refine g_fr X hI hf fX1_1 q461 rfl rfl dX1_nailedOnes_12 (fun v101 hf => ?_)
      refine g_frN X hI hf fX3_3 q264 rfl rfl dX1_nailedOnes_15 (fun v102 hf => ?_)
      refine lv_iload_n hx hb dX1_nailedOnes_18 rfl (lv_at hl 2 rfl) ?_
      refine g_ai0 X hI hf dX1_nailedOnes_19 (fun v103 hf => ?_)
      refine lv_iconst (v := (-1 : Int32)) hx hb dX1_nailedOnes_20 (by decide) ?_
      refine lv_icmp_eq (tgt := 38) hx hb dX1_nailedOnes_21 (by decide) (fun c21 => ?_) (fun c21 => ?_)
      · have hf := g_t c21 hf
        refine lv_iconst (v := (0 : Int32)) hx hb dX1_nailedOnes_38 (by decide) ?_
        exact b_X1_nailedOnes_39 X ih _ _ _ _ _ _ _ _ _ _ hf hI (lv_sub hl [0, 2] rfl)
      · have hf := g_f c21 hf
        refine lv_iconst (v := (1 : Int32)) hx hb dX1_nailedOnes_24 (by decide) ?_
        refine lv_aload_n hx hb dX1_nailedOnes_25 rfl (lv_at hl 0 rfl) ?_
        refine g_fr X hI hf fX1_1 q461 rfl rfl dX1_nailedOnes_26 (fun v104 hf => ?_)
        refine g_frN X hI hf fX3_3 q264 rfl rfl dX1_nailedOnes_29 (fun v105 hf => ?_)
        refine lv_iload_n hx hb dX1_nailedOnes_32 rfl (lv_at hl 2 rfl) ?_
        refine g_ai0 X hI hf dX1_nailedOnes_33 (fun v106 hf => ?_)
        refine lv_ishl hx hb dX1_nailedOnes_34 ?_
        refine lv_goto (tgt := 39) hx hb dX1_nailedOnes_35 (by decide) ?_
        exact b_X1_nailedOnes_39 X ih _ _ _ _ _ _ _ _ _ _ hf hI (lv_sub hl [0, 2] rfl)
def f_X1_nailedOnes (a0 : Nat) : gM Int32 :=
    f_X1_nailedOnes_4 gN a0 (0 : Int32) (0 : Int32)
set_option maxHeartbeats 4000000 in
set_option maxRecDepth 100000 in
theorem m_X1_nailedOnes {G : gG} {l : Launch} (hfl : l.stackTraces = false) {a0 : Nat} {h h' : g_H} {r : Int32} (hf : (f_X1_nailedOnes a0).1 h = some (r, h')) : gMet G l yX1_nailedOnes (Cond.code yX1_nailedOnes cX1_nailedOnes 3 (some .int)) 1 20 [.ref a0] h (.inl (g_wI r)) h' := by
  refine g_head hfl ((f_X1_nailedOnes a0).2 h r h' hf) (plainFor_of_name (by decide)) (Nat.le_of_ble_eq_true rfl) (fun p e s m below meth c H locs cells slots ls X hI hl9 => ?_)
  have hl : lv_has ls 3 [(0, .ref a0)] := hl9
  have hx := X.1
  have hb := X.2.1
  have hown := X.2.2.2.1
  have hts := X.2.2.2.2.1
  unfold f_X1_nailedOnes at hf
  refine lv_iconst (v := (0 : Int32)) hx hb dX1_nailedOnes_0 (by decide) ?_
  refine lv_istore_n (lv' := [(1, .int (0 : Int32)), (0, .ref a0)]) hx hb dX1_nailedOnes_1 rfl hl (by decide) rfl (fun ls hl => ?_)
  refine lv_iconst (v := (0 : Int32)) hx hb dX1_nailedOnes_2 (by decide) ?_
  refine lv_istore_n (lv' := [(2, .int (0 : Int32)), (1, .int (0 : Int32)), (0, .ref a0)]) hx hb dX1_nailedOnes_3 rfl hl (by decide) rfl (fun ls hl => ?_)
  exact b_X1_nailedOnes_4 X gN _ _ _ _ _ _ _ _ _ hf hI (lv_sub hl [2, 1, 0] rfl)
/-! J7_bitCount -/
def f_J7_bitCount (x0 : Int32) : gM Int32 :=
    gB (gRet (x0 - ((((x0).toUInt32 >>> (((1 : Int32)).toUInt32 &&& Int32.toUInt32 31)).toInt32) &&& (1431655765 : Int32)))) fun v1 =>
    gB (gRet ((v1 &&& (858993459 : Int32)) + ((((v1).toUInt32 >>> (((2 : Int32)).toUInt32 &&& Int32.toUInt32 31)).toInt32) &&& (858993459 : Int32)))) fun v2 =>
    gB (gRet ((v2 + (((v2).toUInt32 >>> (((4 : Int32)).toUInt32 &&& Int32.toUInt32 31)).toInt32)) &&& (252645135 : Int32))) fun v3 =>
    gB (gRet (v3 + (((v3).toUInt32 >>> (((8 : Int32)).toUInt32 &&& Int32.toUInt32 31)).toInt32))) fun v4 =>
    gB (gRet (v4 + (((v4).toUInt32 >>> (((16 : Int32)).toUInt32 &&& Int32.toUInt32 31)).toInt32))) fun v5 =>
    (gRet (v5 &&& (63 : Int32)))
set_option maxHeartbeats 4000000 in
set_option maxRecDepth 100000 in
theorem m_J7_bitCount {G : gG} {l : Launch} (hfl : l.stackTraces = false) {x0 : Int32} {h h' : g_H} {r : Int32} (hf : (f_J7_bitCount x0).1 h = some (r, h')) : gMet G l yJ7_bitCount (Cond.code yJ7_bitCount cJ7_bitCount 1 (some .int)) 1 20 [.int x0] h (.inl (g_wI r)) h' := by
  refine g_head hfl ((f_J7_bitCount x0).2 h r h' hf) (plainFor_of_name (by decide)) (Nat.le_of_ble_eq_true rfl) (fun p e s m below meth c H locs cells slots ls X hI hl9 => ?_)
  have hl : lv_has ls 1 [(0, .int x0)] := hl9
  have hx := X.1
  have hb := X.2.1
  have hown := X.2.2.2.1
  have hts := X.2.2.2.2.1
  unfold f_J7_bitCount at hf
  refine lv_iload_n hx hb dJ7_bitCount_0 rfl (lv_at hl 0 rfl) ?_
  refine lv_iload_n hx hb dJ7_bitCount_1 rfl (lv_at hl 0 rfl) ?_
  refine lv_iconst (v := (1 : Int32)) hx hb dJ7_bitCount_2 (by decide) ?_
  refine lv_iushr hx hb dJ7_bitCount_3 rfl ?_
  refine lv_ldcw (v := (1431655765 : Int32)) hx hb hown (hts _ q661) dJ7_bitCount_4 ?_
  refine lv_iand hx hb dJ7_bitCount_7 ?_
  refine lv_isub hx hb dJ7_bitCount_8 ?_
  refine g_let hf (fun v1 hf => ?_)
  refine lv_istore_n (lv' := [(0, .int v1)]) hx hb dJ7_bitCount_9 rfl hl (by decide) rfl (fun ls hl => ?_)
  refine lv_iload_n hx hb dJ7_bitCount_10 rfl (lv_at hl 0 rfl) ?_
  refine lv_ldcw (v := (858993459 : Int32)) hx hb hown (hts _ q662) dJ7_bitCount_11 ?_
  refine lv_iand hx hb dJ7_bitCount_14 ?_
  refine lv_iload_n hx hb dJ7_bitCount_15 rfl (lv_at hl 0 rfl) ?_
  refine lv_iconst (v := (2 : Int32)) hx hb dJ7_bitCount_16 (by decide) ?_
  refine lv_iushr hx hb dJ7_bitCount_17 rfl ?_
  refine lv_ldcw (v := (858993459 : Int32)) hx hb hown (hts _ q662) dJ7_bitCount_18 ?_
  refine lv_iand hx hb dJ7_bitCount_21 ?_
  refine lv_iadd hx hb dJ7_bitCount_22 ?_
  refine g_let hf (fun v2 hf => ?_)
  refine lv_istore_n (lv' := [(0, .int v2)]) hx hb dJ7_bitCount_23 rfl hl (by decide) rfl (fun ls hl => ?_)
  refine lv_iload_n hx hb dJ7_bitCount_24 rfl (lv_at hl 0 rfl) ?_
  refine lv_iload_n hx hb dJ7_bitCount_25 rfl (lv_at hl 0 rfl) ?_
  refine lv_iconst (v := (4 : Int32)) hx hb dJ7_bitCount_26 (by decide) ?_
  refine lv_iushr hx hb dJ7_bitCount_27 rfl ?_
  refine lv_iadd hx hb dJ7_bitCount_28 ?_
  refine lv_ldcw (v := (252645135 : Int32)) hx hb hown (hts _ q663) dJ7_bitCount_29 ?_
  refine lv_iand hx hb dJ7_bitCount_32 ?_
  refine g_let hf (fun v3 hf => ?_)
  refine lv_istore_n (lv' := [(0, .int v3)]) hx hb dJ7_bitCount_33 rfl hl (by decide) rfl (fun ls hl => ?_)
  refine lv_iload_n hx hb dJ7_bitCount_34 rfl (lv_at hl 0 rfl) ?_
  refine lv_iload_n hx hb dJ7_bitCount_35 rfl (lv_at hl 0 rfl) ?_
  refine lv_bipush (v := (8 : Int32)) hx hb dJ7_bitCount_36 (by decide) ?_
  refine lv_iushr hx hb dJ7_bitCount_38 rfl ?_
  refine lv_iadd hx hb dJ7_bitCount_39 ?_
  refine g_let hf (fun v4 hf => ?_)
  refine lv_istore_n (lv' := [(0, .int v4)]) hx hb dJ7_bitCount_40 rfl hl (by decide) rfl (fun ls hl => ?_)
  refine lv_iload_n hx hb dJ7_bitCount_41 rfl (lv_at hl 0 rfl) ?_
  refine lv_iload_n hx hb dJ7_bitCount_42 rfl (lv_at hl 0 rfl) ?_
  refine lv_bipush (v := (16 : Int32)) hx hb dJ7_bitCount_43 (by decide) ?_
  refine lv_iushr hx hb dJ7_bitCount_45 rfl ?_
  refine lv_iadd hx hb dJ7_bitCount_46 ?_
  refine g_let hf (fun v5 hf => ?_)
  refine lv_istore_n (lv' := [(0, .int v5)]) hx hb dJ7_bitCount_47 rfl hl (by decide) rfl (fun ls hl => ?_)
  refine lv_iload_n hx hb dJ7_bitCount_48 rfl (lv_at hl 0 rfl) ?_
  refine lv_bipush (v := (63 : Int32)) hx hb dJ7_bitCount_49 (by decide) ?_
  refine lv_iand hx hb dJ7_bitCount_51 ?_
  cases gRet_e hf
  exact g_retI X hI rfl dJ7_bitCount_52
/-! X3_takes -/
def f_X3_takes (a0 : Nat) (x1 : Int32) : gM Unit :=
    gB (gFR a0 2 0) fun v1 =>
    gB (gFR a0 2 3) fun v2 =>
    gB (gAI v2 0 x1) fun v3 =>
    gB (gAR v1 4 v3) fun v4 =>
    gB (gPI v4 3 3 (-1 : Int32)) fun _ =>
    gB (gFR a0 2 3) fun v5 =>
    gB (gSI v5 0 x1 (-1 : Int32)) fun _ =>
    gRet ()
set_option maxHeartbeats 4000000 in
set_option maxRecDepth 100000 in
theorem m_X3_takes {G : gG} {l : Launch} (hfl : l.stackTraces = false) {a0 : Nat} {x1 : Int32} {h h' : g_H} {r : Unit} (hf : (f_X3_takes a0 x1).1 h = some (r, h')) : gMet G l yX3_takes (Cond.code yX3_takes cX3_takes 2 none) 1 20 [.ref a0, .int x1] h (.inl (g_wU r)) h' := by
  refine g_head hfl ((f_X3_takes a0 x1).2 h r h' hf) (plainFor_of_name (by decide)) (Nat.le_of_ble_eq_true rfl) (fun p e s m below meth c H locs cells slots ls X hI hl9 => ?_)
  have hl : lv_has ls 2 [(0, .ref a0), (1, .int x1)] := hl9
  have hx := X.1
  have hb := X.2.1
  have hown := X.2.2.2.1
  have hts := X.2.2.2.2.1
  unfold f_X3_takes at hf
  refine lv_aload_n hx hb dX3_takes_0 rfl (lv_at hl 0 rfl) ?_
  refine g_fr X hI hf fX3_0 q253 rfl rfl dX3_takes_1 (fun v1 hf => ?_)
  refine lv_aload_n hx hb dX3_takes_4 rfl (lv_at hl 0 rfl) ?_
  refine g_fr X hI hf fX3_3 q261 rfl rfl dX3_takes_5 (fun v2 hf => ?_)
  refine lv_iload_n hx hb dX3_takes_8 rfl (lv_at hl 1 rfl) ?_
  refine g_ai0 X hI hf dX3_takes_9 (fun v3 hf => ?_)
  refine g_ar4 X hI hf dX3_takes_10 (fun v4 hf => ?_)
  refine lv_iconst (v := (-1 : Int32)) hx hb dX3_takes_11 (by decide) ?_
  refine g_piN X hI hf fX4_3 q208 rfl dX3_takes_12 (fun h H locs hf hI => ?_)
  refine lv_aload_n hx hb dX3_takes_15 rfl (lv_at hl 0 rfl) ?_
  refine g_fr X hI hf fX3_3 q261 rfl rfl dX3_takes_16 (fun v5 hf => ?_)
  refine lv_iload_n hx hb dX3_takes_19 rfl (lv_at hl 1 rfl) ?_
  refine lv_iconst (v := (-1 : Int32)) hx hb dX3_takes_20 (by decide) ?_
  refine g_si0 X hI hf dX3_takes_21 (fun h H locs hf hI => ?_)
  cases gRet_e hf
  exact g_retU X hI rfl dX3_takes_22
/-! X1_guiltyOnes -/
abbrev w_X1_guiltyOnes_38 (G : gG) (l : Launch) (p : Program) (e : Env) (s : State) (m : MethodId) (args : Array Value) (below : List Frame) (meth : Method) (c : Code) (h0 : g_H) (r : Int32) (h' : g_H) (k : Nat → Int32 → Int32 → Int32 → gM Int32) : Prop := ∀ (a0 : Nat) (x2 : Int32) (u0 : Int32) (u1 : Int32) (h : g_H) (H : Heap) (locs : List Loc) (cells slots : Nat) (ls : Array Slot), (k a0 x2 u0 u1).1 h = some (r, h') → gI G h0 h H locs cells slots → lv_has ls 3 [(0, .ref a0), (2, .int x2)] → W p l e (g_rm 1 20 h0 h') s m args below meth c H locs cells slots (gQ G below args s h0 h' (.inl (g_wI r))) (F0 m 38 ls [.int u1, .int u0])
abbrev w_X1_guiltyOnes_46 (G : gG) (l : Launch) (p : Program) (e : Env) (s : State) (m : MethodId) (args : Array Value) (below : List Frame) (meth : Method) (c : Code) (h0 : g_H) (r : Int32) (h' : g_H) (k : Int32 → gM Int32) : Prop := ∀ (x1 : Int32) (h : g_H) (H : Heap) (locs : List Loc) (cells slots : Nat) (ls : Array Slot), (k x1).1 h = some (r, h') → gI G h0 h H locs cells slots → lv_has ls 3 [(1, .int x1)] → W p l e (g_rm 1 20 h0 h') s m args below meth c H locs cells slots (gQ G below args s h0 h' (.inl (g_wI r))) (F0 m 46 ls [])
abbrev w_X1_guiltyOnes_4 (G : gG) (l : Launch) (p : Program) (e : Env) (s : State) (m : MethodId) (args : Array Value) (below : List Frame) (meth : Method) (c : Code) (h0 : g_H) (r : Int32) (h' : g_H) (k : Nat → Int32 → Int32 → gM Int32) : Prop := ∀ (a0 : Nat) (x1 : Int32) (x2 : Int32) (h : g_H) (H : Heap) (locs : List Loc) (cells slots : Nat) (ls : Array Slot), (k a0 x1 x2).1 h = some (r, h') → gI G h0 h H locs cells slots → lv_has ls 3 [(0, .ref a0), (1, .int x1), (2, .int x2)] → W p l e (g_rm 1 20 h0 h') s m args below meth c H locs cells slots (gQ G below args s h0 h' (.inl (g_wI r))) (F0 m 4 ls [])
def f_X1_guiltyOnes_38 (k4 : Nat → Int32 → Int32 → gM Int32) (a0 : Nat) (x2 : Int32) (u0 : Int32) (u1 : Int32) : gM Int32 :=
    k4 a0 (u0 ||| u1) (x2 + (1 : Int32))
set_option maxHeartbeats 4000000 in
set_option maxRecDepth 100000 in
theorem b_X1_guiltyOnes_38 {G : gG} {l : Launch} {p : Program} {e : Env} {s : State} {m : MethodId} {args : Array Value} {below : List Frame} {meth : Method} {c : Code} {h0 : g_H} {r : Int32} {h' : g_H} (X : gX G l yX1_guiltyOnes.cls cX1_guiltyOnes 3 (some .int) [] yX1_guiltyOnes.name p s m args meth c) {k4 : Nat → Int32 → Int32 → gM Int32} (K4 : w_X1_guiltyOnes_4 G l p e s m args below meth c h0 r h' k4) : w_X1_guiltyOnes_38 G l p e s m args below meth c h0 r h' (f_X1_guiltyOnes_38 k4) := by
  have hx := X.1
  have hb := X.2.1
  have hown := X.2.2.2.1
  have hts := X.2.2.2.2.1
  intro a0 x2 u0 u1 h H locs cells slots ls hf hI hl
  unfold f_X1_guiltyOnes_38 at hf
  refine lv_ior hx hb dX1_guiltyOnes_38 ?_
  refine lv_istore_n (lv' := [(1, .int (u0 ||| u1)), (0, .ref a0), (2, .int x2)]) hx hb dX1_guiltyOnes_39 rfl hl (by decide) rfl (fun ls hl => ?_)
  refine lv_iinc (v := (x2 + (1 : Int32))) (lv' := [(2, .int (x2 + (1 : Int32))), (1, .int (u0 ||| u1)), (0, .ref a0)]) hx hb dX1_guiltyOnes_40 hl (k := 2) rfl rfl (by decide) rfl (fun ls hl => ?_)
  refine lv_goto (tgt := 4) hx hb dX1_guiltyOnes_43 (by decide) ?_
  exact K4 _ _ _ _ _ _ _ _ _ hf hI (lv_sub hl [2, 1, 0] rfl)
def f_X1_guiltyOnes_46 (x1 : Int32) : gM Int32 :=
    (gRet x1)
set_option maxHeartbeats 4000000 in
set_option maxRecDepth 100000 in
theorem b_X1_guiltyOnes_46 {G : gG} {l : Launch} {p : Program} {e : Env} {s : State} {m : MethodId} {args : Array Value} {below : List Frame} {meth : Method} {c : Code} {h0 : g_H} {r : Int32} {h' : g_H} (X : gX G l yX1_guiltyOnes.cls cX1_guiltyOnes 3 (some .int) [] yX1_guiltyOnes.name p s m args meth c) : w_X1_guiltyOnes_46 G l p e s m args below meth c h0 r h' (f_X1_guiltyOnes_46) := by
  have hx := X.1
  have hb := X.2.1
  have hown := X.2.2.2.1
  have hts := X.2.2.2.2.1
  intro x1 h H locs cells slots ls hf hI hl
  unfold f_X1_guiltyOnes_46 at hf
  refine lv_iload_n hx hb dX1_guiltyOnes_46 rfl (lv_at hl 0 rfl) ?_
  cases gRet_e hf
  exact g_retI X hI rfl dX1_guiltyOnes_47
def f_X1_guiltyOnes_4 : Nat → Nat → Int32 → Int32 → gM Int32
  | 0, _, _, _ => gFail
  | n + 1, a0, x1, x2 =>
    gB (gFR a0 0 1) fun v101 =>
    gB (gFI v101 2 7) fun v102 =>
    gIf (v102 ≤ x2)
    (f_X1_guiltyOnes_46 x1)
    (gB (gFR a0 0 1) fun v103 =>
    gB (gFR v103 2 1) fun v104 =>
    gB (gAR v104 5 x2) fun v105 =>
    gB (gFI v105 4 0) fun v106 =>
    gIf (v106 = 0)
    (f_X1_guiltyOnes_38 (f_X1_guiltyOnes_4 n) a0 x2 x1 (0 : Int32))
    (f_X1_guiltyOnes_38 (f_X1_guiltyOnes_4 n) a0 x2 x1 ((1 : Int32) <<< (x2 &&& 31))))
set_option maxHeartbeats 4000000 in
set_option maxRecDepth 100000 in
theorem b_X1_guiltyOnes_4 {G : gG} {l : Launch} {p : Program} {e : Env} {s : State} {m : MethodId} {args : Array Value} {below : List Frame} {meth : Method} {c : Code} {h0 : g_H} {r : Int32} {h' : g_H} (X : gX G l yX1_guiltyOnes.cls cX1_guiltyOnes 3 (some .int) [] yX1_guiltyOnes.name p s m args meth c) : ∀ n : Nat, w_X1_guiltyOnes_4 G l p e s m args below meth c h0 r h' (f_X1_guiltyOnes_4 n) := by
  have hx := X.1
  have hb := X.2.1
  have hown := X.2.2.2.1
  have hts := X.2.2.2.2.1
  intro n
  induction n with
  | zero =>
    intro a0 x1 x2 h H locs cells slots ls hf hI hl
    exact (gFail_f hf).elim
  | succ n ih =>
    intro a0 x1 x2 h H locs cells slots ls hf hI hl
    rw [f_X1_guiltyOnes_4] at hf
    refine lv_iload_n hx hb dX1_guiltyOnes_4 rfl (lv_at hl 2 rfl) ?_
    refine lv_aload_n hx hb dX1_guiltyOnes_5 rfl (lv_at hl 0 rfl) ?_
    refine g_fr X hI hf fX1_1 q461 rfl rfl dX1_guiltyOnes_6 (fun v101 hf => ?_)
    refine g_fiN X hI hf fX3_7 q271 rfl rfl dX1_guiltyOnes_9 (fun v102 hf => ?_)
    refine lv_icmp_ge (tgt := 46) hx hb dX1_guiltyOnes_12 (by decide) (fun c12 => ?_) (fun c12 => ?_)
    · have hf := g_t c12 hf
      exact b_X1_guiltyOnes_46 X _ _ _ _ _ _ _ hf hI (lv_sub hl [1] rfl)
    · have hf := g_f c12 hf
      refine lv_iload_n hx hb dX1_guiltyOnes_15 rfl (lv_at hl 1 rfl) ?_
      refine lv_aload_n hx hb dX1_guiltyOnes_16 rfl (lv_at hl 0 rfl) ?_
      refine g_fr X hI hf fX1_1 q461 rfl rfl dX1_guiltyOnes_17 (fun v103 hf => ?_)
      refine g_frN X hI hf fX3_1 q257 rfl rfl dX1_guiltyOnes_20 (fun v104 hf => ?_)
      refine lv_iload_n hx hb dX1_guiltyOnes_23 rfl (lv_at hl 2 rfl) ?_
      refine g_ar5 X hI hf dX1_guiltyOnes_24 (fun v105 hf => ?_)
      refine g_fiN X hI hf fX5_0 q230 rfl rfl dX1_guiltyOnes_25 (fun v106 hf => ?_)
      refine lv_if_eq (tgt := 37) hx hb dX1_guiltyOnes_28 (by decide) (fun c28 => ?_) (fun c28 => ?_)
      · have hf := g_t c28 hf
        refine lv_iconst (v := (0 : Int32)) hx hb dX1_guiltyOnes_37 (by decide) ?_
        exact b_X1_guiltyOnes_38 X ih _ _ _ _ _ _ _ _ _ _ hf hI (lv_sub hl [0, 2] rfl)
      · have hf := g_f c28 hf
        refine lv_iconst (v := (1 : Int32)) hx hb dX1_guiltyOnes_31 (by decide) ?_
        refine lv_iload_n hx hb dX1_guiltyOnes_32 rfl (lv_at hl 2 rfl) ?_
        refine lv_ishl hx hb dX1_guiltyOnes_33 ?_
        refine lv_goto (tgt := 38) hx hb dX1_guiltyOnes_34 (by decide) ?_
        exact b_X1_guiltyOnes_38 X ih _ _ _ _ _ _ _ _ _ _ hf hI (lv_sub hl [0, 2] rfl)
def f_X1_guiltyOnes (a0 : Nat) : gM Int32 :=
    f_X1_guiltyOnes_4 gN a0 (0 : Int32) (0 : Int32)
set_option maxHeartbeats 4000000 in
set_option maxRecDepth 100000 in
theorem m_X1_guiltyOnes {G : gG} {l : Launch} (hfl : l.stackTraces = false) {a0 : Nat} {h h' : g_H} {r : Int32} (hf : (f_X1_guiltyOnes a0).1 h = some (r, h')) : gMet G l yX1_guiltyOnes (Cond.code yX1_guiltyOnes cX1_guiltyOnes 3 (some .int)) 1 20 [.ref a0] h (.inl (g_wI r)) h' := by
  refine g_head hfl ((f_X1_guiltyOnes a0).2 h r h' hf) (plainFor_of_name (by decide)) (Nat.le_of_ble_eq_true rfl) (fun p e s m below meth c H locs cells slots ls X hI hl9 => ?_)
  have hl : lv_has ls 3 [(0, .ref a0)] := hl9
  have hx := X.1
  have hb := X.2.1
  have hown := X.2.2.2.1
  have hts := X.2.2.2.2.1
  unfold f_X1_guiltyOnes at hf
  refine lv_iconst (v := (0 : Int32)) hx hb dX1_guiltyOnes_0 (by decide) ?_
  refine lv_istore_n (lv' := [(1, .int (0 : Int32)), (0, .ref a0)]) hx hb dX1_guiltyOnes_1 rfl hl (by decide) rfl (fun ls hl => ?_)
  refine lv_iconst (v := (0 : Int32)) hx hb dX1_guiltyOnes_2 (by decide) ?_
  refine lv_istore_n (lv' := [(2, .int (0 : Int32)), (1, .int (0 : Int32)), (0, .ref a0)]) hx hb dX1_guiltyOnes_3 rfl hl (by decide) rfl (fun ls hl => ?_)
  exact b_X1_guiltyOnes_4 X gN _ _ _ _ _ _ _ _ _ hf hI (lv_sub hl [2, 1, 0] rfl)
/-! X1_leave -/
abbrev w_X1_leave_136 (G : gG) (l : Launch) (p : Program) (e : Env) (s : State) (m : MethodId) (args : Array Value) (below : List Frame) (meth : Method) (c : Code) (h0 : g_H) (r : Int32) (h' : g_H) (k : Nat → Int32 → Int32 → Int32 → gM Int32) : Prop := ∀ (a0 : Nat) (x1 : Int32) (x2 : Int32) (x3 : Int32) (h : g_H) (H : Heap) (locs : List Loc) (cells slots : Nat) (ls : Array Slot), (k a0 x1 x2 x3).1 h = some (r, h') → gI G h0 h H locs cells slots → lv_has ls 5 [(0, .ref a0), (1, .int x1), (2, .int x2), (3, .int x3)] → W p l e (g_rm 103 1914 h0 h') s m args below meth c H locs cells slots (gQ G below args s h0 h' (.inl (g_wI r))) (F0 m 136 ls [])
abbrev w_X1_leave_105 (G : gG) (l : Launch) (p : Program) (e : Env) (s : State) (m : MethodId) (args : Array Value) (below : List Frame) (meth : Method) (c : Code) (h0 : g_H) (r : Int32) (h' : g_H) (k : Nat → Int32 → Int32 → Int32 → Int32 → gM Int32) : Prop := ∀ (a0 : Nat) (x1 : Int32) (x2 : Int32) (x3 : Int32) (x4 : Int32) (h : g_H) (H : Heap) (locs : List Loc) (cells slots : Nat) (ls : Array Slot), (k a0 x1 x2 x3 x4).1 h = some (r, h') → gI G h0 h H locs cells slots → lv_has ls 5 [(0, .ref a0), (1, .int x1), (2, .int x2), (3, .int x3), (4, .int x4)] → W p l e (g_rm 103 1914 h0 h') s m args below meth c H locs cells slots (gQ G below args s h0 h' (.inl (g_wI r))) (F0 m 105 ls [])
abbrev w_X1_leave_125 (G : gG) (l : Launch) (p : Program) (e : Env) (s : State) (m : MethodId) (args : Array Value) (below : List Frame) (meth : Method) (c : Code) (h0 : g_H) (r : Int32) (h' : g_H) (k : Nat → Int32 → Int32 → Int32 → gM Int32) : Prop := ∀ (a0 : Nat) (x1 : Int32) (x2 : Int32) (x3 : Int32) (h : g_H) (H : Heap) (locs : List Loc) (cells slots : Nat) (ls : Array Slot), (k a0 x1 x2 x3).1 h = some (r, h') → gI G h0 h H locs cells slots → lv_has ls 5 [(0, .ref a0), (1, .int x1), (2, .int x2), (3, .int x3)] → W p l e (g_rm 103 1914 h0 h') s m args below meth c H locs cells slots (gQ G below args s h0 h' (.inl (g_wI r))) (F0 m 125 ls [])
abbrev w_X1_leave_111 (G : gG) (l : Launch) (p : Program) (e : Env) (s : State) (m : MethodId) (args : Array Value) (below : List Frame) (meth : Method) (c : Code) (h0 : g_H) (r : Int32) (h' : g_H) (k : Nat → Int32 → Int32 → Int32 → gM Int32) : Prop := ∀ (a0 : Nat) (x1 : Int32) (x2 : Int32) (x3 : Int32) (h : g_H) (H : Heap) (locs : List Loc) (cells slots : Nat) (ls : Array Slot), (k a0 x1 x2 x3).1 h = some (r, h') → gI G h0 h H locs cells slots → lv_has ls 5 [(0, .ref a0), (1, .int x1), (2, .int x2), (3, .int x3)] → W p l e (g_rm 103 1914 h0 h') s m args below meth c H locs cells slots (gQ G below args s h0 h' (.inl (g_wI r))) (F0 m 111 ls [])
abbrev w_X1_leave_63 (G : gG) (l : Launch) (p : Program) (e : Env) (s : State) (m : MethodId) (args : Array Value) (below : List Frame) (meth : Method) (c : Code) (h0 : g_H) (r : Int32) (h' : g_H) (k : Nat → Int32 → Int32 → Int32 → Int32 → gM Int32) : Prop := ∀ (a0 : Nat) (x1 : Int32) (x2 : Int32) (x3 : Int32) (x4 : Int32) (h : g_H) (H : Heap) (locs : List Loc) (cells slots : Nat) (ls : Array Slot), (k a0 x1 x2 x3 x4).1 h = some (r, h') → gI G h0 h H locs cells slots → lv_has ls 5 [(0, .ref a0), (1, .int x1), (2, .int x2), (3, .int x3), (4, .int x4)] → W p l e (g_rm 103 1914 h0 h') s m args below meth c H locs cells slots (gQ G below args s h0 h' (.inl (g_wI r))) (F0 m 63 ls [])
abbrev w_X1_leave_60 (G : gG) (l : Launch) (p : Program) (e : Env) (s : State) (m : MethodId) (args : Array Value) (below : List Frame) (meth : Method) (c : Code) (h0 : g_H) (r : Int32) (h' : g_H) (k : Nat → Int32 → Int32 → Int32 → gM Int32) : Prop := ∀ (a0 : Nat) (x1 : Int32) (x2 : Int32) (x3 : Int32) (h : g_H) (H : Heap) (locs : List Loc) (cells slots : Nat) (ls : Array Slot), (k a0 x1 x2 x3).1 h = some (r, h') → gI G h0 h H locs cells slots → lv_has ls 5 [(0, .ref a0), (1, .int x1), (2, .int x2), (3, .int x3)] → W p l e (g_rm 103 1914 h0 h') s m args below meth c H locs cells slots (gQ G below args s h0 h' (.inl (g_wI r))) (F0 m 60 ls [])
abbrev w_X1_leave_142 (G : gG) (l : Launch) (p : Program) (e : Env) (s : State) (m : MethodId) (args : Array Value) (below : List Frame) (meth : Method) (c : Code) (h0 : g_H) (r : Int32) (h' : g_H) (k : Int32 → gM Int32) : Prop := ∀ (x2 : Int32) (h : g_H) (H : Heap) (locs : List Loc) (cells slots : Nat) (ls : Array Slot), (k x2).1 h = some (r, h') → gI G h0 h H locs cells slots → lv_has ls 5 [(2, .int x2)] → W p l e (g_rm 103 1914 h0 h') s m args below meth c H locs cells slots (gQ G below args s h0 h' (.inl (g_wI r))) (F0 m 142 ls [])
abbrev w_X1_leave_20 (G : gG) (l : Launch) (p : Program) (e : Env) (s : State) (m : MethodId) (args : Array Value) (below : List Frame) (meth : Method) (c : Code) (h0 : g_H) (r : Int32) (h' : g_H) (k : Nat → Int32 → Int32 → Int32 → gM Int32) : Prop := ∀ (a0 : Nat) (x1 : Int32) (x2 : Int32) (x3 : Int32) (h : g_H) (H : Heap) (locs : List Loc) (cells slots : Nat) (ls : Array Slot), (k a0 x1 x2 x3).1 h = some (r, h') → gI G h0 h H locs cells slots → lv_has ls 5 [(0, .ref a0), (1, .int x1), (2, .int x2), (3, .int x3)] → W p l e (g_rm 103 1914 h0 h') s m args below meth c H locs cells slots (gQ G below args s h0 h' (.inl (g_wI r))) (F0 m 20 ls [])
def f_X1_leave_136 (k20 : Nat → Int32 → Int32 → Int32 → gM Int32) (a0 : Nat) (x1 : Int32) (x2 : Int32) (x3 : Int32) : gM Int32 :=
    k20 a0 x1 x2 (x3 + (1 : Int32))
set_option maxHeartbeats 4000000 in
set_option maxRecDepth 100000 in
theorem b_X1_leave_136 {G : gG} {l : Launch} {p : Program} {e : Env} {s : State} {m : MethodId} {args : Array Value} {below : List Frame} {meth : Method} {c : Code} {h0 : g_H} {r : Int32} {h' : g_H} (X : gX G l yX1_leave.cls cX1_leave 5 (some .int) [] yX1_leave.name p s m args meth c) {k20 : Nat → Int32 → Int32 → Int32 → gM Int32} (K20 : w_X1_leave_20 G l p e s m args below meth c h0 r h' k20) : w_X1_leave_136 G l p e s m args below meth c h0 r h' (f_X1_leave_136 k20) := by
  have hx := X.1
  have hb := X.2.1
  have hown := X.2.2.2.1
  have hts := X.2.2.2.2.1
  intro a0 x1 x2 x3 h H locs cells slots ls hf hI hl
  unfold f_X1_leave_136 at hf
  refine lv_iinc (v := (x3 + (1 : Int32))) (lv' := [(3, .int (x3 + (1 : Int32))), (0, .ref a0), (1, .int x1), (2, .int x2)]) hx hb dX1_leave_136 hl (k := 3) rfl rfl (by decide) rfl (fun ls hl => ?_)
  refine lv_goto (tgt := 20) hx hb dX1_leave_139 (by decide) ?_
  exact K20 _ _ _ _ _ _ _ _ _ _ hf hI (lv_sub hl [1, 2, 3, 0] rfl)
def f_X1_leave_105 (k63 : Nat → Int32 → Int32 → Int32 → Int32 → gM Int32) (a0 : Nat) (x1 : Int32) (x2 : Int32) (x3 : Int32) (x4 : Int32) : gM Int32 :=
    k63 a0 x1 x2 x3 (x4 + (1 : Int32))
set_option maxHeartbeats 4000000 in
set_option maxRecDepth 100000 in
theorem b_X1_leave_105 {G : gG} {l : Launch} {p : Program} {e : Env} {s : State} {m : MethodId} {args : Array Value} {below : List Frame} {meth : Method} {c : Code} {h0 : g_H} {r : Int32} {h' : g_H} (X : gX G l yX1_leave.cls cX1_leave 5 (some .int) [] yX1_leave.name p s m args meth c) {k63 : Nat → Int32 → Int32 → Int32 → Int32 → gM Int32} (K63 : w_X1_leave_63 G l p e s m args below meth c h0 r h' k63) : w_X1_leave_105 G l p e s m args below meth c h0 r h' (f_X1_leave_105 k63) := by
  have hx := X.1
  have hb := X.2.1
  have hown := X.2.2.2.1
  have hts := X.2.2.2.2.1
  intro a0 x1 x2 x3 x4 h H locs cells slots ls hf hI hl
  unfold f_X1_leave_105 at hf
  refine lv_iinc (v := (x4 + (1 : Int32))) (lv' := [(4, .int (x4 + (1 : Int32))), (0, .ref a0), (1, .int x1), (2, .int x2), (3, .int x3)]) hx hb dX1_leave_105 hl (k := 4) rfl rfl (by decide) rfl (fun ls hl => ?_)
  refine lv_goto (tgt := 63) hx hb dX1_leave_108 (by decide) ?_
  exact K63 _ _ _ _ _ _ _ _ _ _ _ hf hI (lv_sub hl [1, 2, 3, 4, 0] rfl)
def f_X1_leave_125 (k20 : Nat → Int32 → Int32 → Int32 → gM Int32) (a0 : Nat) (x1 : Int32) (x2 : Int32) (x3 : Int32) : gM Int32 :=
    gB (gFR a0 0 1) fun v101 =>
    gB (gFR a0 0 3) fun v102 =>
    gB (gCk v101 2) fun _ =>
    gB (f_X3_be v101 v102) fun _ =>
    f_X1_leave_136 k20 a0 x1 x2 x3
set_option maxHeartbeats 4000000 in
set_option maxRecDepth 100000 in
theorem b_X1_leave_125 {G : gG} {l : Launch} {p : Program} {e : Env} {s : State} {m : MethodId} {args : Array Value} {below : List Frame} {meth : Method} {c : Code} {h0 : g_H} {r : Int32} {h' : g_H} (X : gX G l yX1_leave.cls cX1_leave 5 (some .int) [] yX1_leave.name p s m args meth c) {k20 : Nat → Int32 → Int32 → Int32 → gM Int32} (K20 : w_X1_leave_20 G l p e s m args below meth c h0 r h' k20) : w_X1_leave_125 G l p e s m args below meth c h0 r h' (f_X1_leave_125 k20) := by
  have hx := X.1
  have hb := X.2.1
  have hown := X.2.2.2.1
  have hts := X.2.2.2.2.1
  intro a0 x1 x2 x3 h H locs cells slots ls hf hI hl
  unfold f_X1_leave_125 at hf
  refine lv_aload_n hx hb dX1_leave_125 rfl (lv_at hl 0 rfl) ?_
  refine g_fr X hI hf fX1_1 q461 rfl rfl dX1_leave_126 (fun v101 hf => ?_)
  refine lv_aload_n hx hb dX1_leave_129 rfl (lv_at hl 0 rfl) ?_
  refine g_fr X hI hf fX1_3 q464 rfl rfl dX1_leave_130 (fun v102 hf => ?_)
  obtain ⟨hs, hf⟩ := gCk_b hf
  refine g_cBU hI hf (fun v9 h9 e9 l9 l9' => g_rV X hI l9 l9' ⟨Nat.le_refl _, Nat.le_refl _⟩ (As := [.ref v102]) (m_X3_be X.2.2.2.2.2.2.2.2.2.2.1 e9) ydX3_be hs rfl rfl q672 q673 q674 q123 q675 rfl (Nat.le_of_ble_eq_true rfl) (Nat.le_of_ble_eq_true rfl) hl.1 rfl (Nat.le_of_ble_eq_true rfl) dX1_leave_133) (fun r103 h H locs cells slots hf hI => ?_)
  exact b_X1_leave_136 X K20 _ _ _ _ _ _ _ _ _ _ hf hI (lv_sub hl [0, 1, 2, 3] rfl)
def f_X1_leave_111 (k20 : Nat → Int32 → Int32 → Int32 → gM Int32) (a0 : Nat) (x1 : Int32) (x2 : Int32) (x3 : Int32) : gM Int32 :=
    gB (gCk a0 0) fun _ =>
    gB (f_X1_screamsNow a0) fun r101 =>
    gB (gCk a0 0) fun _ =>
    gB (f_X1_guiltyOnes a0) fun r102 =>
    gIf ((r101 &&& r102) = 0)
    (f_X1_leave_125 k20 a0 x1 x3 x3)
    (f_X1_leave_125 k20 a0 x1 x2 x3)
set_option maxHeartbeats 4000000 in
set_option maxRecDepth 100000 in
theorem b_X1_leave_111 {G : gG} {l : Launch} {p : Program} {e : Env} {s : State} {m : MethodId} {args : Array Value} {below : List Frame} {meth : Method} {c : Code} {h0 : g_H} {r : Int32} {h' : g_H} (X : gX G l yX1_leave.cls cX1_leave 5 (some .int) [] yX1_leave.name p s m args meth c) {k20 : Nat → Int32 → Int32 → Int32 → gM Int32} (K20 : w_X1_leave_20 G l p e s m args below meth c h0 r h' k20) : w_X1_leave_111 G l p e s m args below meth c h0 r h' (f_X1_leave_111 k20) := by
  have hx := X.1
  have hb := X.2.1
  have hown := X.2.2.2.1
  have hts := X.2.2.2.2.1
  intro a0 x1 x2 x3 h H locs cells slots ls hf hI hl
  unfold f_X1_leave_111 at hf
  refine lv_aload_n hx hb dX1_leave_111 rfl (lv_at hl 0 rfl) ?_
  obtain ⟨hs, hf⟩ := gCk_b hf
  refine g_cBI hI hf (fun v9 h9 e9 l9 l9' => g_rV X hI l9 l9' ⟨Nat.le_refl _, Nat.le_refl _⟩ (As := []) (m_X1_screamsNow X.2.2.2.2.2.2.2.2.2.2.1 e9) ydX1_screamsNow hs rfl rfl q689 q691 qs8 q121 q692 rfl (Nat.le_of_ble_eq_true rfl) (Nat.le_of_ble_eq_true rfl) hl.1 rfl (Nat.le_of_ble_eq_true rfl) dX1_leave_112) (fun r101 h H locs cells slots hf hI => ?_)
  refine lv_aload_n hx hb dX1_leave_115 rfl (lv_at hl 0 rfl) ?_
  obtain ⟨hs, hf⟩ := gCk_b hf
  refine g_cBI hI hf (fun v9 h9 e9 l9 l9' => g_rV X hI l9 l9' ⟨Nat.le_refl _, Nat.le_refl _⟩ (As := []) (m_X1_guiltyOnes X.2.2.2.2.2.2.2.2.2.2.1 e9) ydX1_guiltyOnes hs rfl rfl q718 q720 qs10 q121 q721 rfl (Nat.le_of_ble_eq_true rfl) (Nat.le_of_ble_eq_true rfl) hl.1 rfl (Nat.le_of_ble_eq_true rfl) dX1_leave_116) (fun r102 h H locs cells slots hf hI => ?_)
  refine lv_iand hx hb dX1_leave_119 ?_
  refine lv_if_ne (tgt := 125) hx hb dX1_leave_120 (by decide) (fun c120 => ?_) (fun c120 => ?_)
  · have hf := g_f c120 hf
    exact b_X1_leave_125 X K20 _ _ _ _ _ _ _ _ _ _ hf hI (lv_sub hl [0, 1, 2, 3] rfl)
  · have hf := g_t c120 hf
    refine lv_iload_n hx hb dX1_leave_123 rfl (lv_at hl 3 rfl) ?_
    refine lv_istore_n (lv' := [(2, .int x3), (0, .ref a0), (1, .int x1), (3, .int x3)]) hx hb dX1_leave_124 rfl hl (by decide) rfl (fun ls hl => ?_)
    exact b_X1_leave_125 X K20 _ _ _ _ _ _ _ _ _ _ hf hI (lv_sub hl [1, 2, 0, 3] rfl)
def f_X1_leave_63 (k20 : Nat → Int32 → Int32 → Int32 → gM Int32) : Nat → Nat → Int32 → Int32 → Int32 → Int32 → gM Int32
  | 0, _, _, _, _, _ => gFail
  | n + 1, a0, x1, x2, x3, x4 =>
    gB (gFR a0 0 1) fun v101 =>
    gB (gFI v101 2 6) fun v102 =>
    gIf (v102 ≤ x4)
    (f_X1_leave_111 k20 a0 x1 x2 x3)
    (gIf (((x3 >>> (x4 &&& 31)) &&& (1 : Int32)) = (1 : Int32))
    (gB (gFR a0 0 1) fun v103 =>
    gB (gFR a0 0 1) fun v104 =>
    gB (gFR v104 2 0) fun v105 =>
    gB (gAR v105 4 x4) fun v106 =>
    gB (gFI v106 3 3) fun v107 =>
    gB (gCk v103 2) fun _ =>
    gB (f_X3_takes v103 v107) fun _ =>
    f_X1_leave_105 (f_X1_leave_63 k20 n) a0 x1 x2 x3 x4)
    (f_X1_leave_105 (f_X1_leave_63 k20 n) a0 x1 x2 x3 x4))
set_option maxHeartbeats 4000000 in
set_option maxRecDepth 100000 in
theorem b_X1_leave_63 {G : gG} {l : Launch} {p : Program} {e : Env} {s : State} {m : MethodId} {args : Array Value} {below : List Frame} {meth : Method} {c : Code} {h0 : g_H} {r : Int32} {h' : g_H} (X : gX G l yX1_leave.cls cX1_leave 5 (some .int) [] yX1_leave.name p s m args meth c) {k20 : Nat → Int32 → Int32 → Int32 → gM Int32} (K20 : w_X1_leave_20 G l p e s m args below meth c h0 r h' k20) : ∀ n : Nat, w_X1_leave_63 G l p e s m args below meth c h0 r h' (f_X1_leave_63 k20 n) := by
  have hx := X.1
  have hb := X.2.1
  have hown := X.2.2.2.1
  have hts := X.2.2.2.2.1
  intro n
  induction n with
  | zero =>
    intro a0 x1 x2 x3 x4 h H locs cells slots ls hf hI hl
    exact (gFail_f hf).elim
  | succ n ih =>
    intro a0 x1 x2 x3 x4 h H locs cells slots ls hf hI hl
    rw [f_X1_leave_63] at hf
    refine lv_iload hx hb dX1_leave_63 (lv_at hl 4 rfl) ?_
    refine lv_aload_n hx hb dX1_leave_65 rfl (lv_at hl 0 rfl) ?_
    refine g_fr X hI hf fX1_1 q461 rfl rfl dX1_leave_66 (fun v101 hf => ?_)
    refine g_fiN X hI hf fX3_6 q268 rfl rfl dX1_leave_69 (fun v102 hf => ?_)
    refine lv_icmp_ge (tgt := 111) hx hb dX1_leave_72 (by decide) (fun c72 => ?_) (fun c72 => ?_)
    · have hf := g_t c72 hf
      exact b_X1_leave_111 X K20 _ _ _ _ _ _ _ _ _ _ hf hI (lv_sub hl [0, 1, 2, 3] rfl)
    · have hf := g_f c72 hf
      refine lv_iload_n hx hb dX1_leave_75 rfl (lv_at hl 3 rfl) ?_
      refine lv_iload hx hb dX1_leave_76 (lv_at hl 4 rfl) ?_
      refine lv_ishr hx hb dX1_leave_78 ?_
      refine lv_iconst (v := (1 : Int32)) hx hb dX1_leave_79 (by decide) ?_
      refine lv_iand hx hb dX1_leave_80 ?_
      refine lv_iconst (v := (1 : Int32)) hx hb dX1_leave_81 (by decide) ?_
      refine lv_icmp_ne (tgt := 105) hx hb dX1_leave_82 (by decide) (fun c82 => ?_) (fun c82 => ?_)
      · have hf := g_f c82 hf
        exact b_X1_leave_105 X ih _ _ _ _ _ _ _ _ _ _ _ hf hI (lv_sub hl [0, 1, 2, 3, 4] rfl)
      · have hf := g_t c82 hf
        refine lv_aload_n hx hb dX1_leave_85 rfl (lv_at hl 0 rfl) ?_
        refine g_fr X hI hf fX1_1 q461 rfl rfl dX1_leave_86 (fun v103 hf => ?_)
        refine lv_aload_n hx hb dX1_leave_89 rfl (lv_at hl 0 rfl) ?_
        refine g_fr X hI hf fX1_1 q461 rfl rfl dX1_leave_90 (fun v104 hf => ?_)
        refine g_frN X hI hf fX3_0 q254 rfl rfl dX1_leave_93 (fun v105 hf => ?_)
        refine lv_iload hx hb dX1_leave_96 (lv_at hl 4 rfl) ?_
        refine g_ar4 X hI hf dX1_leave_98 (fun v106 hf => ?_)
        refine g_fiN X hI hf fX4_3 q210 rfl rfl dX1_leave_99 (fun v107 hf => ?_)
        obtain ⟨hs, hf⟩ := gCk_b hf
        refine g_cBU hI hf (fun v9 h9 e9 l9 l9' => g_rV X hI l9 l9' ⟨Nat.le_refl _, Nat.le_refl _⟩ (As := [.int v107]) (m_X3_takes X.2.2.2.2.2.2.2.2.2.2.1 e9) ydX3_takes hs rfl rfl q685 q686 q687 q123 q688 rfl (Nat.le_of_ble_eq_true rfl) (Nat.le_of_ble_eq_true rfl) hl.1 rfl (Nat.le_of_ble_eq_true rfl) dX1_leave_102) (fun r108 h H locs cells slots hf hI => ?_)
        exact b_X1_leave_105 X ih _ _ _ _ _ _ _ _ _ _ _ hf hI (lv_sub hl [0, 1, 2, 3, 4] rfl)
def f_X1_leave_60 (k20 : Nat → Int32 → Int32 → Int32 → gM Int32) (a0 : Nat) (x1 : Int32) (x2 : Int32) (x3 : Int32) : gM Int32 :=
    f_X1_leave_63 k20 gN a0 x1 x2 x3 (0 : Int32)
set_option maxHeartbeats 4000000 in
set_option maxRecDepth 100000 in
theorem b_X1_leave_60 {G : gG} {l : Launch} {p : Program} {e : Env} {s : State} {m : MethodId} {args : Array Value} {below : List Frame} {meth : Method} {c : Code} {h0 : g_H} {r : Int32} {h' : g_H} (X : gX G l yX1_leave.cls cX1_leave 5 (some .int) [] yX1_leave.name p s m args meth c) {k20 : Nat → Int32 → Int32 → Int32 → gM Int32} (K20 : w_X1_leave_20 G l p e s m args below meth c h0 r h' k20) : w_X1_leave_60 G l p e s m args below meth c h0 r h' (f_X1_leave_60 k20) := by
  have hx := X.1
  have hb := X.2.1
  have hown := X.2.2.2.1
  have hts := X.2.2.2.2.1
  intro a0 x1 x2 x3 h H locs cells slots ls hf hI hl
  unfold f_X1_leave_60 at hf
  refine lv_iconst (v := (0 : Int32)) hx hb dX1_leave_60 (by decide) ?_
  refine lv_istore (lv' := [(4, .int (0 : Int32)), (0, .ref a0), (1, .int x1), (2, .int x2), (3, .int x3)]) hx hb dX1_leave_61 hl (by decide) rfl (fun ls hl => ?_)
  exact b_X1_leave_63 X K20 gN _ _ _ _ _ _ _ _ _ _ _ hf hI (lv_sub hl [1, 2, 3, 4, 0] rfl)
def f_X1_leave_142 (x2 : Int32) : gM Int32 :=
    (gRet x2)
set_option maxHeartbeats 4000000 in
set_option maxRecDepth 100000 in
theorem b_X1_leave_142 {G : gG} {l : Launch} {p : Program} {e : Env} {s : State} {m : MethodId} {args : Array Value} {below : List Frame} {meth : Method} {c : Code} {h0 : g_H} {r : Int32} {h' : g_H} (X : gX G l yX1_leave.cls cX1_leave 5 (some .int) [] yX1_leave.name p s m args meth c) : w_X1_leave_142 G l p e s m args below meth c h0 r h' (f_X1_leave_142) := by
  have hx := X.1
  have hb := X.2.1
  have hown := X.2.2.2.1
  have hts := X.2.2.2.2.1
  intro x2 h H locs cells slots ls hf hI hl
  unfold f_X1_leave_142 at hf
  refine lv_iload_n hx hb dX1_leave_142 rfl (lv_at hl 0 rfl) ?_
  cases gRet_e hf
  exact g_retI X hI rfl dX1_leave_143
def f_X1_leave_20 : Nat → Nat → Int32 → Int32 → Int32 → gM Int32
  | 0, _, _, _, _ => gFail
  | n + 1, a0, x1, x2, x3 =>
    gB (gFR a0 0 1) fun v101 =>
    gB (gFI v101 2 6) fun v102 =>
    gIf (((1 : Int32) <<< (v102 &&& 31)) ≤ x3)
    (f_X1_leave_142 x2)
    (gIf ((x3 &&& (x1 ^^^ (-1 : Int32))) = 0)
    (gIf (x2 = (-1 : Int32))
    (f_X1_leave_60 (f_X1_leave_20 n) a0 x1 x2 x3)
    (gB (f_J7_bitCount x3) fun r103 =>
    gB (f_J7_bitCount x2) fun r104 =>
    gIf (r103 < r104)
    (f_X1_leave_60 (f_X1_leave_20 n) a0 x1 x2 x3)
    (f_X1_leave_136 (f_X1_leave_20 n) a0 x1 x2 x3)))
    (f_X1_leave_136 (f_X1_leave_20 n) a0 x1 x2 x3))
set_option maxHeartbeats 4000000 in
set_option maxRecDepth 100000 in
theorem b_X1_leave_20 {G : gG} {l : Launch} {p : Program} {e : Env} {s : State} {m : MethodId} {args : Array Value} {below : List Frame} {meth : Method} {c : Code} {h0 : g_H} {r : Int32} {h' : g_H} (X : gX G l yX1_leave.cls cX1_leave 5 (some .int) [] yX1_leave.name p s m args meth c) : ∀ n : Nat, w_X1_leave_20 G l p e s m args below meth c h0 r h' (f_X1_leave_20 n) := by
  have hx := X.1
  have hb := X.2.1
  have hown := X.2.2.2.1
  have hts := X.2.2.2.2.1
  intro n
  induction n with
  | zero =>
    intro a0 x1 x2 x3 h H locs cells slots ls hf hI hl
    exact (gFail_f hf).elim
  | succ n ih =>
    intro a0 x1 x2 x3 h H locs cells slots ls hf hI hl
    rw [f_X1_leave_20] at hf
    refine lv_iload_n hx hb dX1_leave_20 rfl (lv_at hl 3 rfl) ?_
    refine lv_iconst (v := (1 : Int32)) hx hb dX1_leave_21 (by decide) ?_
    refine lv_aload_n hx hb dX1_leave_22 rfl (lv_at hl 0 rfl) ?_
    refine g_fr X hI hf fX1_1 q461 rfl rfl dX1_leave_23 (fun v101 hf => ?_)
    refine g_fiN X hI hf fX3_6 q268 rfl rfl dX1_leave_26 (fun v102 hf => ?_)
    refine lv_ishl hx hb dX1_leave_29 ?_
    refine lv_icmp_ge (tgt := 142) hx hb dX1_leave_30 (by decide) (fun c30 => ?_) (fun c30 => ?_)
    · have hf := g_t c30 hf
      exact b_X1_leave_142 X _ _ _ _ _ _ _ hf hI (lv_sub hl [2] rfl)
    · have hf := g_f c30 hf
      refine lv_iload_n hx hb dX1_leave_33 rfl (lv_at hl 3 rfl) ?_
      refine lv_iload_n hx hb dX1_leave_34 rfl (lv_at hl 1 rfl) ?_
      refine lv_iconst (v := (-1 : Int32)) hx hb dX1_leave_35 (by decide) ?_
      refine lv_ixor hx hb dX1_leave_36 ?_
      refine lv_iand hx hb dX1_leave_37 ?_
      refine lv_if_ne (tgt := 136) hx hb dX1_leave_38 (by decide) (fun c38 => ?_) (fun c38 => ?_)
      · have hf := g_f c38 hf
        exact b_X1_leave_136 X ih _ _ _ _ _ _ _ _ _ _ hf hI (lv_sub hl [0, 1, 2, 3] rfl)
      · have hf := g_t c38 hf
        refine lv_iload_n hx hb dX1_leave_41 rfl (lv_at hl 2 rfl) ?_
        refine lv_iconst (v := (-1 : Int32)) hx hb dX1_leave_42 (by decide) ?_
        refine lv_icmp_eq (tgt := 60) hx hb dX1_leave_43 (by decide) (fun c43 => ?_) (fun c43 => ?_)
        · have hf := g_t c43 hf
          exact b_X1_leave_60 X ih _ _ _ _ _ _ _ _ _ _ hf hI (lv_sub hl [0, 1, 2, 3] rfl)
        · have hf := g_f c43 hf
          refine lv_iload_n hx hb dX1_leave_46 rfl (lv_at hl 3 rfl) ?_
          refine g_cBI hI hf (fun v9 h9 e9 l9 l9' => g_rS (b := 0) X hI l9 l9' ⟨Nat.le_refl _, Nat.le_refl _⟩ (As := [.int x3]) (m_J7_bitCount X.2.2.2.2.2.2.2.2.2.2.1 e9) ydJ7_bitCount q658 q659 q137 q660 rfl (Nat.le_of_ble_eq_true rfl) (Nat.le_of_ble_eq_true rfl) hl.1 rfl (Nat.le_of_ble_eq_true rfl) dX1_leave_47) (fun r103 h H locs cells slots hf hI => ?_)
          refine lv_iload_n hx hb dX1_leave_50 rfl (lv_at hl 2 rfl) ?_
          refine g_cBI hI hf (fun v9 h9 e9 l9 l9' => g_rS (b := 0) X hI l9 l9' ⟨Nat.le_refl _, Nat.le_refl _⟩ (As := [.int x2]) (m_J7_bitCount X.2.2.2.2.2.2.2.2.2.2.1 e9) ydJ7_bitCount q658 q659 q137 q660 rfl (Nat.le_of_ble_eq_true rfl) (Nat.le_of_ble_eq_true rfl) hl.1 rfl (Nat.le_of_ble_eq_true rfl) dX1_leave_51) (fun r104 h H locs cells slots hf hI => ?_)
          refine lv_icmp_lt (tgt := 60) hx hb dX1_leave_54 (by decide) (fun c54 => ?_) (fun c54 => ?_)
          · have hf := g_t c54 hf
            exact b_X1_leave_60 X ih _ _ _ _ _ _ _ _ _ _ hf hI (lv_sub hl [0, 1, 2, 3] rfl)
          · have hf := g_f c54 hf
            refine lv_goto (tgt := 136) hx hb dX1_leave_57 (by decide) ?_
            exact b_X1_leave_136 X ih _ _ _ _ _ _ _ _ _ _ hf hI (lv_sub hl [0, 1, 2, 3] rfl)
def f_X1_leave (a0 : Nat) : gM Int32 :=
    gB (gCk a0 0) fun _ =>
    gB (f_X1_nailedOnes a0) fun r1 =>
    gB (gFR a0 0 3) fun v2 =>
    gB (gFR a0 0 1) fun v3 =>
    gB (gCk v2 2) fun _ =>
    gB (f_X3_be v2 v3) fun _ =>
    f_X1_leave_20 gN a0 r1 (-1 : Int32) (0 : Int32)
set_option maxHeartbeats 4000000 in
set_option maxRecDepth 100000 in
theorem m_X1_leave {G : gG} {l : Launch} (hfl : l.stackTraces = false) {a0 : Nat} {h h' : g_H} {r : Int32} (hf : (f_X1_leave a0).1 h = some (r, h')) : gMet G l yX1_leave (Cond.code yX1_leave cX1_leave 5 (some .int)) 103 1914 [.ref a0] h (.inl (g_wI r)) h' := by
  refine g_head hfl ((f_X1_leave a0).2 h r h' hf) (plainFor_of_name (by decide)) (Nat.le_of_ble_eq_true rfl) (fun p e s m below meth c H locs cells slots ls X hI hl9 => ?_)
  have hl : lv_has ls 5 [(0, .ref a0)] := hl9
  have hx := X.1
  have hb := X.2.1
  have hown := X.2.2.2.1
  have hts := X.2.2.2.2.1
  unfold f_X1_leave at hf
  refine lv_aload_n hx hb dX1_leave_0 rfl (lv_at hl 0 rfl) ?_
  obtain ⟨hs, hf⟩ := gCk_b hf
  refine g_cBI hI hf (fun v9 h9 e9 l9 l9' => g_rV X hI l9 l9' ⟨Nat.le_refl _, Nat.le_refl _⟩ (As := []) (m_X1_nailedOnes X.2.2.2.2.2.2.2.2.2.2.1 e9) ydX1_nailedOnes hs rfl rfl q668 q670 qs7 q121 q671 rfl (Nat.le_of_ble_eq_true rfl) (Nat.le_of_ble_eq_true rfl) hl.1 rfl (Nat.le_of_ble_eq_true rfl) dX1_leave_1) (fun r1 h H locs cells slots hf hI => ?_)
  refine lv_istore_n (lv' := [(1, .int r1), (0, .ref a0)]) hx hb dX1_leave_4 rfl hl (by decide) rfl (fun ls hl => ?_)
  refine lv_iconst (v := (-1 : Int32)) hx hb dX1_leave_5 (by decide) ?_
  refine lv_istore_n (lv' := [(2, .int (-1 : Int32)), (1, .int r1), (0, .ref a0)]) hx hb dX1_leave_6 rfl hl (by decide) rfl (fun ls hl => ?_)
  refine lv_aload_n hx hb dX1_leave_7 rfl (lv_at hl 2 rfl) ?_
  refine g_fr X hI hf fX1_3 q464 rfl rfl dX1_leave_8 (fun v2 hf => ?_)
  refine lv_aload_n hx hb dX1_leave_11 rfl (lv_at hl 2 rfl) ?_
  refine g_fr X hI hf fX1_1 q461 rfl rfl dX1_leave_12 (fun v3 hf => ?_)
  obtain ⟨hs, hf⟩ := gCk_b hf
  refine g_cBU hI hf (fun v9 h9 e9 l9 l9' => g_rV X hI l9 l9' ⟨Nat.le_refl _, Nat.le_refl _⟩ (As := [.ref v3]) (m_X3_be X.2.2.2.2.2.2.2.2.2.2.1 e9) ydX3_be hs rfl rfl q672 q673 q674 q123 q675 rfl (Nat.le_of_ble_eq_true rfl) (Nat.le_of_ble_eq_true rfl) hl.1 rfl (Nat.le_of_ble_eq_true rfl) dX1_leave_15) (fun r4 h H locs cells slots hf hI => ?_)
  refine lv_iconst (v := (0 : Int32)) hx hb dX1_leave_18 (by decide) ?_
  refine lv_istore_n (lv' := [(3, .int (0 : Int32)), (2, .int (-1 : Int32)), (1, .int r1), (0, .ref a0)]) hx hb dX1_leave_19 rfl hl (by decide) rfl (fun ls hl => ?_)
  exact b_X1_leave_20 X gN _ _ _ _ _ _ _ _ _ _ hf hI (lv_sub hl [3, 2, 1, 0] rfl)
/-! X8_nailedOnes -/
abbrev w_X8_nailedOnes_28 (G : gG) (l : Launch) (p : Program) (e : Env) (s : State) (m : MethodId) (args : Array Value) (below : List Frame) (meth : Method) (c : Code) (h0 : g_H) (r : Int32) (h' : g_H) (k : Nat → Int32 → Int32 → Int32 → gM Int32) : Prop := ∀ (a0 : Nat) (x2 : Int32) (u0 : Int32) (u1 : Int32) (h : g_H) (H : Heap) (locs : List Loc) (cells slots : Nat) (ls : Array Slot), (k a0 x2 u0 u1).1 h = some (r, h') → gI G h0 h H locs cells slots → lv_has ls 3 [(0, .ref a0), (2, .int x2)] → W p l e (g_rm 4 84 h0 h') s m args below meth c H locs cells slots (gQ G below args s h0 h' (.inl (g_wI r))) (F0 m 28 ls [.int u1, .int u0])
abbrev w_X8_nailedOnes_36 (G : gG) (l : Launch) (p : Program) (e : Env) (s : State) (m : MethodId) (args : Array Value) (below : List Frame) (meth : Method) (c : Code) (h0 : g_H) (r : Int32) (h' : g_H) (k : Int32 → gM Int32) : Prop := ∀ (x1 : Int32) (h : g_H) (H : Heap) (locs : List Loc) (cells slots : Nat) (ls : Array Slot), (k x1).1 h = some (r, h') → gI G h0 h H locs cells slots → lv_has ls 3 [(1, .int x1)] → W p l e (g_rm 4 84 h0 h') s m args below meth c H locs cells slots (gQ G below args s h0 h' (.inl (g_wI r))) (F0 m 36 ls [])
abbrev w_X8_nailedOnes_4 (G : gG) (l : Launch) (p : Program) (e : Env) (s : State) (m : MethodId) (args : Array Value) (below : List Frame) (meth : Method) (c : Code) (h0 : g_H) (r : Int32) (h' : g_H) (k : Nat → Int32 → Int32 → gM Int32) : Prop := ∀ (a0 : Nat) (x1 : Int32) (x2 : Int32) (h : g_H) (H : Heap) (locs : List Loc) (cells slots : Nat) (ls : Array Slot), (k a0 x1 x2).1 h = some (r, h') → gI G h0 h H locs cells slots → lv_has ls 3 [(0, .ref a0), (1, .int x1), (2, .int x2)] → W p l e (g_rm 4 84 h0 h') s m args below meth c H locs cells slots (gQ G below args s h0 h' (.inl (g_wI r))) (F0 m 4 ls [])
def f_X8_nailedOnes_28 (k4 : Nat → Int32 → Int32 → gM Int32) (a0 : Nat) (x2 : Int32) (u0 : Int32) (u1 : Int32) : gM Int32 :=
    k4 a0 (u0 ||| u1) (x2 + (1 : Int32))
set_option maxHeartbeats 4000000 in
set_option maxRecDepth 100000 in
theorem b_X8_nailedOnes_28 {G : gG} {l : Launch} {p : Program} {e : Env} {s : State} {m : MethodId} {args : Array Value} {below : List Frame} {meth : Method} {c : Code} {h0 : g_H} {r : Int32} {h' : g_H} (X : gX G l yX8_nailedOnes.cls cX8_nailedOnes 3 (some .int) [] yX8_nailedOnes.name p s m args meth c) {k4 : Nat → Int32 → Int32 → gM Int32} (K4 : w_X8_nailedOnes_4 G l p e s m args below meth c h0 r h' k4) : w_X8_nailedOnes_28 G l p e s m args below meth c h0 r h' (f_X8_nailedOnes_28 k4) := by
  have hx := X.1
  have hb := X.2.1
  have hown := X.2.2.2.1
  have hts := X.2.2.2.2.1
  intro a0 x2 u0 u1 h H locs cells slots ls hf hI hl
  unfold f_X8_nailedOnes_28 at hf
  refine lv_ior hx hb dX8_nailedOnes_28 ?_
  refine lv_istore_n (lv' := [(1, .int (u0 ||| u1)), (0, .ref a0), (2, .int x2)]) hx hb dX8_nailedOnes_29 rfl hl (by decide) rfl (fun ls hl => ?_)
  refine lv_iinc (v := (x2 + (1 : Int32))) (lv' := [(2, .int (x2 + (1 : Int32))), (1, .int (u0 ||| u1)), (0, .ref a0)]) hx hb dX8_nailedOnes_30 hl (k := 2) rfl rfl (by decide) rfl (fun ls hl => ?_)
  refine lv_goto (tgt := 4) hx hb dX8_nailedOnes_33 (by decide) ?_
  exact K4 _ _ _ _ _ _ _ _ _ hf hI (lv_sub hl [2, 1, 0] rfl)
def f_X8_nailedOnes_36 (x1 : Int32) : gM Int32 :=
    (gRet x1)
set_option maxHeartbeats 4000000 in
set_option maxRecDepth 100000 in
theorem b_X8_nailedOnes_36 {G : gG} {l : Launch} {p : Program} {e : Env} {s : State} {m : MethodId} {args : Array Value} {below : List Frame} {meth : Method} {c : Code} {h0 : g_H} {r : Int32} {h' : g_H} (X : gX G l yX8_nailedOnes.cls cX8_nailedOnes 3 (some .int) [] yX8_nailedOnes.name p s m args meth c) : w_X8_nailedOnes_36 G l p e s m args below meth c h0 r h' (f_X8_nailedOnes_36) := by
  have hx := X.1
  have hb := X.2.1
  have hown := X.2.2.2.1
  have hts := X.2.2.2.2.1
  intro x1 h H locs cells slots ls hf hI hl
  unfold f_X8_nailedOnes_36 at hf
  refine lv_iload_n hx hb dX8_nailedOnes_36 rfl (lv_at hl 0 rfl) ?_
  cases gRet_e hf
  exact g_retI X hI rfl dX8_nailedOnes_37
def f_X8_nailedOnes_4 : Nat → Nat → Int32 → Int32 → gM Int32
  | 0, _, _, _ => gFail
  | n + 1, a0, x1, x2 =>
    gB (gCk a0 7) fun _ =>
    gB (f_X8_props a0) fun r101 =>
    gIf (r101 ≤ x2)
    (f_X8_nailedOnes_36 x1)
    (gB (gCk a0 7) fun _ =>
    gB (f_X8_isNailed a0 x2) fun r102 =>
    gIf (r102 = 0)
    (f_X8_nailedOnes_28 (f_X8_nailedOnes_4 n) a0 x2 x1 (0 : Int32))
    (f_X8_nailedOnes_28 (f_X8_nailedOnes_4 n) a0 x2 x1 ((1 : Int32) <<< (x2 &&& 31))))
set_option maxHeartbeats 4000000 in
set_option maxRecDepth 100000 in
theorem b_X8_nailedOnes_4 {G : gG} {l : Launch} {p : Program} {e : Env} {s : State} {m : MethodId} {args : Array Value} {below : List Frame} {meth : Method} {c : Code} {h0 : g_H} {r : Int32} {h' : g_H} (X : gX G l yX8_nailedOnes.cls cX8_nailedOnes 3 (some .int) [] yX8_nailedOnes.name p s m args meth c) : ∀ n : Nat, w_X8_nailedOnes_4 G l p e s m args below meth c h0 r h' (f_X8_nailedOnes_4 n) := by
  have hx := X.1
  have hb := X.2.1
  have hown := X.2.2.2.1
  have hts := X.2.2.2.2.1
  intro n
  induction n with
  | zero =>
    intro a0 x1 x2 h H locs cells slots ls hf hI hl
    exact (gFail_f hf).elim
  | succ n ih =>
    intro a0 x1 x2 h H locs cells slots ls hf hI hl
    rw [f_X8_nailedOnes_4] at hf
    refine lv_iload_n hx hb dX8_nailedOnes_4 rfl (lv_at hl 2 rfl) ?_
    refine lv_aload_n hx hb dX8_nailedOnes_5 rfl (lv_at hl 0 rfl) ?_
    obtain ⟨hs, hf⟩ := gCk_b hf
    refine g_cBI hI hf (fun v9 h9 e9 l9 l9' => g_rV X hI l9 l9' ⟨Nat.le_refl _, Nat.le_refl _⟩ (As := []) (m_X8_props X.2.2.2.2.2.2.2.2.2.2.1 e9) ydX8_props hs rfl rfl q1626 q1628 qs53 q131 q1629 rfl (Nat.le_of_ble_eq_true rfl) (Nat.le_of_ble_eq_true rfl) hl.1 rfl (Nat.le_of_ble_eq_true rfl) dX8_nailedOnes_6) (fun r101 h H locs cells slots hf hI => ?_)
    refine lv_icmp_ge (tgt := 36) hx hb dX8_nailedOnes_9 (by decide) (fun c9 => ?_) (fun c9 => ?_)
    · have hf := g_t c9 hf
      exact b_X8_nailedOnes_36 X _ _ _ _ _ _ _ hf hI (lv_sub hl [1] rfl)
    · have hf := g_f c9 hf
      refine lv_iload_n hx hb dX8_nailedOnes_12 rfl (lv_at hl 1 rfl) ?_
      refine lv_aload_n hx hb dX8_nailedOnes_13 rfl (lv_at hl 0 rfl) ?_
      refine lv_iload_n hx hb dX8_nailedOnes_14 rfl (lv_at hl 2 rfl) ?_
      obtain ⟨hs, hf⟩ := gCk_b hf
      refine g_cBI hI hf (fun v9 h9 e9 l9 l9' => g_rV X hI l9 l9' ⟨Nat.le_refl _, Nat.le_refl _⟩ (As := [.int x2]) (m_X8_isNailed X.2.2.2.2.2.2.2.2.2.2.1 e9) ydX8_isNailed hs rfl rfl q1850 q1852 qs92 q131 q1853 rfl (Nat.le_of_ble_eq_true rfl) (Nat.le_of_ble_eq_true rfl) hl.1 rfl (Nat.le_of_ble_eq_true rfl) dX8_nailedOnes_15) (fun r102 h H locs cells slots hf hI => ?_)
      refine lv_if_eq (tgt := 27) hx hb dX8_nailedOnes_18 (by decide) (fun c18 => ?_) (fun c18 => ?_)
      · have hf := g_t c18 hf
        refine lv_iconst (v := (0 : Int32)) hx hb dX8_nailedOnes_27 (by decide) ?_
        exact b_X8_nailedOnes_28 X ih _ _ _ _ _ _ _ _ _ _ hf hI (lv_sub hl [0, 2] rfl)
      · have hf := g_f c18 hf
        refine lv_iconst (v := (1 : Int32)) hx hb dX8_nailedOnes_21 (by decide) ?_
        refine lv_iload_n hx hb dX8_nailedOnes_22 rfl (lv_at hl 2 rfl) ?_
        refine lv_ishl hx hb dX8_nailedOnes_23 ?_
        refine lv_goto (tgt := 28) hx hb dX8_nailedOnes_24 (by decide) ?_
        exact b_X8_nailedOnes_28 X ih _ _ _ _ _ _ _ _ _ _ hf hI (lv_sub hl [0, 2] rfl)
def f_X8_nailedOnes (a0 : Nat) : gM Int32 :=
    f_X8_nailedOnes_4 gN a0 (0 : Int32) (0 : Int32)
set_option maxHeartbeats 4000000 in
set_option maxRecDepth 100000 in
theorem m_X8_nailedOnes {G : gG} {l : Launch} (hfl : l.stackTraces = false) {a0 : Nat} {h h' : g_H} {r : Int32} (hf : (f_X8_nailedOnes a0).1 h = some (r, h')) : gMet G l yX8_nailedOnes (Cond.code yX8_nailedOnes cX8_nailedOnes 3 (some .int)) 4 84 [.ref a0] h (.inl (g_wI r)) h' := by
  refine g_head hfl ((f_X8_nailedOnes a0).2 h r h' hf) (plainFor_of_name (by decide)) (Nat.le_of_ble_eq_true rfl) (fun p e s m below meth c H locs cells slots ls X hI hl9 => ?_)
  have hl : lv_has ls 3 [(0, .ref a0)] := hl9
  have hx := X.1
  have hb := X.2.1
  have hown := X.2.2.2.1
  have hts := X.2.2.2.2.1
  unfold f_X8_nailedOnes at hf
  refine lv_iconst (v := (0 : Int32)) hx hb dX8_nailedOnes_0 (by decide) ?_
  refine lv_istore_n (lv' := [(1, .int (0 : Int32)), (0, .ref a0)]) hx hb dX8_nailedOnes_1 rfl hl (by decide) rfl (fun ls hl => ?_)
  refine lv_iconst (v := (0 : Int32)) hx hb dX8_nailedOnes_2 (by decide) ?_
  refine lv_istore_n (lv' := [(2, .int (0 : Int32)), (1, .int (0 : Int32)), (0, .ref a0)]) hx hb dX8_nailedOnes_3 rfl hl (by decide) rfl (fun ls hl => ?_)
  exact b_X8_nailedOnes_4 X gN _ _ _ _ _ _ _ _ _ hf hI (lv_sub hl [2, 1, 0] rfl)
/-! X8_isInnocent -/
abbrev w_X8_isInnocent_14 (G : gG) (l : Launch) (p : Program) (e : Env) (s : State) (m : MethodId) (args : Array Value) (below : List Frame) (meth : Method) (c : Code) (h0 : g_H) (r : Int32) (h' : g_H) (k : Int32 → gM Int32) : Prop := ∀ (u0 : Int32) (h : g_H) (H : Heap) (locs : List Loc) (cells slots : Nat) (ls : Array Slot), (k u0).1 h = some (r, h') → gI G h0 h H locs cells slots → lv_has ls 2 [] → W p l e (g_rm 3 63 h0 h') s m args below meth c H locs cells slots (gQ G below args s h0 h' (.inl (g_wI r))) (F0 m 14 ls [.int u0])
def f_X8_isInnocent_14 (u0 : Int32) : gM Int32 :=
    gB (gGd (u0 = 0 ∨ u0 = 1)) fun _ =>
    (gRet u0)
set_option maxHeartbeats 4000000 in
set_option maxRecDepth 100000 in
theorem b_X8_isInnocent_14 {G : gG} {l : Launch} {p : Program} {e : Env} {s : State} {m : MethodId} {args : Array Value} {below : List Frame} {meth : Method} {c : Code} {h0 : g_H} {r : Int32} {h' : g_H} (X : gX G l yX8_isInnocent.cls cX8_isInnocent 2 (some .boolean) [] yX8_isInnocent.name p s m args meth c) : w_X8_isInnocent_14 G l p e s m args below meth c h0 r h' (f_X8_isInnocent_14) := by
  have hx := X.1
  have hb := X.2.1
  have hown := X.2.2.2.1
  have hts := X.2.2.2.2.1
  intro u0 h H locs cells slots ls hf hI hl
  unfold f_X8_isInnocent_14 at hf
  obtain ⟨hz, hf⟩ := gB_gd hf
  cases gRet_e hf
  exact g_retZ X hI hz rfl dX8_isInnocent_14
def f_X8_isInnocent (a0 : Nat) (x1 : Int32) : gM Int32 :=
    gB (gCk a0 7) fun _ =>
    gB (f_X8_of a0 x1 (0 : Int32)) fun r1 =>
    gIf (r1 = 0)
    (f_X8_isInnocent_14 (1 : Int32))
    (f_X8_isInnocent_14 (0 : Int32))
set_option maxHeartbeats 4000000 in
set_option maxRecDepth 100000 in
theorem m_X8_isInnocent {G : gG} {l : Launch} (hfl : l.stackTraces = false) {a0 : Nat} {x1 : Int32} {h h' : g_H} {r : Int32} (hf : (f_X8_isInnocent a0 x1).1 h = some (r, h')) : gMet G l yX8_isInnocent (Cond.code yX8_isInnocent cX8_isInnocent 2 (some .boolean)) 3 63 [.ref a0, .int x1] h (.inl (g_wI r)) h' := by
  refine g_head hfl ((f_X8_isInnocent a0 x1).2 h r h' hf) (plainFor_of_name (by decide)) (Nat.le_of_ble_eq_true rfl) (fun p e s m below meth c H locs cells slots ls X hI hl9 => ?_)
  have hl : lv_has ls 2 [(0, .ref a0), (1, .int x1)] := hl9
  have hx := X.1
  have hb := X.2.1
  have hown := X.2.2.2.1
  have hts := X.2.2.2.2.1
  unfold f_X8_isInnocent at hf
  refine lv_aload_n hx hb dX8_isInnocent_0 rfl (lv_at hl 0 rfl) ?_
  refine lv_iload_n hx hb dX8_isInnocent_1 rfl (lv_at hl 1 rfl) ?_
  refine lv_iconst (v := (0 : Int32)) hx hb dX8_isInnocent_2 (by decide) ?_
  obtain ⟨hs, hf⟩ := gCk_b hf
  refine g_cBI hI hf (fun v9 h9 e9 l9 l9' => g_rV X hI l9 l9' ⟨Nat.le_refl _, Nat.le_refl _⟩ (As := [.int x1, .int (0 : Int32)]) (m_X8_of X.2.2.2.2.2.2.2.2.2.2.1 e9) ydX8_of hs rfl rfl q1767 q1769 qs75 q131 q1770 rfl (Nat.le_of_ble_eq_true rfl) (Nat.le_of_ble_eq_true rfl) hl.1 rfl (Nat.le_of_ble_eq_true rfl) dX8_isInnocent_3) (fun r1 h H locs cells slots hf hI => ?_)
  refine lv_if_ne (tgt := 13) hx hb dX8_isInnocent_6 (by decide) (fun c6 => ?_) (fun c6 => ?_)
  · have hf := g_f c6 hf
    refine lv_iconst (v := (0 : Int32)) hx hb dX8_isInnocent_13 (by decide) ?_
    exact b_X8_isInnocent_14 X _ _ _ _ _ _ _ hf hI (lv_sub hl [] rfl)
  · have hf := g_t c6 hf
    refine lv_iconst (v := (1 : Int32)) hx hb dX8_isInnocent_9 (by decide) ?_
    refine lv_goto (tgt := 14) hx hb dX8_isInnocent_10 (by decide) ?_
    exact b_X8_isInnocent_14 X _ _ _ _ _ _ _ hf hI (lv_sub hl [] rfl)
/-! X8_isQuiet -/
abbrev w_X8_isQuiet_46 (G : gG) (l : Launch) (p : Program) (e : Env) (s : State) (m : MethodId) (args : Array Value) (below : List Frame) (meth : Method) (c : Code) (h0 : g_H) (r : Int32) (h' : g_H) (k : Nat → Int32 → Int32 → gM Int32) : Prop := ∀ (a0 : Nat) (x2 : Int32) (u0 : Int32) (h : g_H) (H : Heap) (locs : List Loc) (cells slots : Nat) (ls : Array Slot), (k a0 x2 u0).1 h = some (r, h') → gI G h0 h H locs cells slots → lv_has ls 3 [(0, .ref a0), (2, .int x2)] → W p l e (g_rm 11 249 h0 h') s m args below meth c H locs cells slots (gQ G below args s h0 h' (.inl (g_wI r))) (F0 m 46 ls [.int u0])
abbrev w_X8_isQuiet_41 (G : gG) (l : Launch) (p : Program) (e : Env) (s : State) (m : MethodId) (args : Array Value) (below : List Frame) (meth : Method) (c : Code) (h0 : g_H) (r : Int32) (h' : g_H) (k : Nat → Int32 → gM Int32) : Prop := ∀ (a0 : Nat) (x2 : Int32) (h : g_H) (H : Heap) (locs : List Loc) (cells slots : Nat) (ls : Array Slot), (k a0 x2).1 h = some (r, h') → gI G h0 h H locs cells slots → lv_has ls 3 [(0, .ref a0), (2, .int x2)] → W p l e (g_rm 11 249 h0 h') s m args below meth c H locs cells slots (gQ G below args s h0 h' (.inl (g_wI r))) (F0 m 41 ls [])
abbrev w_X8_isQuiet_45 (G : gG) (l : Launch) (p : Program) (e : Env) (s : State) (m : MethodId) (args : Array Value) (below : List Frame) (meth : Method) (c : Code) (h0 : g_H) (r : Int32) (h' : g_H) (k : Nat → Int32 → gM Int32) : Prop := ∀ (a0 : Nat) (x2 : Int32) (h : g_H) (H : Heap) (locs : List Loc) (cells slots : Nat) (ls : Array Slot), (k a0 x2).1 h = some (r, h') → gI G h0 h H locs cells slots → lv_has ls 3 [(0, .ref a0), (2, .int x2)] → W p l e (g_rm 11 249 h0 h') s m args below meth c H locs cells slots (gQ G below args s h0 h' (.inl (g_wI r))) (F0 m 45 ls [])
abbrev w_X8_isQuiet_53 (G : gG) (l : Launch) (p : Program) (e : Env) (s : State) (m : MethodId) (args : Array Value) (below : List Frame) (meth : Method) (c : Code) (h0 : g_H) (r : Int32) (h' : g_H) (k : Int32 → gM Int32) : Prop := ∀ (x1 : Int32) (h : g_H) (H : Heap) (locs : List Loc) (cells slots : Nat) (ls : Array Slot), (k x1).1 h = some (r, h') → gI G h0 h H locs cells slots → lv_has ls 3 [(1, .int x1)] → W p l e (g_rm 11 249 h0 h') s m args below meth c H locs cells slots (gQ G below args s h0 h' (.inl (g_wI r))) (F0 m 53 ls [])
abbrev w_X8_isQuiet_4 (G : gG) (l : Launch) (p : Program) (e : Env) (s : State) (m : MethodId) (args : Array Value) (below : List Frame) (meth : Method) (c : Code) (h0 : g_H) (r : Int32) (h' : g_H) (k : Nat → Int32 → Int32 → gM Int32) : Prop := ∀ (a0 : Nat) (x1 : Int32) (x2 : Int32) (h : g_H) (H : Heap) (locs : List Loc) (cells slots : Nat) (ls : Array Slot), (k a0 x1 x2).1 h = some (r, h') → gI G h0 h H locs cells slots → lv_has ls 3 [(0, .ref a0), (1, .int x1), (2, .int x2)] → W p l e (g_rm 11 249 h0 h') s m args below meth c H locs cells slots (gQ G below args s h0 h' (.inl (g_wI r))) (F0 m 4 ls [])
def f_X8_isQuiet_46 (k4 : Nat → Int32 → Int32 → gM Int32) (a0 : Nat) (x2 : Int32) (u0 : Int32) : gM Int32 :=
    k4 a0 u0 (x2 + (1 : Int32))
set_option maxHeartbeats 4000000 in
set_option maxRecDepth 100000 in
theorem b_X8_isQuiet_46 {G : gG} {l : Launch} {p : Program} {e : Env} {s : State} {m : MethodId} {args : Array Value} {below : List Frame} {meth : Method} {c : Code} {h0 : g_H} {r : Int32} {h' : g_H} (X : gX G l yX8_isQuiet.cls cX8_isQuiet 3 (some .boolean) [] yX8_isQuiet.name p s m args meth c) {k4 : Nat → Int32 → Int32 → gM Int32} (K4 : w_X8_isQuiet_4 G l p e s m args below meth c h0 r h' k4) : w_X8_isQuiet_46 G l p e s m args below meth c h0 r h' (f_X8_isQuiet_46 k4) := by
  have hx := X.1
  have hb := X.2.1
  have hown := X.2.2.2.1
  have hts := X.2.2.2.2.1
  intro a0 x2 u0 h H locs cells slots ls hf hI hl
  unfold f_X8_isQuiet_46 at hf
  refine lv_istore_n (lv' := [(1, .int u0), (0, .ref a0), (2, .int x2)]) hx hb dX8_isQuiet_46 rfl hl (by decide) rfl (fun ls hl => ?_)
  refine lv_iinc (v := (x2 + (1 : Int32))) (lv' := [(2, .int (x2 + (1 : Int32))), (1, .int u0), (0, .ref a0)]) hx hb dX8_isQuiet_47 hl (k := 2) rfl rfl (by decide) rfl (fun ls hl => ?_)
  refine lv_goto (tgt := 4) hx hb dX8_isQuiet_50 (by decide) ?_
  exact K4 _ _ _ _ _ _ _ _ _ hf hI (lv_sub hl [2, 1, 0] rfl)
def f_X8_isQuiet_41 (k4 : Nat → Int32 → Int32 → gM Int32) (a0 : Nat) (x2 : Int32) : gM Int32 :=
    f_X8_isQuiet_46 k4 a0 x2 (1 : Int32)
set_option maxHeartbeats 4000000 in
set_option maxRecDepth 100000 in
theorem b_X8_isQuiet_41 {G : gG} {l : Launch} {p : Program} {e : Env} {s : State} {m : MethodId} {args : Array Value} {below : List Frame} {meth : Method} {c : Code} {h0 : g_H} {r : Int32} {h' : g_H} (X : gX G l yX8_isQuiet.cls cX8_isQuiet 3 (some .boolean) [] yX8_isQuiet.name p s m args meth c) {k4 : Nat → Int32 → Int32 → gM Int32} (K4 : w_X8_isQuiet_4 G l p e s m args below meth c h0 r h' k4) : w_X8_isQuiet_41 G l p e s m args below meth c h0 r h' (f_X8_isQuiet_41 k4) := by
  have hx := X.1
  have hb := X.2.1
  have hown := X.2.2.2.1
  have hts := X.2.2.2.2.1
  intro a0 x2 h H locs cells slots ls hf hI hl
  unfold f_X8_isQuiet_41 at hf
  refine lv_iconst (v := (1 : Int32)) hx hb dX8_isQuiet_41 (by decide) ?_
  refine lv_goto (tgt := 46) hx hb dX8_isQuiet_42 (by decide) ?_
  exact b_X8_isQuiet_46 X K4 _ _ _ _ _ _ _ _ _ hf hI (lv_sub hl [0, 1] rfl)
def f_X8_isQuiet_45 (k4 : Nat → Int32 → Int32 → gM Int32) (a0 : Nat) (x2 : Int32) : gM Int32 :=
    f_X8_isQuiet_46 k4 a0 x2 (0 : Int32)
set_option maxHeartbeats 4000000 in
set_option maxRecDepth 100000 in
theorem b_X8_isQuiet_45 {G : gG} {l : Launch} {p : Program} {e : Env} {s : State} {m : MethodId} {args : Array Value} {below : List Frame} {meth : Method} {c : Code} {h0 : g_H} {r : Int32} {h' : g_H} (X : gX G l yX8_isQuiet.cls cX8_isQuiet 3 (some .boolean) [] yX8_isQuiet.name p s m args meth c) {k4 : Nat → Int32 → Int32 → gM Int32} (K4 : w_X8_isQuiet_4 G l p e s m args below meth c h0 r h' k4) : w_X8_isQuiet_45 G l p e s m args below meth c h0 r h' (f_X8_isQuiet_45 k4) := by
  have hx := X.1
  have hb := X.2.1
  have hown := X.2.2.2.1
  have hts := X.2.2.2.2.1
  intro a0 x2 h H locs cells slots ls hf hI hl
  unfold f_X8_isQuiet_45 at hf
  refine lv_iconst (v := (0 : Int32)) hx hb dX8_isQuiet_45 (by decide) ?_
  exact b_X8_isQuiet_46 X K4 _ _ _ _ _ _ _ _ _ hf hI (lv_sub hl [0, 1] rfl)
def f_X8_isQuiet_53 (x1 : Int32) : gM Int32 :=
    gB (gGd (x1 = 0 ∨ x1 = 1)) fun _ =>
    (gRet x1)
set_option maxHeartbeats 4000000 in
set_option maxRecDepth 100000 in
theorem b_X8_isQuiet_53 {G : gG} {l : Launch} {p : Program} {e : Env} {s : State} {m : MethodId} {args : Array Value} {below : List Frame} {meth : Method} {c : Code} {h0 : g_H} {r : Int32} {h' : g_H} (X : gX G l yX8_isQuiet.cls cX8_isQuiet 3 (some .boolean) [] yX8_isQuiet.name p s m args meth c) : w_X8_isQuiet_53 G l p e s m args below meth c h0 r h' (f_X8_isQuiet_53) := by
  have hx := X.1
  have hb := X.2.1
  have hown := X.2.2.2.1
  have hts := X.2.2.2.2.1
  intro x1 h H locs cells slots ls hf hI hl
  unfold f_X8_isQuiet_53 at hf
  refine lv_iload_n hx hb dX8_isQuiet_53 rfl (lv_at hl 0 rfl) ?_
  obtain ⟨hz, hf⟩ := gB_gd hf
  cases gRet_e hf
  exact g_retZ X hI hz rfl dX8_isQuiet_54
def f_X8_isQuiet_4 : Nat → Nat → Int32 → Int32 → gM Int32
  | 0, _, _, _ => gFail
  | n + 1, a0, x1, x2 =>
    gB (gCk a0 7) fun _ =>
    gB (f_X8_oneCount a0) fun r101 =>
    gIf (r101 ≤ x2)
    (f_X8_isQuiet_53 x1)
    (gIf (x1 = 0)
    (f_X8_isQuiet_45 (f_X8_isQuiet_4 n) a0 x2)
    (gB (gCk a0 7) fun _ =>
    gB (f_X8_waits a0 x2) fun r102 =>
    gIf (r102 = 0)
    (f_X8_isQuiet_41 (f_X8_isQuiet_4 n) a0 x2)
    (gB (gCk a0 7) fun _ =>
    gB (f_X8_isInnocent a0 x2) fun r103 =>
    gIf (r103 = 0)
    (gB (gCk a0 7) fun _ =>
    gB (f_X8_ridesStraight a0 x2) fun r104 =>
    gIf (r104 = (-1 : Int32))
    (f_X8_isQuiet_41 (f_X8_isQuiet_4 n) a0 x2)
    (f_X8_isQuiet_45 (f_X8_isQuiet_4 n) a0 x2))
    (f_X8_isQuiet_41 (f_X8_isQuiet_4 n) a0 x2))))
set_option maxHeartbeats 4000000 in
set_option maxRecDepth 100000 in
theorem b_X8_isQuiet_4 {G : gG} {l : Launch} {p : Program} {e : Env} {s : State} {m : MethodId} {args : Array Value} {below : List Frame} {meth : Method} {c : Code} {h0 : g_H} {r : Int32} {h' : g_H} (X : gX G l yX8_isQuiet.cls cX8_isQuiet 3 (some .boolean) [] yX8_isQuiet.name p s m args meth c) : ∀ n : Nat, w_X8_isQuiet_4 G l p e s m args below meth c h0 r h' (f_X8_isQuiet_4 n) := by
  have hx := X.1
  have hb := X.2.1
  have hown := X.2.2.2.1
  have hts := X.2.2.2.2.1
  intro n
  induction n with
  | zero =>
    intro a0 x1 x2 h H locs cells slots ls hf hI hl
    exact (gFail_f hf).elim
  | succ n ih =>
    intro a0 x1 x2 h H locs cells slots ls hf hI hl
    rw [f_X8_isQuiet_4] at hf
    refine lv_iload_n hx hb dX8_isQuiet_4 rfl (lv_at hl 2 rfl) ?_
    refine lv_aload_n hx hb dX8_isQuiet_5 rfl (lv_at hl 0 rfl) ?_
    obtain ⟨hs, hf⟩ := gCk_b hf
    refine g_cBI hI hf (fun v9 h9 e9 l9 l9' => g_rV X hI l9 l9' ⟨Nat.le_refl _, Nat.le_refl _⟩ (As := []) (m_X8_oneCount X.2.2.2.2.2.2.2.2.2.2.1 e9) ydX8_oneCount hs rfl rfl q1673 q1675 qs61 q131 q1676 rfl (Nat.le_of_ble_eq_true rfl) (Nat.le_of_ble_eq_true rfl) hl.1 rfl (Nat.le_of_ble_eq_true rfl) dX8_isQuiet_6) (fun r101 h H locs cells slots hf hI => ?_)
    refine lv_icmp_ge (tgt := 53) hx hb dX8_isQuiet_9 (by decide) (fun c9 => ?_) (fun c9 => ?_)
    · have hf := g_t c9 hf
      exact b_X8_isQuiet_53 X _ _ _ _ _ _ _ hf hI (lv_sub hl [1] rfl)
    · have hf := g_f c9 hf
      refine lv_iload_n hx hb dX8_isQuiet_12 rfl (lv_at hl 1 rfl) ?_
      refine lv_if_eq (tgt := 45) hx hb dX8_isQuiet_13 (by decide) (fun c13 => ?_) (fun c13 => ?_)
      · have hf := g_t c13 hf
        exact b_X8_isQuiet_45 X ih _ _ _ _ _ _ _ _ hf hI (lv_sub hl [0, 2] rfl)
      · have hf := g_f c13 hf
        refine lv_aload_n hx hb dX8_isQuiet_16 rfl (lv_at hl 0 rfl) ?_
        refine lv_iload_n hx hb dX8_isQuiet_17 rfl (lv_at hl 2 rfl) ?_
        obtain ⟨hs, hf⟩ := gCk_b hf
        refine g_cBI hI hf (fun v9 h9 e9 l9 l9' => g_rV X hI l9 l9' ⟨Nat.le_refl _, Nat.le_refl _⟩ (As := [.int x2]) (m_X8_waits X.2.2.2.2.2.2.2.2.2.2.1 e9) ydX8_waits hs rfl rfl q1804 q1806 qs82 q131 q1807 rfl (Nat.le_of_ble_eq_true rfl) (Nat.le_of_ble_eq_true rfl) hl.1 rfl (Nat.le_of_ble_eq_true rfl) dX8_isQuiet_18) (fun r102 h H locs cells slots hf hI => ?_)
        refine lv_if_eq (tgt := 41) hx hb dX8_isQuiet_21 (by decide) (fun c21 => ?_) (fun c21 => ?_)
        · have hf := g_t c21 hf
          exact b_X8_isQuiet_41 X ih _ _ _ _ _ _ _ _ hf hI (lv_sub hl [0, 2] rfl)
        · have hf := g_f c21 hf
          refine lv_aload_n hx hb dX8_isQuiet_24 rfl (lv_at hl 0 rfl) ?_
          refine lv_iload_n hx hb dX8_isQuiet_25 rfl (lv_at hl 2 rfl) ?_
          obtain ⟨hs, hf⟩ := gCk_b hf
          refine g_cBI hI hf (fun v9 h9 e9 l9 l9' => g_rV X hI l9 l9' ⟨Nat.le_refl _, Nat.le_refl _⟩ (As := [.int x2]) (m_X8_isInnocent X.2.2.2.2.2.2.2.2.2.2.1 e9) ydX8_isInnocent hs rfl rfl q1971 q1973 qs105 q131 q1974 rfl (Nat.le_of_ble_eq_true rfl) (Nat.le_of_ble_eq_true rfl) hl.1 rfl (Nat.le_of_ble_eq_true rfl) dX8_isQuiet_26) (fun r103 h H locs cells slots hf hI => ?_)
          refine lv_if_ne (tgt := 41) hx hb dX8_isQuiet_29 (by decide) (fun c29 => ?_) (fun c29 => ?_)
          · have hf := g_f c29 hf
            exact b_X8_isQuiet_41 X ih _ _ _ _ _ _ _ _ hf hI (lv_sub hl [0, 2] rfl)
          · have hf := g_t c29 hf
            refine lv_aload_n hx hb dX8_isQuiet_32 rfl (lv_at hl 0 rfl) ?_
            refine lv_iload_n hx hb dX8_isQuiet_33 rfl (lv_at hl 2 rfl) ?_
            obtain ⟨hs, hf⟩ := gCk_b hf
            refine g_cBI hI hf (fun v9 h9 e9 l9 l9' => g_rV X hI l9 l9' ⟨Nat.le_refl _, Nat.le_refl _⟩ (As := [.int x2]) (m_X8_ridesStraight X.2.2.2.2.2.2.2.2.2.2.1 e9) ydX8_ridesStraight hs rfl rfl q1886 q1888 qs94 q131 q1889 rfl (Nat.le_of_ble_eq_true rfl) (Nat.le_of_ble_eq_true rfl) hl.1 rfl (Nat.le_of_ble_eq_true rfl) dX8_isQuiet_34) (fun r104 h H locs cells slots hf hI => ?_)
            refine lv_iconst (v := (-1 : Int32)) hx hb dX8_isQuiet_37 (by decide) ?_
            refine lv_icmp_ne (tgt := 45) hx hb dX8_isQuiet_38 (by decide) (fun c38 => ?_) (fun c38 => ?_)
            · have hf := g_f c38 hf
              exact b_X8_isQuiet_45 X ih _ _ _ _ _ _ _ _ hf hI (lv_sub hl [0, 2] rfl)
            · have hf := g_t c38 hf
              exact b_X8_isQuiet_41 X ih _ _ _ _ _ _ _ _ hf hI (lv_sub hl [0, 2] rfl)
def f_X8_isQuiet (a0 : Nat) : gM Int32 :=
    f_X8_isQuiet_4 gN a0 (1 : Int32) (0 : Int32)
set_option maxHeartbeats 4000000 in
set_option maxRecDepth 100000 in
theorem m_X8_isQuiet {G : gG} {l : Launch} (hfl : l.stackTraces = false) {a0 : Nat} {h h' : g_H} {r : Int32} (hf : (f_X8_isQuiet a0).1 h = some (r, h')) : gMet G l yX8_isQuiet (Cond.code yX8_isQuiet cX8_isQuiet 3 (some .boolean)) 11 249 [.ref a0] h (.inl (g_wI r)) h' := by
  refine g_head hfl ((f_X8_isQuiet a0).2 h r h' hf) (plainFor_of_name (by decide)) (Nat.le_of_ble_eq_true rfl) (fun p e s m below meth c H locs cells slots ls X hI hl9 => ?_)
  have hl : lv_has ls 3 [(0, .ref a0)] := hl9
  have hx := X.1
  have hb := X.2.1
  have hown := X.2.2.2.1
  have hts := X.2.2.2.2.1
  unfold f_X8_isQuiet at hf
  refine lv_iconst (v := (1 : Int32)) hx hb dX8_isQuiet_0 (by decide) ?_
  refine lv_istore_n (lv' := [(1, .int (1 : Int32)), (0, .ref a0)]) hx hb dX8_isQuiet_1 rfl hl (by decide) rfl (fun ls hl => ?_)
  refine lv_iconst (v := (0 : Int32)) hx hb dX8_isQuiet_2 (by decide) ?_
  refine lv_istore_n (lv' := [(2, .int (0 : Int32)), (1, .int (1 : Int32)), (0, .ref a0)]) hx hb dX8_isQuiet_3 rfl hl (by decide) rfl (fun ls hl => ?_)
  exact b_X8_isQuiet_4 X gN _ _ _ _ _ _ _ _ _ hf hI (lv_sub hl [2, 1, 0] rfl)
end
