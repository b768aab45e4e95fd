noncomputable section
/-! X10_init -/
def f_X10_init (a0 : Nat) (x1 : Int32) : gM Unit :=
    gB (gPI a0 9 0 x1) fun _ =>
    gRet ()
set_option maxHeartbeats 4000000 in
set_option maxRecDepth 100000 in
theorem m_X10_init {G : gG} {l : Launch} (hfl : l.stackTraces = false) {a0 : Nat} {x1 : Int32} {h h' : g_H} {r : Unit} (hf : (f_X10_init a0 x1).1 h = some (r, h')) : gMet G l yX10_init (Cond.code yX10_init cX10_init 2 none) 1 20 [.ref a0, .int x1] h (.inl (g_wU r)) h' := by
  refine g_head hfl ((f_X10_init a0 x1).2 h r h' hf) (plainFor_of_name (by decide)) (Nat.le_of_ble_eq_true rfl) (fun p e s m below meth c H locs cells slots ls X hI hl9 => ?_)
  have hl : lv_has ls 2 [(0, .ref a0), (1, .int x1)] := hl9
  have hx := X.1
  have hb := X.2.1
  have hown := X.2.2.2.1
  have hts := X.2.2.2.2.1
  unfold f_X10_init at hf
  refine lv_aload_n hx hb dX10_init_0 rfl (lv_at hl 0 rfl) ?_
  refine g_oinit X q994 hl.1 (Nat.le_of_ble_eq_true rfl) (Nat.le_of_ble_eq_true rfl) (Nat.le_of_ble_eq_true rfl) dX10_init_1 ?_
  refine lv_aload_n hx hb dX10_init_4 rfl (lv_at hl 0 rfl) ?_
  refine lv_iload_n hx hb dX10_init_5 rfl (lv_at hl 1 rfl) ?_
  refine g_piF X hI hf fX10_0 q995 rfl rfl dX10_init_6 (fun h H locs hf hI => ?_)
  cases gRet_e hf
  exact g_retU X hI rfl dX10_init_9
/-! X11_init -/
def f_X11_init (a0 : Nat) : gM Unit :=
    gB (gNwA 0 (6 : Int32)) fun a1 =>
    gB (gPQ a0 10 0 (some a1)) fun _ =>
    gRet ()
set_option maxHeartbeats 4000000 in
set_option maxRecDepth 100000 in
theorem m_X11_init {G : gG} {l : Launch} (hfl : l.stackTraces = false) {a0 : Nat} {h h' : g_H} {r : Unit} (hf : (f_X11_init a0).1 h = some (r, h')) : gMet G l yX11_init (Cond.code yX11_init cX11_init 1 none) 1 20 [.ref a0] h (.inl (g_wU r)) h' := by
  refine g_head hfl ((f_X11_init a0).2 h r h' hf) (plainFor_of_name (by decide)) (Nat.le_of_ble_eq_true rfl) (fun p e s m below meth c H locs cells slots ls X hI hl9 => ?_)
  have hl : lv_has ls 1 [(0, .ref a0)] := hl9
  have hx := X.1
  have hb := X.2.1
  have hown := X.2.2.2.1
  have hts := X.2.2.2.2.1
  unfold f_X11_init at hf
  refine lv_aload_n hx hb dX11_init_0 rfl (lv_at hl 0 rfl) ?_
  refine g_oinit X q1008 hl.1 (Nat.le_of_ble_eq_true rfl) (Nat.le_of_ble_eq_true rfl) (Nat.le_of_ble_eq_true rfl) dX11_init_1 ?_
  refine lv_aload_n hx hb dX11_init_4 rfl (lv_at hl 0 rfl) ?_
  refine lv_bipush (v := (6 : Int32)) hx hb dX11_init_5 (by decide) ?_
  refine g_newa0 X hI hf ⟨Nat.le_refl _, Nat.le_refl _⟩ dX11_init_7 (fun a1 h H cells slots hf hI => ?_)
  refine g_pqF X hI hf fX11_0 q1009 rfl rfl rfl rfl dX11_init_9 (fun h H locs hf hI => ?_)
  cases gRet_e hf
  exact g_retU X hI rfl dX11_init_12
/-! X2_isFigure -/
abbrev w_X2_isFigure_22 (G : gG) (l : Launch) (p : Program) (e : Env) (s : State) (m : MethodId) (args : Array Value) (below : List Frame) (meth : Method) (c : Code) (h0 : g_H) (r : Int32) (h' : g_H) (k : Int32 → gM Int32) : Prop := ∀ (u0 : Int32) (h : g_H) (H : Heap) (locs : List Loc) (cells slots : Nat) (ls : Array Slot), (k u0).1 h = some (r, h') → gI G h0 h H locs cells slots → lv_has ls 2 [] → W p l e (g_rm 2 40 h0 h') s m args below meth c H locs cells slots (gQ G below args s h0 h' (.inl (g_wI r))) (F0 m 22 ls [.int u0])
abbrev w_X2_isFigure_21 (G : gG) (l : Launch) (p : Program) (e : Env) (s : State) (m : MethodId) (args : Array Value) (below : List Frame) (meth : Method) (c : Code) (h0 : g_H) (r : Int32) (h' : g_H) (k : gM Int32) : Prop := ∀ (h : g_H) (H : Heap) (locs : List Loc) (cells slots : Nat) (ls : Array Slot), (k).1 h = some (r, h') → gI G h0 h H locs cells slots → lv_has ls 2 [] → W p l e (g_rm 2 40 h0 h') s m args below meth c H locs cells slots (gQ G below args s h0 h' (.inl (g_wI r))) (F0 m 21 ls [])
def f_X2_isFigure_22 (u0 : Int32) : gM Int32 :=
    gB (gGd (u0 = 0 ∨ u0 = 1)) fun _ =>
    (gRet u0)
set_option maxHeartbeats 4000000 in
set_option maxRecDepth 100000 in
theorem b_X2_isFigure_22 {G : gG} {l : Launch} {p : Program} {e : Env} {s : State} {m : MethodId} {args : Array Value} {below : List Frame} {meth : Method} {c : Code} {h0 : g_H} {r : Int32} {h' : g_H} (X : gX G l yX2_isFigure.cls cX2_isFigure 2 (some .boolean) [] yX2_isFigure.name p s m args meth c) : w_X2_isFigure_22 G l p e s m args below meth c h0 r h' (f_X2_isFigure_22) := by
  have hx := X.1
  have hb := X.2.1
  have hown := X.2.2.2.1
  have hts := X.2.2.2.2.1
  intro u0 h H locs cells slots ls hf hI hl
  unfold f_X2_isFigure_22 at hf
  obtain ⟨hz, hf⟩ := gB_gd hf
  cases gRet_e hf
  exact g_retZ X hI hz rfl dX2_isFigure_22
def f_X2_isFigure_21 : gM Int32 :=
    f_X2_isFigure_22 (0 : Int32)
set_option maxHeartbeats 4000000 in
set_option maxRecDepth 100000 in
theorem b_X2_isFigure_21 {G : gG} {l : Launch} {p : Program} {e : Env} {s : State} {m : MethodId} {args : Array Value} {below : List Frame} {meth : Method} {c : Code} {h0 : g_H} {r : Int32} {h' : g_H} (X : gX G l yX2_isFigure.cls cX2_isFigure 2 (some .boolean) [] yX2_isFigure.name p s m args meth c) : w_X2_isFigure_21 G l p e s m args below meth c h0 r h' (f_X2_isFigure_21) := by
  have hx := X.1
  have hb := X.2.1
  have hown := X.2.2.2.1
  have hts := X.2.2.2.2.1
  intro h H locs cells slots ls hf hI hl
  unfold f_X2_isFigure_21 at hf
  refine lv_iconst (v := (0 : Int32)) hx hb dX2_isFigure_21 (by decide) ?_
  exact b_X2_isFigure_22 X _ _ _ _ _ _ _ hf hI (lv_sub hl [] rfl)
def f_X2_isFigure (a0 : Nat) : gM Int32 :=
    gB (gCk a0 1) fun _ =>
    gB (f_X2_sign a0) fun r1 =>
    gIf (r1 < (48 : Int32))
    (f_X2_isFigure_21)
    (gIf ((57 : Int32) < r1)
    (f_X2_isFigure_21)
    (f_X2_isFigure_22 (1 : Int32)))
set_option maxHeartbeats 4000000 in
set_option maxRecDepth 100000 in
theorem m_X2_isFigure {G : gG} {l : Launch} (hfl : l.stackTraces = false) {a0 : Nat} {h h' : g_H} {r : Int32} (hf : (f_X2_isFigure a0).1 h = some (r, h')) : gMet G l yX2_isFigure (Cond.code yX2_isFigure cX2_isFigure 2 (some .boolean)) 2 40 [.ref a0] h (.inl (g_wI r)) h' := by
  refine g_head hfl ((f_X2_isFigure a0).2 h r h' hf) (plainFor_of_name (by decide)) (Nat.le_of_ble_eq_true rfl) (fun p e s m below meth c H locs cells slots ls X hI hl9 => ?_)
  have hl : lv_has ls 2 [(0, .ref a0)] := hl9
  have hx := X.1
  have hb := X.2.1
  have hown := X.2.2.2.1
  have hts := X.2.2.2.2.1
  unfold f_X2_isFigure at hf
  refine lv_aload_n hx hb dX2_isFigure_0 rfl (lv_at hl 0 rfl) ?_
  obtain ⟨hs, hf⟩ := gCk_b hf
  refine g_cBI hI hf (fun v9 h9 e9 l9 l9' => g_rV X hI l9 l9' ⟨Nat.le_refl _, Nat.le_refl _⟩ (As := []) (m_X2_sign X.2.2.2.2.2.2.2.2.2.2.1 e9) ydX2_sign hs rfl rfl q809 q811 qs18 q122 q812 rfl (Nat.le_of_ble_eq_true rfl) (Nat.le_of_ble_eq_true rfl) hl.1 rfl (Nat.le_of_ble_eq_true rfl) dX2_isFigure_1) (fun r1 h H locs cells slots hf hI => ?_)
  refine lv_istore_n (lv' := [(1, .int r1), (0, .ref a0)]) hx hb dX2_isFigure_4 rfl hl (by decide) rfl (fun ls hl => ?_)
  refine lv_iload_n hx hb dX2_isFigure_5 rfl (lv_at hl 0 rfl) ?_
  refine lv_bipush (v := (48 : Int32)) hx hb dX2_isFigure_6 (by decide) ?_
  refine lv_icmp_lt (tgt := 21) hx hb dX2_isFigure_8 (by decide) (fun c8 => ?_) (fun c8 => ?_)
  · have hf := g_t c8 hf
    exact b_X2_isFigure_21 X _ _ _ _ _ _ hf hI (lv_sub hl [] rfl)
  · have hf := g_f c8 hf
    refine lv_iload_n hx hb dX2_isFigure_11 rfl (lv_at hl 0 rfl) ?_
    refine lv_bipush (v := (57 : Int32)) hx hb dX2_isFigure_12 (by decide) ?_
    refine lv_icmp_gt (tgt := 21) hx hb dX2_isFigure_14 (by decide) (fun c14 => ?_) (fun c14 => ?_)
    · have hf := g_t c14 hf
      exact b_X2_isFigure_21 X _ _ _ _ _ _ hf hI (lv_sub hl [] rfl)
    · have hf := g_f c14 hf
      refine lv_iconst (v := (1 : Int32)) hx hb dX2_isFigure_17 (by decide) ?_
      refine lv_goto (tgt := 22) hx hb dX2_isFigure_18 (by decide) ?_
      exact b_X2_isFigure_22 X _ _ _ _ _ _ _ hf hI (lv_sub hl [] rfl)
/-! X2_part -/
abbrev w_X2_part_49 (G : gG) (l : Launch) (p : Program) (e : Env) (s : State) (m : MethodId) (args : Array Value) (below : List Frame) (meth : Method) (c : Code) (h0 : g_H) (r : (Unit ⊕ gE)) (h' : g_H) (k : Nat → Int32 → gM (Unit ⊕ gE)) : Prop := ∀ (a1 : Nat) (x2 : Int32) (h : g_H) (H : Heap) (locs : List Loc) (cells slots : Nat) (ls : Array Slot), (k a1 x2).1 h = some (r, h') → gI G h0 h H locs cells slots → lv_has ls 3 [(1, .ref a1), (2, .int x2)] → W p l e (g_rm 6 130 h0 h') s m args below meth c H locs cells slots (gQ G below args s h0 h' (g_w g_wU r)) (F0 m 49 ls [])
abbrev w_X2_part_66 (G : gG) (l : Launch) (p : Program) (e : Env) (s : State) (m : MethodId) (args : Array Value) (below : List Frame) (meth : Method) (c : Code) (h0 : g_H) (r : (Unit ⊕ gE)) (h' : g_H) (k : Nat → gM (Unit ⊕ gE)) : Prop := ∀ (a0 : Nat) (h : g_H) (H : Heap) (locs : List Loc) (cells slots : Nat) (ls : Array Slot), (k a0).1 h = some (r, h') → gI G h0 h H locs cells slots → lv_has ls 3 [(0, .ref a0)] → W p l e (g_rm 6 130 h0 h') s m args below meth c H locs cells slots (gQ G below args s h0 h' (g_w g_wU r)) (F0 m 66 ls [])
abbrev w_X2_part_27 (G : gG) (l : Launch) (p : Program) (e : Env) (s : State) (m : MethodId) (args : Array Value) (below : List Frame) (meth : Method) (c : Code) (h0 : g_H) (r : (Unit ⊕ gE)) (h' : g_H) (k : Nat → Nat → Int32 → gM (Unit ⊕ gE)) : Prop := ∀ (a0 : Nat) (a1 : Nat) (x2 : Int32) (h : g_H) (H : Heap) (locs : List Loc) (cells slots : Nat) (ls : Array Slot), (k a0 a1 x2).1 h = some (r, h') → gI G h0 h H locs cells slots → lv_has ls 3 [(0, .ref a0), (1, .ref a1), (2, .int x2)] → W p l e (g_rm 6 130 h0 h') s m args below meth c H locs cells slots (gQ G below args s h0 h' (g_w g_wU r)) (F0 m 27 ls [])
def f_X2_part_49 (a1 : Nat) (x2 : Int32) : gM (Unit ⊕ gE) :=
    gB (gFR a1 10 0) fun v101 =>
    gB (gAI v101 0 x2) fun v102 =>
    gB (gSI v101 0 x2 (v102 + (1 : Int32))) fun _ =>
    gRet (.inl ())
set_option maxHeartbeats 4000000 in
set_option maxRecDepth 100000 in
theorem b_X2_part_49 {G : gG} {l : Launch} {p : Program} {e : Env} {s : State} {m : MethodId} {args : Array Value} {below : List Frame} {meth : Method} {c : Code} {h0 : g_H} {r : (Unit ⊕ gE)} {h' : g_H} (X : gX G l yX2_part.cls cX2_part 3 none [] yX2_part.name p s m args meth c) : w_X2_part_49 G l p e s m args below meth c h0 r h' (f_X2_part_49) := by
  have hx := X.1
  have hb := X.2.1
  have hown := X.2.2.2.1
  have hts := X.2.2.2.2.1
  intro a1 x2 h H locs cells slots ls hf hI hl
  unfold f_X2_part_49 at hf
  refine lv_aload_n hx hb dX2_part_49 rfl (lv_at hl 0 rfl) ?_
  refine g_frN X hI hf fX11_0 q1010 rfl rfl dX2_part_50 (fun v101 hf => ?_)
  refine lv_iload_n hx hb dX2_part_53 rfl (lv_at hl 1 rfl) ?_
  refine lv_dup2_11 hx hb dX2_part_54 rfl rfl ?_
  refine g_ai0 X hI hf dX2_part_55 (fun v102 hf => ?_)
  refine lv_iconst (v := (1 : Int32)) hx hb dX2_part_56 (by decide) ?_
  refine lv_iadd hx hb dX2_part_57 ?_
  refine g_si0 X hI hf dX2_part_58 (fun h H locs hf hI => ?_)
  cases gRet_e hf
  exact g_retU X hI rfl dX2_part_59
def f_X2_part_66 (a0 : Nat) : gM (Unit ⊕ gE) :=
    gB (gFI a0 1 8) fun v101 =>
    gB (gCk a0 1) fun _ =>
    gT (f_X2_fail a0 v101) fun _ =>
    gRet (.inl ())
set_option maxHeartbeats 4000000 in
set_option maxRecDepth 100000 in
theorem b_X2_part_66 {G : gG} {l : Launch} {p : Program} {e : Env} {s : State} {m : MethodId} {args : Array Value} {below : List Frame} {meth : Method} {c : Code} {h0 : g_H} {r : (Unit ⊕ gE)} {h' : g_H} (X : gX G l yX2_part.cls cX2_part 3 none [] yX2_part.name p s m args meth c) : w_X2_part_66 G l p e s m args below meth c h0 r h' (f_X2_part_66) := by
  have hx := X.1
  have hb := X.2.1
  have hown := X.2.2.2.1
  have hts := X.2.2.2.2.1
  intro a0 h H locs cells slots ls hf hI hl
  unfold f_X2_part_66 at hf
  refine lv_aload_n hx hb dX2_part_66 rfl (lv_at hl 0 rfl) ?_
  refine lv_aload_n hx hb dX2_part_67 rfl (lv_at hl 0 rfl) ?_
  refine g_fi X hI hf fX2_8 q405 rfl rfl dX2_part_68 (fun v101 hf => ?_)
  obtain ⟨hs, hf⟩ := gCk_b hf
  refine g_cTU X hI (by decide) hf (fun v9 h9 e9 l9 l9' => g_rV X hI l9 l9' ⟨Nat.le_refl _, Nat.le_refl _⟩ (As := [.int v101]) (m_X2_fail X.2.2.2.2.2.2.2.2.2.2.1 e9) ydX2_fail hs rfl rfl q813 q815 qs19 q122 q816 rfl (Nat.le_of_ble_eq_true rfl) (Nat.le_of_ble_eq_true rfl) hl.1 rfl (Nat.le_of_ble_eq_true rfl) dX2_part_71) (fun r102 h H locs cells slots hf hI => ?_)
  cases gRet_e hf
  exact g_retU X hI rfl dX2_part_74
def f_X2_part_27 : Nat → Nat → Nat → Int32 → gM (Unit ⊕ gE)
  | 0, _, _, _ => gFail
  | n + 1, a0, a1, x2 =>
    gIf ((6 : Int32) ≤ x2)
    (f_X2_part_66 a0)
    (gB (gFR a0 1 1) fun v101 =>
    gB (gAR v101 8 x2) fun v102 =>
    gB (gCk a0 1) fun _ =>
    gB (f_X2_takes a0 v102) fun r103 =>
    gIf (r103 = 0)
    (f_X2_part_27 n a0 a1 (x2 + (1 : Int32)))
    (f_X2_part_49 a1 x2))
set_option maxHeartbeats 4000000 in
set_option maxRecDepth 100000 in
theorem b_X2_part_27 {G : gG} {l : Launch} {p : Program} {e : Env} {s : State} {m : MethodId} {args : Array Value} {below : List Frame} {meth : Method} {c : Code} {h0 : g_H} {r : (Unit ⊕ gE)} {h' : g_H} (X : gX G l yX2_part.cls cX2_part 3 none [] yX2_part.name p s m args meth c) : ∀ n : Nat, w_X2_part_27 G l p e s m args below meth c h0 r h' (f_X2_part_27 n) := by
  have hx := X.1
  have hb := X.2.1
  have hown := X.2.2.2.1
  have hts := X.2.2.2.2.1
  intro n
  induction n with
  | zero =>
    intro a0 a1 x2 h H locs cells slots ls hf hI hl
    exact (gFail_f hf).elim
  | succ n ih =>
    intro a0 a1 x2 h H locs cells slots ls hf hI hl
    rw [f_X2_part_27] at hf
    refine lv_iload_n hx hb dX2_part_27 rfl (lv_at hl 2 rfl) ?_
    refine lv_bipush (v := (6 : Int32)) hx hb dX2_part_28 (by decide) ?_
    refine lv_icmp_ge (tgt := 66) hx hb dX2_part_30 (by decide) (fun c30 => ?_) (fun c30 => ?_)
    · have hf := g_t c30 hf
      exact b_X2_part_66 X _ _ _ _ _ _ _ hf hI (lv_sub hl [0] rfl)
    · have hf := g_f c30 hf
      refine lv_aload_n hx hb dX2_part_33 rfl (lv_at hl 0 rfl) ?_
      refine lv_aload_n hx hb dX2_part_34 rfl (lv_at hl 0 rfl) ?_
      refine g_fr X hI hf fX2_1 q397 rfl rfl dX2_part_35 (fun v101 hf => ?_)
      refine lv_iload_n hx hb dX2_part_38 rfl (lv_at hl 2 rfl) ?_
      refine g_ar8 X hI hf dX2_part_39 (fun v102 hf => ?_)
      obtain ⟨hs, hf⟩ := gCk_b hf
      refine g_cBI hI hf (fun v9 h9 e9 l9 l9' => g_rV X hI l9 l9' ⟨Nat.le_refl _, Nat.le_refl _⟩ (As := [.ref v102]) (m_X2_takes X.2.2.2.2.2.2.2.2.2.2.1 e9) ydX2_takes hs rfl rfl q821 q823 qs21 q122 q824 rfl (Nat.le_of_ble_eq_true rfl) (Nat.le_of_ble_eq_true rfl) hl.1 rfl (Nat.le_of_ble_eq_true rfl) dX2_part_40) (fun r103 h H locs cells slots hf hI => ?_)
      refine lv_if_ne (tgt := 49) hx hb dX2_part_43 (by decide) (fun c43 => ?_) (fun c43 => ?_)
      · have hf := g_f c43 hf
        exact b_X2_part_49 X _ _ _ _ _ _ _ _ hf hI (lv_sub hl [1, 2] rfl)
      · have hf := g_t c43 hf
        refine lv_goto (tgt := 60) hx hb dX2_part_46 (by decide) ?_
        refine lv_iinc (v := (x2 + (1 : Int32))) (lv' := [(2, .int (x2 + (1 : Int32))), (0, .ref a0), (1, .ref a1)]) hx hb dX2_part_60 hl (k := 2) rfl rfl (by decide) rfl (fun ls hl => ?_)
        refine lv_goto (tgt := 27) hx hb dX2_part_63 (by decide) ?_
        exact ih _ _ _ _ _ _ _ _ _ hf hI (lv_sub hl [1, 2, 0] rfl)
def f_X2_part (a0 : Nat) (a1 : Nat) : gM (Unit ⊕ gE) :=
    gB (gCk a0 1) fun _ =>
    gB (f_X2_isFigure a0) fun r1 =>
    gIf (r1 = 0)
    (f_X2_part_27 gN a0 a1 (0 : Int32))
    (gB (gFI a1 10 1) fun v2 =>
    gB (gCk a0 1) fun _ =>
    gT (f_X2_number a0 (0 : Int32) (999 : Int32)) fun r3 =>
    gB (gPI a1 10 1 (v2 + r3)) fun _ =>
    gRet (.inl ()))
set_option maxHeartbeats 4000000 in
set_option maxRecDepth 100000 in
theorem m_X2_part {G : gG} {l : Launch} (hfl : l.stackTraces = false) {a0 : Nat} {a1 : Nat} {h h' : g_H} {r : (Unit ⊕ gE)} (hf : (f_X2_part a0 a1).1 h = some (r, h')) : gMet G l yX2_part (Cond.code yX2_part cX2_part 3 none) 6 130 [.ref a0, .ref a1] h (g_w g_wU r) h' := by
  refine g_head hfl ((f_X2_part a0 a1).2 h r h' hf) (plainFor_of_name (by decide)) (Nat.le_of_ble_eq_true rfl) (fun p e s m below meth c H locs cells slots ls X hI hl9 => ?_)
  have hl : lv_has ls 3 [(0, .ref a0), (1, .ref a1)] := hl9
  have hx := X.1
  have hb := X.2.1
  have hown := X.2.2.2.1
  have hts := X.2.2.2.2.1
  unfold f_X2_part at hf
  refine lv_aload_n hx hb dX2_part_0 rfl (lv_at hl 0 rfl) ?_
  obtain ⟨hs, hf⟩ := gCk_b hf
  refine g_cBI hI hf (fun v9 h9 e9 l9 l9' => g_rV X hI l9 l9' ⟨Nat.le_refl _, Nat.le_refl _⟩ (As := []) (m_X2_isFigure X.2.2.2.2.2.2.2.2.2.2.1 e9) ydX2_isFigure hs rfl rfl q1022 q1024 qs35 q122 q1025 rfl (Nat.le_of_ble_eq_true rfl) (Nat.le_of_ble_eq_true rfl) hl.1 rfl (Nat.le_of_ble_eq_true rfl) dX2_part_1) (fun r1 h H locs cells slots hf hI => ?_)
  refine lv_if_eq (tgt := 25) hx hb dX2_part_4 (by decide) (fun c4 => ?_) (fun c4 => ?_)
  · have hf := g_t c4 hf
    refine lv_iconst (v := (0 : Int32)) hx hb dX2_part_25 (by decide) ?_
    refine lv_istore_n (lv' := [(2, .int (0 : Int32)), (0, .ref a0), (1, .ref a1)]) hx hb dX2_part_26 rfl hl (by decide) rfl (fun ls hl => ?_)
    exact b_X2_part_27 X gN _ _ _ _ _ _ _ _ _ hf hI (lv_sub hl [1, 2, 0] rfl)
  · have hf := g_f c4 hf
    refine lv_aload_n hx hb dX2_part_7 rfl (lv_at hl 1 rfl) ?_
    refine lv_dup hx hb dX2_part_8 rfl ?_
    refine g_fiN X hI hf fX11_1 q1012 rfl rfl dX2_part_9 (fun v2 hf => ?_)
    refine lv_aload_n hx hb dX2_part_12 rfl (lv_at hl 0 rfl) ?_
    refine lv_iconst (v := (0 : Int32)) hx hb dX2_part_13 (by decide) ?_
    refine lv_sipush (v := (999 : Int32)) hx hb dX2_part_14 (by decide) ?_
    obtain ⟨hs, hf⟩ := gCk_b hf
    refine g_cTI X hI (by decide) hf (fun v9 h9 e9 l9 l9' => g_rV X hI l9 l9' ⟨Nat.le_refl _, Nat.le_refl _⟩ (As := [.int (0 : Int32), .int (999 : Int32)]) (m_X2_number X.2.2.2.2.2.2.2.2.2.2.1 e9) ydX2_number hs rfl rfl q898 q900 qs27 q122 q901 rfl (Nat.le_of_ble_eq_true rfl) (Nat.le_of_ble_eq_true rfl) hl.1 rfl (Nat.le_of_ble_eq_true rfl) dX2_part_17) (fun r3 h H locs cells slots hf hI => ?_)
    refine lv_iadd hx hb dX2_part_20 ?_
    refine g_piN X hI hf fX11_1 q1012 rfl dX2_part_21 (fun h H locs hf hI => ?_)
    cases gRet_e hf
    exact g_retU X hI rfl dX2_part_24
/-! X2_sum -/
abbrev w_X2_sum_40 (G : gG) (l : Launch) (p : Program) (e : Env) (s : State) (m : MethodId) (args : Array Value) (below : List Frame) (meth : Method) (c : Code) (h0 : g_H) (r : (Nat ⊕ gE)) (h' : g_H) (k : Nat → gM (Nat ⊕ gE)) : Prop := ∀ (a1 : Nat) (h : g_H) (H : Heap) (locs : List Loc) (cells slots : Nat) (ls : Array Slot), (k a1).1 h = some (r, h') → gI G h0 h H locs cells slots → lv_has ls 2 [(1, .ref a1)] → W p l e (g_rm 7 152 h0 h') s m args below meth c H locs cells slots (gQ G below args s h0 h' (g_w g_wR r)) (F0 m 40 ls [])
abbrev w_X2_sum_13 (G : gG) (l : Launch) (p : Program) (e : Env) (s : State) (m : MethodId) (args : Array Value) (below : List Frame) (meth : Method) (c : Code) (h0 : g_H) (r : (Nat ⊕ gE)) (h' : g_H) (k : Nat → Nat → gM (Nat ⊕ gE)) : Prop := ∀ (a0 : Nat) (a1 : Nat) (h : g_H) (H : Heap) (locs : List Loc) (cells slots : Nat) (ls : Array Slot), (k a0 a1).1 h = some (r, h') → gI G h0 h H locs cells slots → lv_has ls 2 [(0, .ref a0), (1, .ref a1)] → W p l e (g_rm 7 152 h0 h') s m args below meth c H locs cells slots (gQ G below args s h0 h' (g_w g_wR r)) (F0 m 13 ls [])
def f_X2_sum_40 (a1 : Nat) : gM (Nat ⊕ gE) :=
    gRet (.inl a1)
set_option maxHeartbeats 4000000 in
set_option maxRecDepth 100000 in
theorem b_X2_sum_40 {G : gG} {l : Launch} {p : Program} {e : Env} {s : State} {m : MethodId} {args : Array Value} {below : List Frame} {meth : Method} {c : Code} {h0 : g_H} {r : (Nat ⊕ gE)} {h' : g_H} (X : gX G l yX2_sum.cls cX2_sum 2 (some (.object "GhostAssize$Sum")) [] yX2_sum.name p s m args meth c) : w_X2_sum_40 G l p e s m args below meth c h0 r h' (f_X2_sum_40) := by
  have hx := X.1
  have hb := X.2.1
  have hown := X.2.2.2.1
  have hts := X.2.2.2.2.1
  intro a1 h H locs cells slots ls hf hI hl
  unfold f_X2_sum_40 at hf
  refine lv_aload_n hx hb dX2_sum_40 rfl (lv_at hl 0 rfl) ?_
  cases gRet_e hf
  exact g_retR X hI (Or.inl ⟨_, rfl⟩) rfl dX2_sum_41
def f_X2_sum_13 : Nat → Nat → Nat → gM (Nat ⊕ gE)
  | 0, _, _ => gFail
  | n + 1, a0, a1 =>
    gB (gCk a0 1) fun _ =>
    gB (f_X2_sign a0) fun r101 =>
    gIf (r101 = (43 : Int32))
    (gB (gFI a0 1 8) fun v102 =>
    gB (gPI a0 1 8 (v102 + (1 : Int32))) fun _ =>
    gB (gCk a0 1) fun _ =>
    gT (f_X2_part a0 a1) fun _ =>
    f_X2_sum_13 n a0 a1)
    (f_X2_sum_40 a1)
set_option maxHeartbeats 4000000 in
set_option maxRecDepth 100000 in
theorem b_X2_sum_13 {G : gG} {l : Launch} {p : Program} {e : Env} {s : State} {m : MethodId} {args : Array Value} {below : List Frame} {meth : Method} {c : Code} {h0 : g_H} {r : (Nat ⊕ gE)} {h' : g_H} (X : gX G l yX2_sum.cls cX2_sum 2 (some (.object "GhostAssize$Sum")) [] yX2_sum.name p s m args meth c) : ∀ n : Nat, w_X2_sum_13 G l p e s m args below meth c h0 r h' (f_X2_sum_13 n) := by
  have hx := X.1
  have hb := X.2.1
  have hown := X.2.2.2.1
  have hts := X.2.2.2.2.1
  intro n
  induction n with
  | zero =>
    intro a0 a1 h H locs cells slots ls hf hI hl
    exact (gFail_f hf).elim
  | succ n ih =>
    intro a0 a1 h H locs cells slots ls hf hI hl
    rw [f_X2_sum_13] at hf
    refine lv_aload_n hx hb dX2_sum_13 rfl (lv_at hl 0 rfl) ?_
    obtain ⟨hs, hf⟩ := gCk_b hf
    refine g_cBI hI hf (fun v9 h9 e9 l9 l9' => g_rV X hI l9 l9' ⟨Nat.le_refl _, Nat.le_refl _⟩ (As := []) (m_X2_sign X.2.2.2.2.2.2.2.2.2.2.1 e9) ydX2_sign hs rfl rfl q809 q811 qs18 q122 q812 rfl (Nat.le_of_ble_eq_true rfl) (Nat.le_of_ble_eq_true rfl) hl.1 rfl (Nat.le_of_ble_eq_true rfl) dX2_sum_14) (fun r101 h H locs cells slots hf hI => ?_)
    refine lv_bipush (v := (43 : Int32)) hx hb dX2_sum_17 (by decide) ?_
    refine lv_icmp_ne (tgt := 40) hx hb dX2_sum_19 (by decide) (fun c19 => ?_) (fun c19 => ?_)
    · have hf := g_f c19 hf
      exact b_X2_sum_40 X _ _ _ _ _ _ _ hf hI (lv_sub hl [1] rfl)
    · have hf := g_t c19 hf
      refine lv_aload_n hx hb dX2_sum_22 rfl (lv_at hl 0 rfl) ?_
      refine lv_dup hx hb dX2_sum_23 rfl ?_
      refine g_fi X hI hf fX2_8 q405 rfl rfl dX2_sum_24 (fun v102 hf => ?_)
      refine lv_iconst (v := (1 : Int32)) hx hb dX2_sum_27 (by decide) ?_
      refine lv_iadd hx hb dX2_sum_28 ?_
      refine g_pi X hI hf fX2_8 q405 rfl dX2_sum_29 (fun h H locs hf hI => ?_)
      refine lv_aload_n hx hb dX2_sum_32 rfl (lv_at hl 0 rfl) ?_
      refine lv_aload_n hx hb dX2_sum_33 rfl (lv_at hl 1 rfl) ?_
      obtain ⟨hs, hf⟩ := gCk_b hf
      refine g_cTU X hI (by decide) hf (fun v9 h9 e9 l9 l9' => g_rV X hI l9 l9' ⟨Nat.le_refl _, Nat.le_refl _⟩ (As := [.ref a1]) (m_X2_part X.2.2.2.2.2.2.2.2.2.2.1 e9) ydX2_part hs rfl rfl q1018 q1020 qs34 q122 q1021 rfl (Nat.le_of_ble_eq_true rfl) (Nat.le_of_ble_eq_true rfl) hl.1 rfl (Nat.le_of_ble_eq_true rfl) dX2_sum_34) (fun r103 h H locs cells slots hf hI => ?_)
      refine lv_goto (tgt := 13) hx hb dX2_sum_37 (by decide) ?_
      exact ih _ _ _ _ _ _ _ _ hf hI (lv_sub hl [0, 1] rfl)
def f_X2_sum (a0 : Nat) : gM (Nat ⊕ gE) :=
    gB (gNew 10 2) fun a1 =>
    gB (f_X11_init a1) fun _ =>
    gB (gCk a0 1) fun _ =>
    gT (f_X2_part a0 a1) fun _ =>
    f_X2_sum_13 gN a0 a1
set_option maxHeartbeats 4000000 in
set_option maxRecDepth 100000 in
theorem m_X2_sum {G : gG} {l : Launch} (hfl : l.stackTraces = false) {a0 : Nat} {h h' : g_H} {r : (Nat ⊕ gE)} (hf : (f_X2_sum a0).1 h = some (r, h')) : gMet G l yX2_sum (Cond.code yX2_sum cX2_sum 2 (some (.object "GhostAssize$Sum"))) 7 152 [.ref a0] h (g_w g_wR r) h' := by
  refine g_head hfl ((f_X2_sum a0).2 h r h' hf) (plainFor_of_name (by decide)) (Nat.le_of_ble_eq_true rfl) (fun p e s m below meth c H locs cells slots ls X hI hl9 => ?_)
  have hl : lv_has ls 2 [(0, .ref a0)] := hl9
  have hx := X.1
  have hb := X.2.1
  have hown := X.2.2.2.1
  have hts := X.2.2.2.2.1
  unfold f_X2_sum at hf
  refine g_new X hI hf ⟨Nat.le_refl _, Nat.le_refl _⟩ cX11 q1003 dX2_sum_0 (fun a1 h H cells slots hf hI => ?_)
  refine lv_dup hx hb dX2_sum_3 rfl ?_
  refine g_cBU hI hf (fun v9 h9 e9 l9 l9' => g_rIN X hI l9 l9' ⟨Nat.le_refl _, Nat.le_refl _⟩ (As := []) (m_X11_init X.2.2.2.2.2.2.2.2.2.2.1 e9) ydX11_init rfl rfl q1005 q1006 q142 q1007 rfl (Nat.le_of_ble_eq_true rfl) (Nat.le_of_ble_eq_true rfl) hl.1 rfl (Nat.le_of_ble_eq_true rfl) dX2_sum_4) (fun r2 h H locs cells slots hf hI => ?_)
  refine lv_astore_n (lv' := [(1, .ref a1), (0, .ref a0)]) hx hb dX2_sum_7 rfl hl (by decide) rfl (fun ls hl => ?_)
  refine lv_aload_n hx hb dX2_sum_8 rfl (lv_at hl 1 rfl) ?_
  refine lv_aload_n hx hb dX2_sum_9 rfl (lv_at hl 0 rfl) ?_
  obtain ⟨hs, hf⟩ := gCk_b hf
  refine g_cTU X hI (by decide) hf (fun v9 h9 e9 l9 l9' => g_rV X hI l9 l9' ⟨Nat.le_refl _, Nat.le_refl _⟩ (As := [.ref a1]) (m_X2_part X.2.2.2.2.2.2.2.2.2.2.1 e9) ydX2_part hs rfl rfl q1018 q1020 qs34 q122 q1021 rfl (Nat.le_of_ble_eq_true rfl) (Nat.le_of_ble_eq_true rfl) hl.1 rfl (Nat.le_of_ble_eq_true rfl) dX2_sum_10) (fun r3 h H locs cells slots hf hI => ?_)
  exact b_X2_sum_13 X gN _ _ _ _ _ _ _ _ hf hI (lv_sub hl [1, 0] rfl)
/-! X12_init -/
def f_X12_init (a0 : Nat) (a1 : Nat) (a2 : Nat) : gM Unit :=
    gB (gPQ a0 11 0 (some a1)) fun _ =>
    gB (gPQ a0 11 1 (some a2)) fun _ =>
    gRet ()
set_option maxHeartbeats 4000000 in
set_option maxRecDepth 100000 in
theorem m_X12_init {G : gG} {l : Launch} (hfl : l.stackTraces = false) {a0 : Nat} {a1 : Nat} {a2 : Nat} {h h' : g_H} {r : Unit} (hf : (f_X12_init a0 a1 a2).1 h = some (r, h')) : gMet G l yX12_init (Cond.code yX12_init cX12_init 3 none) 1 20 [.ref a0, .ref a1, .ref a2] h (.inl (g_wU r)) h' := by
  refine g_head hfl ((f_X12_init a0 a1 a2).2 h r h' hf) (plainFor_of_name (by decide)) (Nat.le_of_ble_eq_true rfl) (fun p e s m below meth c H locs cells slots ls X hI hl9 => ?_)
  have hl : lv_has ls 3 [(0, .ref a0), (1, .ref a1), (2, .ref a2)] := hl9
  have hx := X.1
  have hb := X.2.1
  have hown := X.2.2.2.1
  have hts := X.2.2.2.2.1
  unfold f_X12_init at hf
  refine lv_aload_n hx hb dX12_init_0 rfl (lv_at hl 0 rfl) ?_
  refine g_oinit X q1031 hl.1 (Nat.le_of_ble_eq_true rfl) (Nat.le_of_ble_eq_true rfl) (Nat.le_of_ble_eq_true rfl) dX12_init_1 ?_
  refine lv_aload_n hx hb dX12_init_4 rfl (lv_at hl 0 rfl) ?_
  refine lv_aload_n hx hb dX12_init_5 rfl (lv_at hl 1 rfl) ?_
  refine g_pqF X hI hf fX12_0 q1032 rfl rfl rfl rfl dX12_init_6 (fun h H locs hf hI => ?_)
  refine lv_aload_n hx hb dX12_init_9 rfl (lv_at hl 0 rfl) ?_
  refine lv_aload_n hx hb dX12_init_10 rfl (lv_at hl 2 rfl) ?_
  refine g_pqF X hI hf fX12_1 q1033 rfl rfl rfl rfl dX12_init_11 (fun h H locs hf hI => ?_)
  cases gRet_e hf
  exact g_retU X hI rfl dX12_init_14
/-! X2_tag -/
abbrev w_X2_tag_24 (G : gG) (l : Launch) (p : Program) (e : Env) (s : State) (m : MethodId) (args : Array Value) (below : List Frame) (meth : Method) (c : Code) (h0 : g_H) (r : (Nat ⊕ gE)) (h' : g_H) (k : Int32 → gM (Nat ⊕ gE)) : Prop := ∀ (x1 : Int32) (h : g_H) (H : Heap) (locs : List Loc) (cells slots : Nat) (ls : Array Slot), (k x1).1 h = some (r, h') → gI G h0 h H locs cells slots → lv_has ls 4 [(1, .int x1)] → W p l e (g_rm 8 173 h0 h') s m args below meth c H locs cells slots (gQ G below args s h0 h' (g_w g_wR r)) (F0 m 24 ls [])
abbrev w_X2_tag_114 (G : gG) (l : Launch) (p : Program) (e : Env) (s : State) (m : MethodId) (args : Array Value) (below : List Frame) (meth : Method) (c : Code) (h0 : g_H) (r : (Nat ⊕ gE)) (h' : g_H) (k : Nat → gM (Nat ⊕ gE)) : Prop := ∀ (b0 : Nat) (h : g_H) (H : Heap) (locs : List Loc) (cells slots : Nat) (ls : Array Slot), (k b0).1 h = some (r, h') → gI G h0 h H locs cells slots → lv_has ls 4 [] → W p l e (g_rm 8 173 h0 h') s m args below meth c H locs cells slots (gQ G below args s h0 h' (g_w g_wR r)) (F0 m 114 ls [.ref b0])
abbrev w_X2_tag_72 (G : gG) (l : Launch) (p : Program) (e : Env) (s : State) (m : MethodId) (args : Array Value) (below : List Frame) (meth : Method) (c : Code) (h0 : g_H) (r : (Nat ⊕ gE)) (h' : g_H) (k : Nat → Nat → Int32 → gM (Nat ⊕ gE)) : Prop := ∀ (a0 : Nat) (a1 : Nat) (x2 : Int32) (h : g_H) (H : Heap) (locs : List Loc) (cells slots : Nat) (ls : Array Slot), (k a0 a1 x2).1 h = some (r, h') → gI G h0 h H locs cells slots → lv_has ls 4 [(0, .ref a0), (1, .ref a1), (2, .int x2)] → W p l e (g_rm 8 173 h0 h') s m args below meth c H locs cells slots (gQ G below args s h0 h' (g_w g_wR r)) (F0 m 72 ls [])
abbrev w_X2_tag_42 (G : gG) (l : Launch) (p : Program) (e : Env) (s : State) (m : MethodId) (args : Array Value) (below : List Frame) (meth : Method) (c : Code) (h0 : g_H) (r : (Nat ⊕ gE)) (h' : g_H) (k : Nat → gM (Nat ⊕ gE)) : Prop := ∀ (a0 : Nat) (h : g_H) (H : Heap) (locs : List Loc) (cells slots : Nat) (ls : Array Slot), (k a0).1 h = some (r, h') → gI G h0 h H locs cells slots → lv_has ls 4 [(0, .ref a0)] → W p l e (g_rm 8 173 h0 h') s m args below meth c H locs cells slots (gQ G below args s h0 h' (g_w g_wR r)) (F0 m 42 ls [])
abbrev w_X2_tag_2 (G : gG) (l : Launch) (p : Program) (e : Env) (s : State) (m : MethodId) (args : Array Value) (below : List Frame) (meth : Method) (c : Code) (h0 : g_H) (r : (Nat ⊕ gE)) (h' : g_H) (k : Nat → Int32 → gM (Nat ⊕ gE)) : Prop := ∀ (a0 : Nat) (x1 : Int32) (h : g_H) (H : Heap) (locs : List Loc) (cells slots : Nat) (ls : Array Slot), (k a0 x1).1 h = some (r, h') → gI G h0 h H locs cells slots → lv_has ls 4 [(0, .ref a0), (1, .int x1)] → W p l e (g_rm 8 173 h0 h') s m args below meth c H locs cells slots (gQ G below args s h0 h' (g_w g_wR r)) (F0 m 2 ls [])
def f_X2_tag_24 (x1 : Int32) : gM (Nat ⊕ gE) :=
    gB (gNew 9 1) fun a101 =>
    gB (f_X10_init a101 ((6 : Int32) + x1)) fun _ =>
    gRet (.inl a101)
set_option maxHeartbeats 4000000 in
set_option maxRecDepth 100000 in
theorem b_X2_tag_24 {G : gG} {l : Launch} {p : Program} {e : Env} {s : State} {m : MethodId} {args : Array Value} {below : List Frame} {meth : Method} {c : Code} {h0 : g_H} {r : (Nat ⊕ gE)} {h' : g_H} (X : gX G l yX2_tag.cls cX2_tag 4 (some (.object "GhostAssize$Cond")) [] yX2_tag.name p s m args meth c) : w_X2_tag_24 G l p e s m args below meth c h0 r h' (f_X2_tag_24) := by
  have hx := X.1
  have hb := X.2.1
  have hown := X.2.2.2.1
  have hts := X.2.2.2.2.1
  intro x1 h H locs cells slots ls hf hI hl
  unfold f_X2_tag_24 at hf
  refine g_new X hI hf ⟨Nat.le_refl _, Nat.le_refl _⟩ cX10 q989 dX2_tag_24 (fun a101 h H cells slots hf hI => ?_)
  refine lv_dup hx hb dX2_tag_27 rfl ?_
  refine lv_bipush (v := (6 : Int32)) hx hb dX2_tag_28 (by decide) ?_
  refine lv_iload_n hx hb dX2_tag_30 rfl (lv_at hl 0 rfl) ?_
  refine lv_iadd hx hb dX2_tag_31 ?_
  refine g_cBU hI hf (fun v9 h9 e9 l9 l9' => g_rI X hI l9 l9' ⟨Nat.le_refl _, Nat.le_refl _⟩ (As := [.int ((6 : Int32) + x1)]) (m_X10_init X.2.2.2.2.2.2.2.2.2.2.1 e9) ydX10_init rfl rfl q991 q992 q141 q993 rfl (Nat.le_of_ble_eq_true rfl) (Nat.le_of_ble_eq_true rfl) hl.1 rfl (Nat.le_of_ble_eq_true rfl) dX2_tag_32) (fun r102 h H locs cells slots hf hI => ?_)
  cases gRet_e hf
  exact g_retR X hI (Or.inl ⟨_, rfl⟩) rfl dX2_tag_35
def f_X2_tag_114 (b0 : Nat) : gM (Nat ⊕ gE) :=
    gRet (.inl b0)
set_option maxHeartbeats 4000000 in
set_option maxRecDepth 100000 in
theorem b_X2_tag_114 {G : gG} {l : Launch} {p : Program} {e : Env} {s : State} {m : MethodId} {args : Array Value} {below : List Frame} {meth : Method} {c : Code} {h0 : g_H} {r : (Nat ⊕ gE)} {h' : g_H} (X : gX G l yX2_tag.cls cX2_tag 4 (some (.object "GhostAssize$Cond")) [] yX2_tag.name p s m args meth c) : w_X2_tag_114 G l p e s m args below meth c h0 r h' (f_X2_tag_114) := by
  have hx := X.1
  have hb := X.2.1
  have hown := X.2.2.2.1
  have hts := X.2.2.2.2.1
  intro b0 h H locs cells slots ls hf hI hl
  unfold f_X2_tag_114 at hf
  cases gRet_e hf
  exact g_retR X hI (Or.inl ⟨_, rfl⟩) rfl dX2_tag_114
def f_X2_tag_72 (a0 : Nat) (a1 : Nat) (x2 : Int32) : gM (Nat ⊕ gE) :=
    gB (gFI a0 1 8) fun v101 =>
    gB (gPI a0 1 8 (v101 + (1 : Int32))) fun _ =>
    gB (gCk a0 1) fun _ =>
    gT (f_X2_sum a0) fun r102 =>
    gIf (x2 = (60 : Int32))
    (gB (gNew 11 2) fun a105 =>
    gB (f_X12_init a105 a1 r102) fun _ =>
    f_X2_tag_114 a105)
    (gB (gNew 11 2) fun a103 =>
    gB (f_X12_init a103 r102 a1) fun _ =>
    f_X2_tag_114 a103)
set_option maxHeartbeats 4000000 in
set_option maxRecDepth 100000 in
theorem b_X2_tag_72 {G : gG} {l : Launch} {p : Program} {e : Env} {s : State} {m : MethodId} {args : Array Value} {below : List Frame} {meth : Method} {c : Code} {h0 : g_H} {r : (Nat ⊕ gE)} {h' : g_H} (X : gX G l yX2_tag.cls cX2_tag 4 (some (.object "GhostAssize$Cond")) [] yX2_tag.name p s m args meth c) : w_X2_tag_72 G l p e s m args below meth c h0 r h' (f_X2_tag_72) := by
  have hx := X.1
  have hb := X.2.1
  have hown := X.2.2.2.1
  have hts := X.2.2.2.2.1
  intro a0 a1 x2 h H locs cells slots ls hf hI hl
  unfold f_X2_tag_72 at hf
  refine lv_aload_n hx hb dX2_tag_72 rfl (lv_at hl 0 rfl) ?_
  refine lv_dup hx hb dX2_tag_73 rfl ?_
  refine g_fi X hI hf fX2_8 q405 rfl rfl dX2_tag_74 (fun v101 hf => ?_)
  refine lv_iconst (v := (1 : Int32)) hx hb dX2_tag_77 (by decide) ?_
  refine lv_iadd hx hb dX2_tag_78 ?_
  refine g_pi X hI hf fX2_8 q405 rfl dX2_tag_79 (fun h H locs hf hI => ?_)
  refine lv_aload_n hx hb dX2_tag_82 rfl (lv_at hl 0 rfl) ?_
  obtain ⟨hs, hf⟩ := gCk_b hf
  refine g_cTR X hI (by decide) hf (fun v9 h9 e9 l9 l9' => g_rV X hI l9 l9' ⟨Nat.le_refl _, Nat.le_refl _⟩ (As := []) (m_X2_sum X.2.2.2.2.2.2.2.2.2.2.1 e9) ydX2_sum hs rfl rfl q999 q1001 qs33 q122 q1002 rfl (Nat.le_of_ble_eq_true rfl) (Nat.le_of_ble_eq_true rfl) hl.1 rfl (Nat.le_of_ble_eq_true rfl) dX2_tag_83) (fun r102 h H locs cells slots hf hI => ?_)
  refine lv_astore_n (lv' := [(3, .ref r102), (0, .ref a0), (1, .ref a1), (2, .int x2)]) hx hb dX2_tag_86 rfl hl (by decide) rfl (fun ls hl => ?_)
  refine lv_iload_n hx hb dX2_tag_87 rfl (lv_at hl 3 rfl) ?_
  refine lv_bipush (v := (60 : Int32)) hx hb dX2_tag_88 (by decide) ?_
  refine lv_icmp_ne (tgt := 105) hx hb dX2_tag_90 (by decide) (fun c90 => ?_) (fun c90 => ?_)
  · have hf := g_f c90 hf
    refine g_new X hI hf ⟨Nat.le_refl _, Nat.le_refl _⟩ cX12 q1026 dX2_tag_105 (fun a103 h H cells slots hf hI => ?_)
    refine lv_dup hx hb dX2_tag_108 rfl ?_
    refine lv_aload_n hx hb dX2_tag_109 rfl (lv_at hl 0 rfl) ?_
    refine lv_aload_n hx hb dX2_tag_110 rfl (lv_at hl 2 rfl) ?_
    refine g_cBU hI hf (fun v9 h9 e9 l9 l9' => g_rI X hI l9 l9' ⟨Nat.le_refl _, Nat.le_refl _⟩ (As := [.ref r102, .ref a1]) (m_X12_init X.2.2.2.2.2.2.2.2.2.2.1 e9) ydX12_init rfl rfl q1028 q1029 q143 q1030 rfl (Nat.le_of_ble_eq_true rfl) (Nat.le_of_ble_eq_true rfl) hl.1 rfl (Nat.le_of_ble_eq_true rfl) dX2_tag_111) (fun r104 h H locs cells slots hf hI => ?_)
    exact b_X2_tag_114 X _ _ _ _ _ _ _ hf hI (lv_sub hl [] rfl)
  · have hf := g_t c90 hf
    refine g_new X hI hf ⟨Nat.le_refl _, Nat.le_refl _⟩ cX12 q1026 dX2_tag_93 (fun a105 h H cells slots hf hI => ?_)
    refine lv_dup hx hb dX2_tag_96 rfl ?_
    refine lv_aload_n hx hb dX2_tag_97 rfl (lv_at hl 2 rfl) ?_
    refine lv_aload_n hx hb dX2_tag_98 rfl (lv_at hl 0 rfl) ?_
    refine g_cBU hI hf (fun v9 h9 e9 l9 l9' => g_rI X hI l9 l9' ⟨Nat.le_refl _, Nat.le_refl _⟩ (As := [.ref a1, .ref r102]) (m_X12_init X.2.2.2.2.2.2.2.2.2.2.1 e9) ydX12_init rfl rfl q1028 q1029 q143 q1030 rfl (Nat.le_of_ble_eq_true rfl) (Nat.le_of_ble_eq_true rfl) hl.1 rfl (Nat.le_of_ble_eq_true rfl) dX2_tag_99) (fun r106 h H locs cells slots hf hI => ?_)
    refine lv_goto (tgt := 114) hx hb dX2_tag_102 (by decide) ?_
    exact b_X2_tag_114 X _ _ _ _ _ _ _ hf hI (lv_sub hl [] rfl)
def f_X2_tag_42 (a0 : Nat) : gM (Nat ⊕ gE) :=
    gB (gCk a0 1) fun _ =>
    gT (f_X2_sum a0) fun r101 =>
    gB (gCk a0 1) fun _ =>
    gB (f_X2_sign a0) fun r102 =>
    gIf (r102 = (60 : Int32))
    (f_X2_tag_72 a0 r101 r102)
    (gIf (r102 = (62 : Int32))
    (f_X2_tag_72 a0 r101 r102)
    (gB (gFI a0 1 8) fun v103 =>
    gB (gCk a0 1) fun _ =>
    gT (f_X2_fail a0 v103) fun _ =>
    f_X2_tag_72 a0 r101 r102))
set_option maxHeartbeats 4000000 in
set_option maxRecDepth 100000 in
theorem b_X2_tag_42 {G : gG} {l : Launch} {p : Program} {e : Env} {s : State} {m : MethodId} {args : Array Value} {below : List Frame} {meth : Method} {c : Code} {h0 : g_H} {r : (Nat ⊕ gE)} {h' : g_H} (X : gX G l yX2_tag.cls cX2_tag 4 (some (.object "GhostAssize$Cond")) [] yX2_tag.name p s m args meth c) : w_X2_tag_42 G l p e s m args below meth c h0 r h' (f_X2_tag_42) := by
  have hx := X.1
  have hb := X.2.1
  have hown := X.2.2.2.1
  have hts := X.2.2.2.2.1
  intro a0 h H locs cells slots ls hf hI hl
  unfold f_X2_tag_42 at hf
  refine lv_aload_n hx hb dX2_tag_42 rfl (lv_at hl 0 rfl) ?_
  obtain ⟨hs, hf⟩ := gCk_b hf
  refine g_cTR X hI (by decide) hf (fun v9 h9 e9 l9 l9' => g_rV X hI l9 l9' ⟨Nat.le_refl _, Nat.le_refl _⟩ (As := []) (m_X2_sum X.2.2.2.2.2.2.2.2.2.2.1 e9) ydX2_sum hs rfl rfl q999 q1001 qs33 q122 q1002 rfl (Nat.le_of_ble_eq_true rfl) (Nat.le_of_ble_eq_true rfl) hl.1 rfl (Nat.le_of_ble_eq_true rfl) dX2_tag_43) (fun r101 h H locs cells slots hf hI => ?_)
  refine lv_astore_n (lv' := [(1, .ref r101), (0, .ref a0)]) hx hb dX2_tag_46 rfl hl (by decide) rfl (fun ls hl => ?_)
  refine lv_aload_n hx hb dX2_tag_47 rfl (lv_at hl 1 rfl) ?_
  obtain ⟨hs, hf⟩ := gCk_b hf
  refine g_cBI hI hf (fun v9 h9 e9 l9 l9' => g_rV X hI l9 l9' ⟨Nat.le_refl _, Nat.le_refl _⟩ (As := []) (m_X2_sign X.2.2.2.2.2.2.2.2.2.2.1 e9) ydX2_sign hs rfl rfl q809 q811 qs18 q122 q812 rfl (Nat.le_of_ble_eq_true rfl) (Nat.le_of_ble_eq_true rfl) hl.1 rfl (Nat.le_of_ble_eq_true rfl) dX2_tag_48) (fun r102 h H locs cells slots hf hI => ?_)
  refine lv_istore_n (lv' := [(2, .int r102), (1, .ref r101), (0, .ref a0)]) hx hb dX2_tag_51 rfl hl (by decide) rfl (fun ls hl => ?_)
  refine lv_iload_n hx hb dX2_tag_52 rfl (lv_at hl 0 rfl) ?_
  refine lv_bipush (v := (60 : Int32)) hx hb dX2_tag_53 (by decide) ?_
  refine lv_icmp_eq (tgt := 72) hx hb dX2_tag_55 (by decide) (fun c55 => ?_) (fun c55 => ?_)
  · have hf := g_t c55 hf
    exact b_X2_tag_72 X _ _ _ _ _ _ _ _ _ hf hI (lv_sub hl [2, 1, 0] rfl)
  · have hf := g_f c55 hf
    refine lv_iload_n hx hb dX2_tag_58 rfl (lv_at hl 0 rfl) ?_
    refine lv_bipush (v := (62 : Int32)) hx hb dX2_tag_59 (by decide) ?_
    refine lv_icmp_eq (tgt := 72) hx hb dX2_tag_61 (by decide) (fun c61 => ?_) (fun c61 => ?_)
    · have hf := g_t c61 hf
      exact b_X2_tag_72 X _ _ _ _ _ _ _ _ _ hf hI (lv_sub hl [2, 1, 0] rfl)
    · have hf := g_f c61 hf
      refine lv_aload_n hx hb dX2_tag_64 rfl (lv_at hl 2 rfl) ?_
      refine lv_aload_n hx hb dX2_tag_65 rfl (lv_at hl 2 rfl) ?_
      refine g_fi X hI hf fX2_8 q405 rfl rfl dX2_tag_66 (fun v103 hf => ?_)
      obtain ⟨hs, hf⟩ := gCk_b hf
      refine g_cTU X hI (by decide) hf (fun v9 h9 e9 l9 l9' => g_rV X hI l9 l9' ⟨Nat.le_refl _, Nat.le_refl _⟩ (As := [.int v103]) (m_X2_fail X.2.2.2.2.2.2.2.2.2.2.1 e9) ydX2_fail hs rfl rfl q813 q815 qs19 q122 q816 rfl (Nat.le_of_ble_eq_true rfl) (Nat.le_of_ble_eq_true rfl) hl.1 rfl (Nat.le_of_ble_eq_true rfl) dX2_tag_69) (fun r104 h H locs cells slots hf hI => ?_)
      exact b_X2_tag_72 X _ _ _ _ _ _ _ _ _ hf hI (lv_sub hl [2, 1, 0] rfl)
def f_X2_tag_2 : Nat → Nat → Int32 → gM (Nat ⊕ gE)
  | 0, _, _ => gFail
  | n + 1, a0, x1 =>
    gB (gFR a0 1 2) fun v101 =>
    gB (gAN v101 8) fun v102 =>
    gIf (v102 ≤ x1)
    (f_X2_tag_42 a0)
    (gB (gFR a0 1 2) fun v103 =>
    gB (gAR v103 8 x1) fun v104 =>
    gB (gCk a0 1) fun _ =>
    gB (f_X2_takes a0 v104) fun r105 =>
    gIf (r105 = 0)
    (f_X2_tag_2 n a0 (x1 + (1 : Int32)))
    (f_X2_tag_24 x1))
set_option maxHeartbeats 4000000 in
set_option maxRecDepth 100000 in
theorem b_X2_tag_2 {G : gG} {l : Launch} {p : Program} {e : Env} {s : State} {m : MethodId} {args : Array Value} {below : List Frame} {meth : Method} {c : Code} {h0 : g_H} {r : (Nat ⊕ gE)} {h' : g_H} (X : gX G l yX2_tag.cls cX2_tag 4 (some (.object "GhostAssize$Cond")) [] yX2_tag.name p s m args meth c) : ∀ n : Nat, w_X2_tag_2 G l p e s m args below meth c h0 r h' (f_X2_tag_2 n) := by
  have hx := X.1
  have hb := X.2.1
  have hown := X.2.2.2.1
  have hts := X.2.2.2.2.1
  intro n
  induction n with
  | zero =>
    intro a0 x1 h H locs cells slots ls hf hI hl
    exact (gFail_f hf).elim
  | succ n ih =>
    intro a0 x1 h H locs cells slots ls hf hI hl
    rw [f_X2_tag_2] at hf
    refine lv_iload_n hx hb dX2_tag_2 rfl (lv_at hl 1 rfl) ?_
    refine lv_aload_n hx hb dX2_tag_3 rfl (lv_at hl 0 rfl) ?_
    refine g_fr X hI hf fX2_2 q398 rfl rfl dX2_tag_4 (fun v101 hf => ?_)
    refine g_an X hI hf (fun _ => rfl) dX2_tag_7 (fun v102 hf => ?_)
    refine lv_icmp_ge (tgt := 42) hx hb dX2_tag_8 (by decide) (fun c8 => ?_) (fun c8 => ?_)
    · have hf := g_t c8 hf
      exact b_X2_tag_42 X _ _ _ _ _ _ _ hf hI (lv_sub hl [0] rfl)
    · have hf := g_f c8 hf
      refine lv_aload_n hx hb dX2_tag_11 rfl (lv_at hl 0 rfl) ?_
      refine lv_aload_n hx hb dX2_tag_12 rfl (lv_at hl 0 rfl) ?_
      refine g_fr X hI hf fX2_2 q398 rfl rfl dX2_tag_13 (fun v103 hf => ?_)
      refine lv_iload_n hx hb dX2_tag_16 rfl (lv_at hl 1 rfl) ?_
      refine g_ar8 X hI hf dX2_tag_17 (fun v104 hf => ?_)
      obtain ⟨hs, hf⟩ := gCk_b hf
      refine g_cBI hI hf (fun v9 h9 e9 l9 l9' => g_rV X hI l9 l9' ⟨Nat.le_refl _, Nat.le_refl _⟩ (As := [.ref v104]) (m_X2_takes X.2.2.2.2.2.2.2.2.2.2.1 e9) ydX2_takes hs rfl rfl q821 q823 qs21 q122 q824 rfl (Nat.le_of_ble_eq_true rfl) (Nat.le_of_ble_eq_true rfl) hl.1 rfl (Nat.le_of_ble_eq_true rfl) dX2_tag_18) (fun r105 h H locs cells slots hf hI => ?_)
      refine lv_if_eq (tgt := 36) hx hb dX2_tag_21 (by decide) (fun c21 => ?_) (fun c21 => ?_)
      · have hf := g_t c21 hf
        refine lv_iinc (v := (x1 + (1 : Int32))) (lv' := [(1, .int (x1 + (1 : Int32))), (0, .ref a0)]) hx hb dX2_tag_36 hl (k := 1) rfl rfl (by decide) rfl (fun ls hl => ?_)
        refine lv_goto (tgt := 2) hx hb dX2_tag_39 (by decide) ?_
        exact ih _ _ _ _ _ _ _ _ hf hI (lv_sub hl [1, 0] rfl)
      · have hf := g_f c21 hf
        exact b_X2_tag_24 X _ _ _ _ _ _ _ hf hI (lv_sub hl [1] rfl)
def f_X2_tag (a0 : Nat) : gM (Nat ⊕ gE) :=
    f_X2_tag_2 gN a0 (0 : Int32)
set_option maxHeartbeats 4000000 in
set_option maxRecDepth 100000 in
theorem m_X2_tag {G : gG} {l : Launch} (hfl : l.stackTraces = false) {a0 : Nat} {h h' : g_H} {r : (Nat ⊕ gE)} (hf : (f_X2_tag a0).1 h = some (r, h')) : gMet G l yX2_tag (Cond.code yX2_tag cX2_tag 4 (some (.object "GhostAssize$Cond"))) 8 173 [.ref a0] h (g_w g_wR r) h' := by
  refine g_head hfl ((f_X2_tag a0).2 h r h' hf) (plainFor_of_name (by decide)) (Nat.le_of_ble_eq_true rfl) (fun p e s m below meth c H locs cells slots ls X hI hl9 => ?_)
  have hl : lv_has ls 4 [(0, .ref a0)] := hl9
  have hx := X.1
  have hb := X.2.1
  have hown := X.2.2.2.1
  have hts := X.2.2.2.2.1
  unfold f_X2_tag at hf
  refine lv_iconst (v := (0 : Int32)) hx hb dX2_tag_0 (by decide) ?_
  refine lv_istore_n (lv' := [(1, .int (0 : Int32)), (0, .ref a0)]) hx hb dX2_tag_1 rfl hl (by decide) rfl (fun ls hl => ?_)
  exact b_X2_tag_2 X gN _ _ _ _ _ _ _ _ hf hI (lv_sub hl [1, 0] rfl)
/-! X13_init -/
def f_X13_init (a0 : Nat) (a1 : Nat) : gM Unit :=
    gB (gPQ a0 12 0 (some a1)) fun _ =>
    gRet ()
set_option maxHeartbeats 4000000 in
set_option maxRecDepth 100000 in
theorem m_X13_init {G : gG} {l : Launch} (hfl : l.stackTraces = false) {a0 : Nat} {a1 : Nat} {h h' : g_H} {r : Unit} (hf : (f_X13_init a0 a1).1 h = some (r, h')) : gMet G l yX13_init (Cond.code yX13_init cX13_init 2 none) 1 20 [.ref a0, .ref a1] h (.inl (g_wU r)) h' := by
  refine g_head hfl ((f_X13_init a0 a1).2 h r h' hf) (plainFor_of_name (by decide)) (Nat.le_of_ble_eq_true rfl) (fun p e s m below meth c H locs cells slots ls X hI hl9 => ?_)
  have hl : lv_has ls 2 [(0, .ref a0), (1, .ref a1)] := hl9
  have hx := X.1
  have hb := X.2.1
  have hown := X.2.2.2.1
  have hts := X.2.2.2.2.1
  unfold f_X13_init at hf
  refine lv_aload_n hx hb dX13_init_0 rfl (lv_at hl 0 rfl) ?_
  refine g_oinit X q1044 hl.1 (Nat.le_of_ble_eq_true rfl) (Nat.le_of_ble_eq_true rfl) (Nat.le_of_ble_eq_true rfl) dX13_init_1 ?_
  refine lv_aload_n hx hb dX13_init_4 rfl (lv_at hl 0 rfl) ?_
  refine lv_aload_n hx hb dX13_init_5 rfl (lv_at hl 1 rfl) ?_
  refine g_pqF X hI hf fX13_0 q1045 rfl rfl rfl rfl dX13_init_6 (fun h H locs hf hI => ?_)
  cases gRet_e hf
  exact g_retU X hI rfl dX13_init_9
/-! X2_atom -/
abbrev w_X2_atom_120 (G : gG) (l : Launch) (p : Program) (e : Env) (s : State) (m : MethodId) (args : Array Value) (below : List Frame) (meth : Method) (c : Code) (h0 : g_H) (r : (Nat ⊕ gE)) (h' : g_H) (Fd Ld : Nat) (k : Nat → Nat → gM (Nat ⊕ gE)) : Prop := ∀ (a0 : Nat) (a4 : Nat) (h : g_H) (H : Heap) (locs : List Loc) (cells slots : Nat) (ls : Array Slot), (k a0 a4).1 h = some (r, h') → gI G h0 h H locs cells slots → lv_has ls 5 [(0, .ref a0), (4, .ref a4)] → W p l e (g_rm (Fd + 11) (Ld + 226) h0 h') s m args below meth c H locs cells slots (gQ G below args s h0 h' (g_w g_wR r)) (F0 m 120 ls [])
abbrev w_X2_atom_110 (G : gG) (l : Launch) (p : Program) (e : Env) (s : State) (m : MethodId) (args : Array Value) (below : List Frame) (meth : Method) (c : Code) (h0 : g_H) (r : (Nat ⊕ gE)) (h' : g_H) (Fd Ld : Nat) (k : Nat → Nat → gM (Nat ⊕ gE)) : Prop := ∀ (a0 : Nat) (a4 : Nat) (h : g_H) (H : Heap) (locs : List Loc) (cells slots : Nat) (ls : Array Slot), (k a0 a4).1 h = some (r, h') → gI G h0 h H locs cells slots → lv_has ls 5 [(0, .ref a0), (4, .ref a4)] → W p l e (g_rm (Fd + 11) (Ld + 226) h0 h') s m args below meth c H locs cells slots (gQ G below args s h0 h' (g_w g_wR r)) (F0 m 110 ls [])
abbrev w_X2_atom_46 (G : gG) (l : Launch) (p : Program) (e : Env) (s : State) (m : MethodId) (args : Array Value) (below : List Frame) (meth : Method) (c : Code) (h0 : g_H) (r : (Nat ⊕ gE)) (h' : g_H) (Fd Ld : Nat) (k : Nat → Int32 → gM (Nat ⊕ gE)) : Prop := ∀ (a0 : Nat) (x3 : Int32) (h : g_H) (H : Heap) (locs : List Loc) (cells slots : Nat) (ls : Array Slot), (k a0 x3).1 h = some (r, h') → gI G h0 h H locs cells slots → lv_has ls 5 [(0, .ref a0), (3, .int x3)] → W p l e (g_rm (Fd + 11) (Ld + 226) h0 h') s m args below meth c H locs cells slots (gQ G below args s h0 h' (g_w g_wR r)) (F0 m 46 ls [])
abbrev w_X2_atom_32 (G : gG) (l : Launch) (p : Program) (e : Env) (s : State) (m : MethodId) (args : Array Value) (below : List Frame) (meth : Method) (c : Code) (h0 : g_H) (r : (Nat ⊕ gE)) (h' : g_H) (Fd Ld : Nat) (k : Nat → Int32 → Int32 → gM (Nat ⊕ gE)) : Prop := ∀ (a0 : Nat) (x2 : Int32) (x3 : Int32) (h : g_H) (H : Heap) (locs : List Loc) (cells slots : Nat) (ls : Array Slot), (k a0 x2 x3).1 h = some (r, h') → gI G h0 h H locs cells slots → lv_has ls 5 [(0, .ref a0), (2, .int x2), (3, .int x3)] → W p l e (g_rm (Fd + 11) (Ld + 226) h0 h') s m args below meth c H locs cells slots (gQ G below args s h0 h' (g_w g_wR r)) (F0 m 32 ls [])
def f_X2_atom_120 (rX2_row : Nat → Int32 → gM (Nat ⊕ gE)) (rX2_atom : Nat → gM (Nat ⊕ gE)) (a0 : Nat) (a4 : Nat) : gM (Nat ⊕ gE) :=
    gB (gFI a0 1 9) fun v101 =>
    gB (gPI a0 1 9 (v101 - (1 : Int32))) fun _ =>
    gRet (.inl a4)
set_option maxHeartbeats 4000000 in
set_option maxRecDepth 100000 in
theorem b_X2_atom_120 {G : gG} {l : Launch} {p : Program} {e : Env} {s : State} {m : MethodId} {args : Array Value} {below : List Frame} {meth : Method} {c : Code} {h0 : g_H} {r : (Nat ⊕ gE)} {h' : g_H} {Fd Ld : Nat} (X : gX G l yX2_atom.cls cX2_atom 5 (some (.object "GhostAssize$Cond")) [] yX2_atom.name p s m args meth c) {rX2_row : Nat → Int32 → gM (Nat ⊕ gE)} {rX2_atom : Nat → gM (Nat ⊕ gE)} (KX2_row : ∀ {a0 : Nat} {x1 : Int32} {h h' : g_H} {r : (Nat ⊕ gE)}, (rX2_row a0 x1).1 h = some (r, h') → gMet G l yX2_row (Cond.code yX2_row cX2_row 4 (some (.object "GhostAssize$Cond"))) Fd Ld [.ref a0, .int x1] h (g_w g_wR r) h') (KX2_atom : ∀ {a0 : Nat} {h h' : g_H} {r : (Nat ⊕ gE)}, (rX2_atom a0).1 h = some (r, h') → gMet G l yX2_atom (Cond.code yX2_atom cX2_atom 5 (some (.object "GhostAssize$Cond"))) Fd Ld [.ref a0] h (g_w g_wR r) h') : w_X2_atom_120 G l p e s m args below meth c h0 r h' Fd Ld (f_X2_atom_120 rX2_row rX2_atom) := by
  have hx := X.1
  have hb := X.2.1
  have hown := X.2.2.2.1
  have hts := X.2.2.2.2.1
  intro a0 a4 h H locs cells slots ls hf hI hl
  unfold f_X2_atom_120 at hf
  refine lv_aload_n hx hb dX2_atom_120 rfl (lv_at hl 0 rfl) ?_
  refine lv_dup hx hb dX2_atom_121 rfl ?_
  refine g_fi X hI hf fX2_9 q406 rfl rfl dX2_atom_122 (fun v101 hf => ?_)
  refine lv_iconst (v := (1 : Int32)) hx hb dX2_atom_125 (by decide) ?_
  refine lv_isub hx hb dX2_atom_126 ?_
  refine g_pi X hI hf fX2_9 q406 rfl dX2_atom_127 (fun h H locs hf hI => ?_)
  refine lv_aload hx hb dX2_atom_130 (lv_at hl 1 rfl) ?_
  cases gRet_e hf
  exact g_retR X hI (Or.inl ⟨_, rfl⟩) rfl dX2_atom_132
def f_X2_atom_110 (rX2_row : Nat → Int32 → gM (Nat ⊕ gE)) (rX2_atom : Nat → gM (Nat ⊕ gE)) (a0 : Nat) (a4 : Nat) : gM (Nat ⊕ gE) :=
    gB (gFI a0 1 8) fun v101 =>
    gB (gPI a0 1 8 (v101 + (1 : Int32))) fun _ =>
    f_X2_atom_120 rX2_row rX2_atom a0 a4
set_option maxHeartbeats 4000000 in
set_option maxRecDepth 100000 in
theorem b_X2_atom_110 {G : gG} {l : Launch} {p : Program} {e : Env} {s : State} {m : MethodId} {args : Array Value} {below : List Frame} {meth : Method} {c : Code} {h0 : g_H} {r : (Nat ⊕ gE)} {h' : g_H} {Fd Ld : Nat} (X : gX G l yX2_atom.cls cX2_atom 5 (some (.object "GhostAssize$Cond")) [] yX2_atom.name p s m args meth c) {rX2_row : Nat → Int32 → gM (Nat ⊕ gE)} {rX2_atom : Nat → gM (Nat ⊕ gE)} (KX2_row : ∀ {a0 : Nat} {x1 : Int32} {h h' : g_H} {r : (Nat ⊕ gE)}, (rX2_row a0 x1).1 h = some (r, h') → gMet G l yX2_row (Cond.code yX2_row cX2_row 4 (some (.object "GhostAssize$Cond"))) Fd Ld [.ref a0, .int x1] h (g_w g_wR r) h') (KX2_atom : ∀ {a0 : Nat} {h h' : g_H} {r : (Nat ⊕ gE)}, (rX2_atom a0).1 h = some (r, h') → gMet G l yX2_atom (Cond.code yX2_atom cX2_atom 5 (some (.object "GhostAssize$Cond"))) Fd Ld [.ref a0] h (g_w g_wR r) h') : w_X2_atom_110 G l p e s m args below meth c h0 r h' Fd Ld (f_X2_atom_110 rX2_row rX2_atom) := by
  have hx := X.1
  have hb := X.2.1
  have hown := X.2.2.2.1
  have hts := X.2.2.2.2.1
  intro a0 a4 h H locs cells slots ls hf hI hl
  unfold f_X2_atom_110 at hf
  refine lv_aload_n hx hb dX2_atom_110 rfl (lv_at hl 0 rfl) ?_
  refine lv_dup hx hb dX2_atom_111 rfl ?_
  refine g_fi X hI hf fX2_8 q405 rfl rfl dX2_atom_112 (fun v101 hf => ?_)
  refine lv_iconst (v := (1 : Int32)) hx hb dX2_atom_115 (by decide) ?_
  refine lv_iadd hx hb dX2_atom_116 ?_
  refine g_pi X hI hf fX2_8 q405 rfl dX2_atom_117 (fun h H locs hf hI => ?_)
  exact b_X2_atom_120 X KX2_row KX2_atom _ _ _ _ _ _ _ _ hf hI (lv_sub hl [0, 1] rfl)
def f_X2_atom_46 (rX2_row : Nat → Int32 → gM (Nat ⊕ gE)) (rX2_atom : Nat → gM (Nat ⊕ gE)) (a0 : Nat) (x3 : Int32) : gM (Nat ⊕ gE) :=
    gB (gFI a0 1 9) fun v101 =>
    gB (gPI a0 1 9 (v101 + (1 : Int32))) fun _ =>
    gIf (x3 = 0)
    (gB (gFI a0 1 8) fun v102 =>
    gB (gPI a0 1 8 (v102 + (1 : Int32))) fun _ =>
    gB (gCk a0 1) fun _ =>
    gT (rX2_row a0 (0 : Int32)) fun r103 =>
    gB (gCk a0 1) fun _ =>
    gB (f_X2_sign a0) fun r104 =>
    gIf (r104 = (41 : Int32))
    (f_X2_atom_110 rX2_row rX2_atom a0 r103)
    (gB (gFI a0 1 8) fun v105 =>
    gB (gCk a0 1) fun _ =>
    gT (f_X2_fail a0 v105) fun _ =>
    f_X2_atom_110 rX2_row rX2_atom a0 r103))
    (gB (gNew 12 1) fun a107 =>
    gB (gCk a0 1) fun _ =>
    gT (rX2_atom a0) fun r108 =>
    gB (f_X13_init a107 r108) fun _ =>
    f_X2_atom_120 rX2_row rX2_atom a0 a107)
set_option maxHeartbeats 4000000 in
set_option maxRecDepth 100000 in
theorem b_X2_atom_46 {G : gG} {l : Launch} {p : Program} {e : Env} {s : State} {m : MethodId} {args : Array Value} {below : List Frame} {meth : Method} {c : Code} {h0 : g_H} {r : (Nat ⊕ gE)} {h' : g_H} {Fd Ld : Nat} (X : gX G l yX2_atom.cls cX2_atom 5 (some (.object "GhostAssize$Cond")) [] yX2_atom.name p s m args meth c) {rX2_row : Nat → Int32 → gM (Nat ⊕ gE)} {rX2_atom : Nat → gM (Nat ⊕ gE)} (KX2_row : ∀ {a0 : Nat} {x1 : Int32} {h h' : g_H} {r : (Nat ⊕ gE)}, (rX2_row a0 x1).1 h = some (r, h') → gMet G l yX2_row (Cond.code yX2_row cX2_row 4 (some (.object "GhostAssize$Cond"))) Fd Ld [.ref a0, .int x1] h (g_w g_wR r) h') (KX2_atom : ∀ {a0 : Nat} {h h' : g_H} {r : (Nat ⊕ gE)}, (rX2_atom a0).1 h = some (r, h') → gMet G l yX2_atom (Cond.code yX2_atom cX2_atom 5 (some (.object "GhostAssize$Cond"))) Fd Ld [.ref a0] h (g_w g_wR r) h') : w_X2_atom_46 G l p e s m args below meth c h0 r h' Fd Ld (f_X2_atom_46 rX2_row rX2_atom) := by
  have hx := X.1
  have hb := X.2.1
  have hown := X.2.2.2.1
  have hts := X.2.2.2.2.1
  intro a0 x3 h H locs cells slots ls hf hI hl
  unfold f_X2_atom_46 at hf
  refine lv_aload_n hx hb dX2_atom_46 rfl (lv_at hl 0 rfl) ?_
  refine lv_dup hx hb dX2_atom_47 rfl ?_
  refine g_fi X hI hf fX2_9 q406 rfl rfl dX2_atom_48 (fun v101 hf => ?_)
  refine lv_iconst (v := (1 : Int32)) hx hb dX2_atom_51 (by decide) ?_
  refine lv_iadd hx hb dX2_atom_52 ?_
  refine g_pi X hI hf fX2_9 q406 rfl dX2_atom_53 (fun h H locs hf hI => ?_)
  refine lv_iload_n hx hb dX2_atom_56 rfl (lv_at hl 1 rfl) ?_
  refine lv_if_eq (tgt := 76) hx hb dX2_atom_57 (by decide) (fun c57 => ?_) (fun c57 => ?_)
  · have hf := g_t c57 hf
    refine lv_aload_n hx hb dX2_atom_76 rfl (lv_at hl 0 rfl) ?_
    refine lv_dup hx hb dX2_atom_77 rfl ?_
    refine g_fi X hI hf fX2_8 q405 rfl rfl dX2_atom_78 (fun v102 hf => ?_)
    refine lv_iconst (v := (1 : Int32)) hx hb dX2_atom_81 (by decide) ?_
    refine lv_iadd hx hb dX2_atom_82 ?_
    refine g_pi X hI hf fX2_8 q405 rfl dX2_atom_83 (fun h H locs hf hI => ?_)
    refine lv_aload_n hx hb dX2_atom_86 rfl (lv_at hl 0 rfl) ?_
    refine lv_iconst (v := (0 : Int32)) hx hb dX2_atom_87 (by decide) ?_
    obtain ⟨hs, hf⟩ := gCk_b hf
    refine g_cTR X hI (by decide) hf (fun v9 h9 e9 l9 l9' => g_rV X hI l9 l9' ⟨Nat.le_refl _, Nat.le_refl _⟩ (As := [.int (0 : Int32)]) (KX2_row e9) ydX2_row hs rfl rfl q974 q976 qs30 q122 q977 rfl (show Fd + 1 ≤ Fd + 11 from by omega) (show 8 + (4 + 11) + Ld ≤ Ld + 226 from by omega) hl.1 rfl (Nat.le_of_ble_eq_true rfl) dX2_atom_88) (fun r103 h H locs cells slots hf hI => ?_)
    refine lv_astore (lv' := [(4, .ref r103), (0, .ref a0), (3, .int x3)]) hx hb dX2_atom_91 hl (by decide) rfl (fun ls hl => ?_)
    refine lv_aload_n hx hb dX2_atom_93 rfl (lv_at hl 1 rfl) ?_
    obtain ⟨hs, hf⟩ := gCk_b hf
    refine g_cBI hI hf (fun v9 h9 e9 l9 l9' => g_rV X hI l9 l9' ⟨Nat.le_refl _, Nat.le_refl _⟩ (As := []) (m_X2_sign X.2.2.2.2.2.2.2.2.2.2.1 e9) ydX2_sign hs rfl rfl q809 q811 qs18 q122 q812 rfl (show 1 + 1 ≤ Fd + 11 from by omega) (show 8 + (1 + 11) + 20 ≤ Ld + 226 from by omega) hl.1 rfl (Nat.le_of_ble_eq_true rfl) dX2_atom_94) (fun r104 h H locs cells slots hf hI => ?_)
    refine lv_bipush (v := (41 : Int32)) hx hb dX2_atom_97 (by decide) ?_
    refine lv_icmp_eq (tgt := 110) hx hb dX2_atom_99 (by decide) (fun c99 => ?_) (fun c99 => ?_)
    · have hf := g_t c99 hf
      exact b_X2_atom_110 X KX2_row KX2_atom _ _ _ _ _ _ _ _ hf hI (lv_sub hl [1, 0] rfl)
    · have hf := g_f c99 hf
      refine lv_aload_n hx hb dX2_atom_102 rfl (lv_at hl 1 rfl) ?_
      refine lv_aload_n hx hb dX2_atom_103 rfl (lv_at hl 1 rfl) ?_
      refine g_fi X hI hf fX2_8 q405 rfl rfl dX2_atom_104 (fun v105 hf => ?_)
      obtain ⟨hs, hf⟩ := gCk_b hf
      refine g_cTU X hI (by decide) hf (fun v9 h9 e9 l9 l9' => g_rV X hI l9 l9' ⟨Nat.le_refl _, Nat.le_refl _⟩ (As := [.int v105]) (m_X2_fail X.2.2.2.2.2.2.2.2.2.2.1 e9) ydX2_fail hs rfl rfl q813 q815 qs19 q122 q816 rfl (show 1 + 1 ≤ Fd + 11 from by omega) (show 8 + (2 + 11) + 20 ≤ Ld + 226 from by omega) hl.1 rfl (Nat.le_of_ble_eq_true rfl) dX2_atom_107) (fun r106 h H locs cells slots hf hI => ?_)
      exact b_X2_atom_110 X KX2_row KX2_atom _ _ _ _ _ _ _ _ hf hI (lv_sub hl [1, 0] rfl)
  · have hf := g_f c57 hf
    refine g_new X hI hf ⟨Nat.le_refl _, Nat.le_refl _⟩ cX13 q1039 dX2_atom_60 (fun a107 h H cells slots hf hI => ?_)
    refine lv_dup hx hb dX2_atom_63 rfl ?_
    refine lv_aload_n hx hb dX2_atom_64 rfl (lv_at hl 0 rfl) ?_
    obtain ⟨hs, hf⟩ := gCk_b hf
    refine g_cTR X hI (by decide) hf (fun v9 h9 e9 l9 l9' => g_rV X hI l9 l9' ⟨Nat.le_refl _, Nat.le_refl _⟩ (As := []) (KX2_atom e9) ydX2_atom hs rfl rfl q980 q982 qs31 q122 q983 rfl (show Fd + 1 ≤ Fd + 11 from by omega) (show 8 + (5 + 11) + Ld ≤ Ld + 226 from by omega) hl.1 rfl (Nat.le_of_ble_eq_true rfl) dX2_atom_65) (fun r108 h H locs cells slots hf hI => ?_)
    refine g_cBU hI hf (fun v9 h9 e9 l9 l9' => g_rI X hI l9 l9' ⟨Nat.le_refl _, Nat.le_refl _⟩ (As := [.ref r108]) (m_X13_init X.2.2.2.2.2.2.2.2.2.2.1 e9) ydX13_init rfl rfl q1041 q1042 q144 q1043 rfl (show 1 + 1 ≤ Fd + 11 from by omega) (show 8 + (2 + 11) + 20 ≤ Ld + 226 from by omega) hl.1 rfl (Nat.le_of_ble_eq_true rfl) dX2_atom_68) (fun r109 h H locs cells slots hf hI => ?_)
    refine lv_astore (lv' := [(4, .ref a107), (0, .ref a0), (3, .int x3)]) hx hb dX2_atom_71 hl (by decide) rfl (fun ls hl => ?_)
    refine lv_goto (tgt := 120) hx hb dX2_atom_73 (by decide) ?_
    exact b_X2_atom_120 X KX2_row KX2_atom _ _ _ _ _ _ _ _ hf hI (lv_sub hl [1, 0] rfl)
def f_X2_atom_32 (rX2_row : Nat → Int32 → gM (Nat ⊕ gE)) (rX2_atom : Nat → gM (Nat ⊕ gE)) (a0 : Nat) (x2 : Int32) (x3 : Int32) : gM (Nat ⊕ gE) :=
    gB (gFI a0 1 9) fun v101 =>
    gIf (v101 = (6 : Int32))
    (gB (gCk a0 1) fun _ =>
    gT (f_X2_fail a0 x2) fun _ =>
    f_X2_atom_46 rX2_row rX2_atom a0 x3)
    (f_X2_atom_46 rX2_row rX2_atom a0 x3)
set_option maxHeartbeats 4000000 in
set_option maxRecDepth 100000 in
theorem b_X2_atom_32 {G : gG} {l : Launch} {p : Program} {e : Env} {s : State} {m : MethodId} {args : Array Value} {below : List Frame} {meth : Method} {c : Code} {h0 : g_H} {r : (Nat ⊕ gE)} {h' : g_H} {Fd Ld : Nat} (X : gX G l yX2_atom.cls cX2_atom 5 (some (.object "GhostAssize$Cond")) [] yX2_atom.name p s m args meth c) {rX2_row : Nat → Int32 → gM (Nat ⊕ gE)} {rX2_atom : Nat → gM (Nat ⊕ gE)} (KX2_row : ∀ {a0 : Nat} {x1 : Int32} {h h' : g_H} {r : (Nat ⊕ gE)}, (rX2_row a0 x1).1 h = some (r, h') → gMet G l yX2_row (Cond.code yX2_row cX2_row 4 (some (.object "GhostAssize$Cond"))) Fd Ld [.ref a0, .int x1] h (g_w g_wR r) h') (KX2_atom : ∀ {a0 : Nat} {h h' : g_H} {r : (Nat ⊕ gE)}, (rX2_atom a0).1 h = some (r, h') → gMet G l yX2_atom (Cond.code yX2_atom cX2_atom 5 (some (.object "GhostAssize$Cond"))) Fd Ld [.ref a0] h (g_w g_wR r) h') : w_X2_atom_32 G l p e s m args below meth c h0 r h' Fd Ld (f_X2_atom_32 rX2_row rX2_atom) := by
  have hx := X.1
  have hb := X.2.1
  have hown := X.2.2.2.1
  have hts := X.2.2.2.2.1
  intro a0 x2 x3 h H locs cells slots ls hf hI hl
  unfold f_X2_atom_32 at hf
  refine lv_aload_n hx hb dX2_atom_32 rfl (lv_at hl 0 rfl) ?_
  refine g_fi X hI hf fX2_9 q406 rfl rfl dX2_atom_33 (fun v101 hf => ?_)
  refine lv_bipush (v := (6 : Int32)) hx hb dX2_atom_36 (by decide) ?_
  refine lv_icmp_ne (tgt := 46) hx hb dX2_atom_38 (by decide) (fun c38 => ?_) (fun c38 => ?_)
  · have hf := g_f c38 hf
    exact b_X2_atom_46 X KX2_row KX2_atom _ _ _ _ _ _ _ _ hf hI (lv_sub hl [0, 2] rfl)
  · have hf := g_t c38 hf
    refine lv_aload_n hx hb dX2_atom_41 rfl (lv_at hl 0 rfl) ?_
    refine lv_iload_n hx hb dX2_atom_42 rfl (lv_at hl 1 rfl) ?_
    obtain ⟨hs, hf⟩ := gCk_b hf
    refine g_cTU X hI (by decide) hf (fun v9 h9 e9 l9 l9' => g_rV X hI l9 l9' ⟨Nat.le_refl _, Nat.le_refl _⟩ (As := [.int x2]) (m_X2_fail X.2.2.2.2.2.2.2.2.2.2.1 e9) ydX2_fail hs rfl rfl q813 q815 qs19 q122 q816 rfl (show 1 + 1 ≤ Fd + 11 from by omega) (show 8 + (2 + 11) + 20 ≤ Ld + 226 from by omega) hl.1 rfl (Nat.le_of_ble_eq_true rfl) dX2_atom_43) (fun r102 h H locs cells slots hf hI => ?_)
    exact b_X2_atom_46 X KX2_row KX2_atom _ _ _ _ _ _ _ _ hf hI (lv_sub hl [0, 2] rfl)
def f_X2_atom (rX2_row : Nat → Int32 → gM (Nat ⊕ gE)) (rX2_atom : Nat → gM (Nat ⊕ gE)) (a0 : Nat) : gM (Nat ⊕ gE) :=
    gB (gCk a0 1) fun _ =>
    gB (f_X2_sign a0) fun r1 =>
    gB (gFI a0 1 8) fun v2 =>
    gB (gTx 18) fun t3 =>
    gB (gCk a0 1) fun _ =>
    gB (f_X2_takes a0 t3) fun r4 =>
    gIf (r4 = 0)
    (gIf (r1 = (40 : Int32))
    (f_X2_atom_32 rX2_row rX2_atom a0 v2 r4)
    (gB (gCk a0 1) fun _ =>
    gT (f_X2_tag a0) fun r5 =>
    gRet (.inl r5)))
    (f_X2_atom_32 rX2_row rX2_atom a0 v2 r4)
set_option maxHeartbeats 4000000 in
set_option maxRecDepth 100000 in
theorem m_X2_atom {G : gG} {l : Launch} (hfl : l.stackTraces = false) {Fd Ld : Nat} {rX2_row : Nat → Int32 → gM (Nat ⊕ gE)} {rX2_atom : Nat → gM (Nat ⊕ gE)} (KX2_row : ∀ {a0 : Nat} {x1 : Int32} {h h' : g_H} {r : (Nat ⊕ gE)}, (rX2_row a0 x1).1 h = some (r, h') → gMet G l yX2_row (Cond.code yX2_row cX2_row 4 (some (.object "GhostAssize$Cond"))) Fd Ld [.ref a0, .int x1] h (g_w g_wR r) h') (KX2_atom : ∀ {a0 : Nat} {h h' : g_H} {r : (Nat ⊕ gE)}, (rX2_atom a0).1 h = some (r, h') → gMet G l yX2_atom (Cond.code yX2_atom cX2_atom 5 (some (.object "GhostAssize$Cond"))) Fd Ld [.ref a0] h (g_w g_wR r) h') {a0 : Nat} {h h' : g_H} {r : (Nat ⊕ gE)} (hf : (f_X2_atom rX2_row rX2_atom a0).1 h = some (r, h')) : gMet G l yX2_atom (Cond.code yX2_atom cX2_atom 5 (some (.object "GhostAssize$Cond"))) (Fd + 11) (Ld + 226) [.ref a0] h (g_w g_wR r) h' := by
  refine g_head hfl ((f_X2_atom rX2_row rX2_atom a0).2 h r h' hf) (plainFor_of_name (by decide)) (Nat.le_of_ble_eq_true rfl) (fun p e s m below meth c H locs cells slots ls X hI hl9 => ?_)
  have hl : lv_has ls 5 [(0, .ref a0)] := hl9
  have hx := X.1
  have hb := X.2.1
  have hown := X.2.2.2.1
  have hts := X.2.2.2.2.1
  unfold f_X2_atom at hf
  refine lv_aload_n hx hb dX2_atom_0 rfl (lv_at hl 0 rfl) ?_
  obtain ⟨hs, hf⟩ := gCk_b hf
  refine g_cBI hI hf (fun v9 h9 e9 l9 l9' => g_rV X hI l9 l9' ⟨Nat.le_refl _, Nat.le_refl _⟩ (As := []) (m_X2_sign X.2.2.2.2.2.2.2.2.2.2.1 e9) ydX2_sign hs rfl rfl q809 q811 qs18 q122 q812 rfl (show 1 + 1 ≤ Fd + 11 from by omega) (show 8 + (1 + 11) + 20 ≤ Ld + 226 from by omega) hl.1 rfl (Nat.le_of_ble_eq_true rfl) dX2_atom_1) (fun r1 h H locs cells slots hf hI => ?_)
  refine lv_istore_n (lv' := [(1, .int r1), (0, .ref a0)]) hx hb dX2_atom_4 rfl hl (by decide) rfl (fun ls hl => ?_)
  refine lv_aload_n hx hb dX2_atom_5 rfl (lv_at hl 1 rfl) ?_
  refine g_fi X hI hf fX2_8 q405 rfl rfl dX2_atom_6 (fun v2 hf => ?_)
  refine lv_istore_n (lv' := [(2, .int v2), (1, .int r1), (0, .ref a0)]) hx hb dX2_atom_9 rfl hl (by decide) rfl (fun ls hl => ?_)
  refine lv_aload_n hx hb dX2_atom_10 rfl (lv_at hl 2 rfl) ?_
  refine g_ldcS (tx := "not") X hI hf (List.mem_of_getElem? (i := 18) rfl) dX2_atom_11 (fun t3 hf => ?_)
  obtain ⟨hs, hf⟩ := gCk_b hf
  refine g_cBI hI hf (fun v9 h9 e9 l9 l9' => g_rV X hI l9 l9' ⟨Nat.le_refl _, Nat.le_refl _⟩ (As := [.ref t3]) (m_X2_takes X.2.2.2.2.2.2.2.2.2.2.1 e9) ydX2_takes hs rfl rfl q821 q823 qs21 q122 q824 rfl (show 5 + 1 ≤ Fd + 11 from by omega) (show 8 + (6 + 11) + 105 ≤ Ld + 226 from by omega) hl.1 rfl (Nat.le_of_ble_eq_true rfl) dX2_atom_13) (fun r4 h H locs cells slots hf hI => ?_)
  refine lv_istore_n (lv' := [(3, .int r4), (2, .int v2), (1, .int r1), (0, .ref a0)]) hx hb dX2_atom_16 rfl hl (by decide) rfl (fun ls hl => ?_)
  refine lv_iload_n hx hb dX2_atom_17 rfl (lv_at hl 0 rfl) ?_
  refine lv_if_ne (tgt := 32) hx hb dX2_atom_18 (by decide) (fun c18 => ?_) (fun c18 => ?_)
  · have hf := g_f c18 hf
    exact b_X2_atom_32 X KX2_row KX2_atom _ _ _ _ _ _ _ _ _ hf hI (lv_sub hl [3, 1, 0] rfl)
  · have hf := g_t c18 hf
    refine lv_iload_n hx hb dX2_atom_21 rfl (lv_at hl 2 rfl) ?_
    refine lv_bipush (v := (40 : Int32)) hx hb dX2_atom_22 (by decide) ?_
    refine lv_icmp_eq (tgt := 32) hx hb dX2_atom_24 (by decide) (fun c24 => ?_) (fun c24 => ?_)
    · have hf := g_t c24 hf
      exact b_X2_atom_32 X KX2_row KX2_atom _ _ _ _ _ _ _ _ _ hf hI (lv_sub hl [3, 1, 0] rfl)
    · have hf := g_f c24 hf
      refine lv_aload_n hx hb dX2_atom_27 rfl (lv_at hl 3 rfl) ?_
      obtain ⟨hs, hf⟩ := gCk_b hf
      refine g_cTR X hI (by decide) hf (fun v9 h9 e9 l9 l9' => g_rV X hI l9 l9' ⟨Nat.le_refl _, Nat.le_refl _⟩ (As := []) (m_X2_tag X.2.2.2.2.2.2.2.2.2.2.1 e9) ydX2_tag hs rfl rfl q985 q987 qs32 q122 q988 rfl (show 8 + 1 ≤ Fd + 11 from by omega) (show 8 + (4 + 11) + 173 ≤ Ld + 226 from by omega) hl.1 rfl (Nat.le_of_ble_eq_true rfl) dX2_atom_28) (fun r5 h H locs cells slots hf hI => ?_)
      cases gRet_e hf
      exact g_retR X hI (Or.inl ⟨_, rfl⟩) rfl dX2_atom_31
/-! X9_init -/
def f_X9_init (a0 : Nat) (a1 : Nat) (x2 : Int32) : gM Unit :=
    gB (gPQ a0 8 0 (some a1)) fun _ =>
    gB (gPZ a0 8 1 x2) fun _ =>
    gRet ()
set_option maxHeartbeats 4000000 in
set_option maxRecDepth 100000 in
theorem m_X9_init {G : gG} {l : Launch} (hfl : l.stackTraces = false) {a0 : Nat} {a1 : Nat} {x2 : Int32} {h h' : g_H} {r : Unit} (hf : (f_X9_init a0 a1 x2).1 h = some (r, h')) : gMet G l yX9_init (Cond.code yX9_init cX9_init 3 none) 1 20 [.ref a0, .ref a1, .int x2] h (.inl (g_wU r)) h' := by
  refine g_head hfl ((f_X9_init a0 a1 x2).2 h r h' hf) (plainFor_of_name (by decide)) (Nat.le_of_ble_eq_true rfl) (fun p e s m below meth c H locs cells slots ls X hI hl9 => ?_)
  have hl : lv_has ls 3 [(0, .ref a0), (1, .ref a1), (2, .int x2)] := hl9
  have hx := X.1
  have hb := X.2.1
  have hown := X.2.2.2.1
  have hts := X.2.2.2.2.1
  unfold f_X9_init at hf
  refine lv_aload_n hx hb dX9_init_0 rfl (lv_at hl 0 rfl) ?_
  refine g_oinit X q1052 hl.1 (Nat.le_of_ble_eq_true rfl) (Nat.le_of_ble_eq_true rfl) (Nat.le_of_ble_eq_true rfl) dX9_init_1 ?_
  refine lv_aload_n hx hb dX9_init_4 rfl (lv_at hl 0 rfl) ?_
  refine lv_aload_n hx hb dX9_init_5 rfl (lv_at hl 1 rfl) ?_
  refine g_pqF X hI hf fX9_0 q1053 rfl rfl rfl rfl dX9_init_6 (fun h H locs hf hI => ?_)
  refine lv_aload_n hx hb dX9_init_9 rfl (lv_at hl 0 rfl) ?_
  refine lv_iload_n hx hb dX9_init_10 rfl (lv_at hl 2 rfl) ?_
  refine g_pzF X hI hf fX9_1 q1054 rfl rfl dX9_init_11 (fun h H locs hf hI => ?_)
  cases gRet_e hf
  exact g_retU X hI rfl dX9_init_14
/-! X2_row -/
abbrev w_X2_row_66 (G : gG) (l : Launch) (p : Program) (e : Env) (s : State) (m : MethodId) (args : Array Value) (below : List Frame) (meth : Method) (c : Code) (h0 : g_H) (r : (Nat ⊕ gE)) (h' : g_H) (Fd Ld : Nat) (k : Nat → Int32 → Nat → Option Nat → Option Nat → Nat → Nat → Nat → gM (Nat ⊕ gE)) : Prop := ∀ (a0 : Nat) (x1 : Int32) (a2 : Nat) (a3 : Option Nat) (b0 : Option Nat) (b1 : Nat) (b2 : Nat) (b3 : Nat) (h : g_H) (H : Heap) (locs : List Loc) (cells slots : Nat) (ls : Array Slot), (k a0 x1 a2 a3 b0 b1 b2 b3).1 h = some (r, h') → gI G h0 h H locs cells slots → lv_has ls 4 [(0, .ref a0), (1, .int x1), (2, .ref a2), (3, va_rf a3)] → W p l e (g_rm (Fd + 11) (Ld + 226) h0 h') s m args below meth c H locs cells slots (gQ G below args s h0 h' (g_w g_wR r)) (F0 m 66 ls [.ref b3, .ref b2, .ref b1, va_rf b0])
abbrev w_X2_row_81 (G : gG) (l : Launch) (p : Program) (e : Env) (s : State) (m : MethodId) (args : Array Value) (below : List Frame) (meth : Method) (c : Code) (h0 : g_H) (r : (Nat ⊕ gE)) (h' : g_H) (Fd Ld : Nat) (k : Nat → gM (Nat ⊕ gE)) : Prop := ∀ (a2 : Nat) (h : g_H) (H : Heap) (locs : List Loc) (cells slots : Nat) (ls : Array Slot), (k a2).1 h = some (r, h') → gI G h0 h H locs cells slots → lv_has ls 4 [(2, .ref a2)] → W p l e (g_rm (Fd + 11) (Ld + 226) h0 h') s m args below meth c H locs cells slots (gQ G below args s h0 h' (g_w g_wR r)) (F0 m 81 ls [])
abbrev w_X2_row_39 (G : gG) (l : Launch) (p : Program) (e : Env) (s : State) (m : MethodId) (args : Array Value) (below : List Frame) (meth : Method) (c : Code) (h0 : g_H) (r : (Nat ⊕ gE)) (h' : g_H) (Fd Ld : Nat) (k : Nat → Int32 → Nat → Option Nat → Nat → Nat → gM (Nat ⊕ gE)) : Prop := ∀ (a0 : Nat) (x1 : Int32) (a2 : Nat) (a3 : Option Nat) (b0 : Nat) (b1 : Nat) (h : g_H) (H : Heap) (locs : List Loc) (cells slots : Nat) (ls : Array Slot), (k a0 x1 a2 a3 b0 b1).1 h = some (r, h') → gI G h0 h H locs cells slots → lv_has ls 4 [(0, .ref a0), (1, .int x1), (2, .ref a2), (3, va_rf a3)] → W p l e (g_rm (Fd + 11) (Ld + 226) h0 h') s m args below meth c H locs cells slots (gQ G below args s h0 h' (g_w g_wR r)) (F0 m 39 ls [.ref b1, .ref b0])
abbrev w_X2_row_27 (G : gG) (l : Launch) (p : Program) (e : Env) (s : State) (m : MethodId) (args : Array Value) (below : List Frame) (meth : Method) (c : Code) (h0 : g_H) (r : (Nat ⊕ gE)) (h' : g_H) (Fd Ld : Nat) (k : Nat → Int32 → Nat → Option Nat → gM (Nat ⊕ gE)) : Prop := ∀ (a0 : Nat) (x1 : Int32) (a2 : Nat) (a3 : Option Nat) (h : g_H) (H : Heap) (locs : List Loc) (cells slots : Nat) (ls : Array Slot), (k a0 x1 a2 a3).1 h = some (r, h') → gI G h0 h H locs cells slots → lv_has ls 4 [(0, .ref a0), (1, .int x1), (2, .ref a2), (3, va_rf a3)] → W p l e (g_rm (Fd + 11) (Ld + 226) h0 h') s m args below meth c H locs cells slots (gQ G below args s h0 h' (g_w g_wR r)) (F0 m 27 ls [])
abbrev w_X2_row_20 (G : gG) (l : Launch) (p : Program) (e : Env) (s : State) (m : MethodId) (args : Array Value) (below : List Frame) (meth : Method) (c : Code) (h0 : g_H) (r : (Nat ⊕ gE)) (h' : g_H) (Fd Ld : Nat) (k : Nat → Int32 → Nat → Nat → Nat → gM (Nat ⊕ gE)) : Prop := ∀ (a0 : Nat) (x1 : Int32) (b0 : Nat) (b1 : Nat) (b2 : Nat) (h : g_H) (H : Heap) (locs : List Loc) (cells slots : Nat) (ls : Array Slot), (k a0 x1 b0 b1 b2).1 h = some (r, h') → gI G h0 h H locs cells slots → lv_has ls 4 [(0, .ref a0), (1, .int x1)] → W p l e (g_rm (Fd + 11) (Ld + 226) h0 h') s m args below meth c H locs cells slots (gQ G below args s h0 h' (g_w g_wR r)) (F0 m 20 ls [.ref b2, .ref b1, .ref b0])
def f_X2_row_66 (rX2_row : Nat → Int32 → gM (Nat ⊕ gE)) (rX2_atom : Nat → gM (Nat ⊕ gE)) (k27 : Nat → Int32 → Nat → Option Nat → gM (Nat ⊕ gE)) (a0 : Nat) (x1 : Int32) (a2 : Nat) (a3 : Option Nat) (b0 : Option Nat) (b1 : Nat) (b2 : Nat) (b3 : Nat) : gM (Nat ⊕ gE) :=
    gB (f_X9_init b2 b3 x1) fun _ =>
    gB (gNN b0) fun y102 =>
    gB (gPQ y102 8 2 (some b1)) fun _ =>
    gB (gNN a3) fun y103 =>
    gB (gFQ y103 8 2) fun v104 =>
    k27 a0 x1 a2 v104
set_option maxHeartbeats 4000000 in
set_option maxRecDepth 100000 in
theorem b_X2_row_66 {G : gG} {l : Launch} {p : Program} {e : Env} {s : State} {m : MethodId} {args : Array Value} {below : List Frame} {meth : Method} {c : Code} {h0 : g_H} {r : (Nat ⊕ gE)} {h' : g_H} {Fd Ld : Nat} (X : gX G l yX2_row.cls cX2_row 4 (some (.object "GhostAssize$Cond")) [] yX2_row.name p s m args meth c) {rX2_row : Nat → Int32 → gM (Nat ⊕ gE)} {rX2_atom : Nat → gM (Nat ⊕ gE)} (KX2_row : ∀ {a0 : Nat} {x1 : Int32} {h h' : g_H} {r : (Nat ⊕ gE)}, (rX2_row a0 x1).1 h = some (r, h') → gMet G l yX2_row (Cond.code yX2_row cX2_row 4 (some (.object "GhostAssize$Cond"))) Fd Ld [.ref a0, .int x1] h (g_w g_wR r) h') (KX2_atom : ∀ {a0 : Nat} {h h' : g_H} {r : (Nat ⊕ gE)}, (rX2_atom a0).1 h = some (r, h') → gMet G l yX2_atom (Cond.code yX2_atom cX2_atom 5 (some (.object "GhostAssize$Cond"))) Fd Ld [.ref a0] h (g_w g_wR r) h') {k27 : Nat → Int32 → Nat → Option Nat → gM (Nat ⊕ gE)} (K27 : w_X2_row_27 G l p e s m args below meth c h0 r h' Fd Ld k27) : w_X2_row_66 G l p e s m args below meth c h0 r h' Fd Ld (f_X2_row_66 rX2_row rX2_atom k27) := by
  have hx := X.1
  have hb := X.2.1
  have hown := X.2.2.2.1
  have hts := X.2.2.2.2.1
  intro a0 x1 a2 a3 b0 b1 b2 b3 h H locs cells slots ls hf hI hl
  unfold f_X2_row_66 at hf
  refine lv_iload_n hx hb dX2_row_66 rfl (lv_at hl 1 rfl) ?_
  refine g_cBU hI hf (fun v9 h9 e9 l9 l9' => g_rI X hI l9 l9' ⟨Nat.le_refl _, Nat.le_refl _⟩ (As := [.ref b3, .int x1]) (m_X9_init X.2.2.2.2.2.2.2.2.2.2.1 e9) ydX9_init rfl rfl q1049 q1050 q140 q1051 rfl (show 1 + 1 ≤ Fd + 11 from by omega) (show 8 + (3 + 11) + 20 ≤ Ld + 226 from by omega) hl.1 rfl (by cases b0 <;> exact Nat.le_of_ble_eq_true rfl) dX2_row_67) (fun r101 h H locs cells slots hf hI => ?_)
  obtain ⟨y102, ey102, hfy102⟩ := gNN_b hf
  subst ey102
  have hf := hfy102
  refine g_pqN X hI hf fX9_2 q1056 rfl rfl rfl dX2_row_70 (fun h H locs hf hI => ?_)
  refine g_aloadQ_n hx hb dX2_row_73 rfl (lv_at hl 3 rfl) ?_
  obtain ⟨y103, ey103, hfy103⟩ := gNN_b hf
  subst ey103
  have hf := hfy103
  refine g_fqN X hI hf fX9_2 q1056 rfl rfl dX2_row_74 (fun v104 hf => ?_)
  refine g_astoreQ_n (lv' := [(3, va_rf v104), (0, .ref a0), (1, .int x1), (2, .ref a2)]) hx hb dX2_row_77 rfl hl (by decide) rfl (fun ls hl => ?_)
  refine lv_goto (tgt := 27) hx hb dX2_row_78 (by decide) ?_
  exact K27 _ _ _ _ _ _ _ _ _ _ hf hI (lv_sub hl [1, 2, 3, 0] rfl)
def f_X2_row_81 (rX2_row : Nat → Int32 → gM (Nat ⊕ gE)) (rX2_atom : Nat → gM (Nat ⊕ gE)) (a2 : Nat) : gM (Nat ⊕ gE) :=
    gRet (.inl a2)
set_option maxHeartbeats 4000000 in
set_option maxRecDepth 100000 in
theorem b_X2_row_81 {G : gG} {l : Launch} {p : Program} {e : Env} {s : State} {m : MethodId} {args : Array Value} {below : List Frame} {meth : Method} {c : Code} {h0 : g_H} {r : (Nat ⊕ gE)} {h' : g_H} {Fd Ld : Nat} (X : gX G l yX2_row.cls cX2_row 4 (some (.object "GhostAssize$Cond")) [] yX2_row.name p s m args meth c) {rX2_row : Nat → Int32 → gM (Nat ⊕ gE)} {rX2_atom : Nat → gM (Nat ⊕ gE)} (KX2_row : ∀ {a0 : Nat} {x1 : Int32} {h h' : g_H} {r : (Nat ⊕ gE)}, (rX2_row a0 x1).1 h = some (r, h') → gMet G l yX2_row (Cond.code yX2_row cX2_row 4 (some (.object "GhostAssize$Cond"))) Fd Ld [.ref a0, .int x1] h (g_w g_wR r) h') (KX2_atom : ∀ {a0 : Nat} {h h' : g_H} {r : (Nat ⊕ gE)}, (rX2_atom a0).1 h = some (r, h') → gMet G l yX2_atom (Cond.code yX2_atom cX2_atom 5 (some (.object "GhostAssize$Cond"))) Fd Ld [.ref a0] h (g_w g_wR r) h') : w_X2_row_81 G l p e s m args below meth c h0 r h' Fd Ld (f_X2_row_81 rX2_row rX2_atom) := by
  have hx := X.1
  have hb := X.2.1
  have hown := X.2.2.2.1
  have hts := X.2.2.2.2.1
  intro a2 h H locs cells slots ls hf hI hl
  unfold f_X2_row_81 at hf
  refine lv_aload_n hx hb dX2_row_81 rfl (lv_at hl 0 rfl) ?_
  cases gRet_e hf
  exact g_retR X hI (Or.inl ⟨_, rfl⟩) rfl dX2_row_82
def f_X2_row_39 (rX2_row : Nat → Int32 → gM (Nat ⊕ gE)) (rX2_atom : Nat → gM (Nat ⊕ gE)) (k27 : Nat → Int32 → Nat → Option Nat → gM (Nat ⊕ gE)) (a0 : Nat) (x1 : Int32) (a2 : Nat) (a3 : Option Nat) (b0 : Nat) (b1 : Nat) : gM (Nat ⊕ gE) :=
    gB (gCk b0 1) fun _ =>
    gB (f_X2_takes b0 b1) fun r101 =>
    gIf (r101 = 0)
    (f_X2_row_81 rX2_row rX2_atom a2)
    (gB (gNew 8 3) fun a102 =>
    gIf (x1 = 0)
    (gB (gCk a0 1) fun _ =>
    gT (rX2_row a0 (1 : Int32)) fun r103 =>
    f_X2_row_66 rX2_row rX2_atom k27 a0 x1 a2 a3 a3 a102 a102 r103)
    (gB (gCk a0 1) fun _ =>
    gT (rX2_atom a0) fun r104 =>
    f_X2_row_66 rX2_row rX2_atom k27 a0 x1 a2 a3 a3 a102 a102 r104))
set_option maxHeartbeats 4000000 in
set_option maxRecDepth 100000 in
theorem b_X2_row_39 {G : gG} {l : Launch} {p : Program} {e : Env} {s : State} {m : MethodId} {args : Array Value} {below : List Frame} {meth : Method} {c : Code} {h0 : g_H} {r : (Nat ⊕ gE)} {h' : g_H} {Fd Ld : Nat} (X : gX G l yX2_row.cls cX2_row 4 (some (.object "GhostAssize$Cond")) [] yX2_row.name p s m args meth c) {rX2_row : Nat → Int32 → gM (Nat ⊕ gE)} {rX2_atom : Nat → gM (Nat ⊕ gE)} (KX2_row : ∀ {a0 : Nat} {x1 : Int32} {h h' : g_H} {r : (Nat ⊕ gE)}, (rX2_row a0 x1).1 h = some (r, h') → gMet G l yX2_row (Cond.code yX2_row cX2_row 4 (some (.object "GhostAssize$Cond"))) Fd Ld [.ref a0, .int x1] h (g_w g_wR r) h') (KX2_atom : ∀ {a0 : Nat} {h h' : g_H} {r : (Nat ⊕ gE)}, (rX2_atom a0).1 h = some (r, h') → gMet G l yX2_atom (Cond.code yX2_atom cX2_atom 5 (some (.object "GhostAssize$Cond"))) Fd Ld [.ref a0] h (g_w g_wR r) h') {k27 : Nat → Int32 → Nat → Option Nat → gM (Nat ⊕ gE)} (K27 : w_X2_row_27 G l p e s m args below meth c h0 r h' Fd Ld k27) : w_X2_row_39 G l p e s m args below meth c h0 r h' Fd Ld (f_X2_row_39 rX2_row rX2_atom k27) := by
  have hx := X.1
  have hb := X.2.1
  have hown := X.2.2.2.1
  have hts := X.2.2.2.2.1
  intro a0 x1 a2 a3 b0 b1 h H locs cells slots ls hf hI hl
  unfold f_X2_row_39 at hf
  obtain ⟨hs, hf⟩ := gCk_b hf
  refine g_cBI hI hf (fun v9 h9 e9 l9 l9' => g_rV X hI l9 l9' ⟨Nat.le_refl _, Nat.le_refl _⟩ (As := [.ref b1]) (m_X2_takes X.2.2.2.2.2.2.2.2.2.2.1 e9) ydX2_takes hs rfl rfl q821 q823 qs21 q122 q824 rfl (show 5 + 1 ≤ Fd + 11 from by omega) (show 8 + (6 + 11) + 105 ≤ Ld + 226 from by omega) hl.1 rfl (Nat.le_of_ble_eq_true rfl) dX2_row_39) (fun r101 h H locs cells slots hf hI => ?_)
  refine lv_if_eq (tgt := 81) hx hb dX2_row_42 (by decide) (fun c42 => ?_) (fun c42 => ?_)
  · have hf := g_t c42 hf
    exact b_X2_row_81 X KX2_row KX2_atom _ _ _ _ _ _ _ hf hI (lv_sub hl [2] rfl)
  · have hf := g_f c42 hf
    refine g_aloadQ_n hx hb dX2_row_45 rfl (lv_at hl 3 rfl) ?_
    refine g_new X hI hf ⟨Nat.le_refl _, Nat.le_refl _⟩ cX9 q978 dX2_row_46 (fun a102 h H cells slots hf hI => ?_)
    refine lv_dup hx hb dX2_row_49 rfl ?_
    refine lv_iload_n hx hb dX2_row_50 rfl (lv_at hl 1 rfl) ?_
    refine lv_if_eq (tgt := 61) hx hb dX2_row_51 (by decide) (fun c51 => ?_) (fun c51 => ?_)
    · have hf := g_t c51 hf
      refine lv_aload_n hx hb dX2_row_61 rfl (lv_at hl 0 rfl) ?_
      refine lv_iconst (v := (1 : Int32)) hx hb dX2_row_62 (by decide) ?_
      obtain ⟨hs, hf⟩ := gCk_b hf
      refine g_cTR X hI (by decide) hf (fun v9 h9 e9 l9 l9' => g_rV X hI l9 l9' ⟨Nat.le_refl _, Nat.le_refl _⟩ (As := [.int (1 : Int32)]) (KX2_row e9) ydX2_row hs rfl rfl q974 q976 qs30 q122 q977 rfl (show Fd + 1 ≤ Fd + 11 from by omega) (show 8 + (4 + 11) + Ld ≤ Ld + 226 from by omega) hl.1 rfl (by cases a3 <;> exact Nat.le_of_ble_eq_true rfl) dX2_row_63) (fun r103 h H locs cells slots hf hI => ?_)
      exact b_X2_row_66 X KX2_row KX2_atom K27 _ _ _ _ _ _ _ _ _ _ _ _ _ _ hf hI (lv_sub hl [0, 1, 2, 3] rfl)
    · have hf := g_f c51 hf
      refine lv_aload_n hx hb dX2_row_54 rfl (lv_at hl 0 rfl) ?_
      obtain ⟨hs, hf⟩ := gCk_b hf
      refine g_cTR X hI (by decide) hf (fun v9 h9 e9 l9 l9' => g_rV X hI l9 l9' ⟨Nat.le_refl _, Nat.le_refl _⟩ (As := []) (KX2_atom e9) ydX2_atom hs rfl rfl q980 q982 qs31 q122 q983 rfl (show Fd + 1 ≤ Fd + 11 from by omega) (show 8 + (5 + 11) + Ld ≤ Ld + 226 from by omega) hl.1 rfl (by cases a3 <;> exact Nat.le_of_ble_eq_true rfl) dX2_row_55) (fun r104 h H locs cells slots hf hI => ?_)
      refine lv_goto (tgt := 66) hx hb dX2_row_58 (by decide) ?_
      exact b_X2_row_66 X KX2_row KX2_atom K27 _ _ _ _ _ _ _ _ _ _ _ _ _ _ hf hI (lv_sub hl [0, 1, 2, 3] rfl)
def f_X2_row_27 (rX2_row : Nat → Int32 → gM (Nat ⊕ gE)) (rX2_atom : Nat → gM (Nat ⊕ gE)) : Nat → Nat → Int32 → Nat → Option Nat → gM (Nat ⊕ gE)
  | 0, _, _, _, _ => gFail
  | n + 1, a0, x1, a2, a3 =>
    gIf (x1 = 0)
    (gB (gTx 20) fun t101 =>
    f_X2_row_39 rX2_row rX2_atom (f_X2_row_27 rX2_row rX2_atom n) a0 x1 a2 a3 a0 t101)
    (gB (gTx 19) fun t102 =>
    f_X2_row_39 rX2_row rX2_atom (f_X2_row_27 rX2_row rX2_atom n) a0 x1 a2 a3 a0 t102)
set_option maxHeartbeats 4000000 in
set_option maxRecDepth 100000 in
theorem b_X2_row_27 {G : gG} {l : Launch} {p : Program} {e : Env} {s : State} {m : MethodId} {args : Array Value} {below : List Frame} {meth : Method} {c : Code} {h0 : g_H} {r : (Nat ⊕ gE)} {h' : g_H} {Fd Ld : Nat} (X : gX G l yX2_row.cls cX2_row 4 (some (.object "GhostAssize$Cond")) [] yX2_row.name p s m args meth c) {rX2_row : Nat → Int32 → gM (Nat ⊕ gE)} {rX2_atom : Nat → gM (Nat ⊕ gE)} (KX2_row : ∀ {a0 : Nat} {x1 : Int32} {h h' : g_H} {r : (Nat ⊕ gE)}, (rX2_row a0 x1).1 h = some (r, h') → gMet G l yX2_row (Cond.code yX2_row cX2_row 4 (some (.object "GhostAssize$Cond"))) Fd Ld [.ref a0, .int x1] h (g_w g_wR r) h') (KX2_atom : ∀ {a0 : Nat} {h h' : g_H} {r : (Nat ⊕ gE)}, (rX2_atom a0).1 h = some (r, h') → gMet G l yX2_atom (Cond.code yX2_atom cX2_atom 5 (some (.object "GhostAssize$Cond"))) Fd Ld [.ref a0] h (g_w g_wR r) h') : ∀ n : Nat, w_X2_row_27 G l p e s m args below meth c h0 r h' Fd Ld (f_X2_row_27 rX2_row rX2_atom n) := by
  have hx := X.1
  have hb := X.2.1
  have hown := X.2.2.2.1
  have hts := X.2.2.2.2.1
  intro n
  induction n with
  | zero =>
    intro a0 x1 a2 a3 h H locs cells slots ls hf hI hl
    exact (gFail_f hf).elim
  | succ n ih =>
    intro a0 x1 a2 a3 h H locs cells slots ls hf hI hl
    rw [f_X2_row_27] at hf
    refine lv_aload_n hx hb dX2_row_27 rfl (lv_at hl 0 rfl) ?_
    refine lv_iload_n hx hb dX2_row_28 rfl (lv_at hl 1 rfl) ?_
    refine lv_if_eq (tgt := 37) hx hb dX2_row_29 (by decide) (fun c29 => ?_) (fun c29 => ?_)
    · have hf := g_t c29 hf
      refine g_ldcS (tx := "or") X hI hf (List.mem_of_getElem? (i := 20) rfl) dX2_row_37 (fun t101 hf => ?_)
      exact b_X2_row_39 X KX2_row KX2_atom ih _ _ _ _ _ _ _ _ _ _ _ _ hf hI (lv_sub hl [0, 1, 2, 3] rfl)
    · have hf := g_f c29 hf
      refine g_ldcS (tx := "and") X hI hf (List.mem_of_getElem? (i := 19) rfl) dX2_row_32 (fun t102 hf => ?_)
      refine lv_goto (tgt := 39) hx hb dX2_row_34 (by decide) ?_
      exact b_X2_row_39 X KX2_row KX2_atom ih _ _ _ _ _ _ _ _ _ _ _ _ hf hI (lv_sub hl [0, 1, 2, 3] rfl)
def f_X2_row_20 (rX2_row : Nat → Int32 → gM (Nat ⊕ gE)) (rX2_atom : Nat → gM (Nat ⊕ gE)) (a0 : Nat) (x1 : Int32) (b0 : Nat) (b1 : Nat) (b2 : Nat) : gM (Nat ⊕ gE) :=
    gB (f_X9_init b1 b2 x1) fun _ =>
    f_X2_row_27 rX2_row rX2_atom gN a0 x1 b0 (some b0)
set_option maxHeartbeats 4000000 in
set_option maxRecDepth 100000 in
theorem b_X2_row_20 {G : gG} {l : Launch} {p : Program} {e : Env} {s : State} {m : MethodId} {args : Array Value} {below : List Frame} {meth : Method} {c : Code} {h0 : g_H} {r : (Nat ⊕ gE)} {h' : g_H} {Fd Ld : Nat} (X : gX G l yX2_row.cls cX2_row 4 (some (.object "GhostAssize$Cond")) [] yX2_row.name p s m args meth c) {rX2_row : Nat → Int32 → gM (Nat ⊕ gE)} {rX2_atom : Nat → gM (Nat ⊕ gE)} (KX2_row : ∀ {a0 : Nat} {x1 : Int32} {h h' : g_H} {r : (Nat ⊕ gE)}, (rX2_row a0 x1).1 h = some (r, h') → gMet G l yX2_row (Cond.code yX2_row cX2_row 4 (some (.object "GhostAssize$Cond"))) Fd Ld [.ref a0, .int x1] h (g_w g_wR r) h') (KX2_atom : ∀ {a0 : Nat} {h h' : g_H} {r : (Nat ⊕ gE)}, (rX2_atom a0).1 h = some (r, h') → gMet G l yX2_atom (Cond.code yX2_atom cX2_atom 5 (some (.object "GhostAssize$Cond"))) Fd Ld [.ref a0] h (g_w g_wR r) h') : w_X2_row_20 G l p e s m args below meth c h0 r h' Fd Ld (f_X2_row_20 rX2_row rX2_atom) := by
  have hx := X.1
  have hb := X.2.1
  have hown := X.2.2.2.1
  have hts := X.2.2.2.2.1
  intro a0 x1 b0 b1 b2 h H locs cells slots ls hf hI hl
  unfold f_X2_row_20 at hf
  refine lv_iload_n hx hb dX2_row_20 rfl (lv_at hl 1 rfl) ?_
  refine g_cBU hI hf (fun v9 h9 e9 l9 l9' => g_rI X hI l9 l9' ⟨Nat.le_refl _, Nat.le_refl _⟩ (As := [.ref b2, .int x1]) (m_X9_init X.2.2.2.2.2.2.2.2.2.2.1 e9) ydX9_init rfl rfl q1049 q1050 q140 q1051 rfl (show 1 + 1 ≤ Fd + 11 from by omega) (show 8 + (3 + 11) + 20 ≤ Ld + 226 from by omega) hl.1 rfl (Nat.le_of_ble_eq_true rfl) dX2_row_21) (fun r101 h H locs cells slots hf hI => ?_)
  refine lv_astore_n (lv' := [(2, .ref b0), (0, .ref a0), (1, .int x1)]) hx hb dX2_row_24 rfl hl (by decide) rfl (fun ls hl => ?_)
  refine lv_aload_n hx hb dX2_row_25 rfl (lv_at hl 0 rfl) ?_
  refine lv_astore_n (lv' := [(3, .ref b0), (2, .ref b0), (0, .ref a0), (1, .int x1)]) hx hb dX2_row_26 rfl hl (by decide) rfl (fun ls hl => ?_)
  exact b_X2_row_27 X KX2_row KX2_atom gN _ _ _ _ _ _ _ _ _ _ hf hI (lv_sub hl [2, 3, 1, 0] rfl)
def f_X2_row (rX2_row : Nat → Int32 → gM (Nat ⊕ gE)) (rX2_atom : Nat → gM (Nat ⊕ gE)) (a0 : Nat) (x1 : Int32) : gM (Nat ⊕ gE) :=
    gB (gNew 8 3) fun a1 =>
    gIf (x1 = 0)
    (gB (gCk a0 1) fun _ =>
    gT (rX2_row a0 (1 : Int32)) fun r2 =>
    f_X2_row_20 rX2_row rX2_atom a0 x1 a1 a1 r2)
    (gB (gCk a0 1) fun _ =>
    gT (rX2_atom a0) fun r3 =>
    f_X2_row_20 rX2_row rX2_atom a0 x1 a1 a1 r3)
set_option maxHeartbeats 4000000 in
set_option maxRecDepth 100000 in
theorem m_X2_row {G : gG} {l : Launch} (hfl : l.stackTraces = false) {Fd Ld : Nat} {rX2_row : Nat → Int32 → gM (Nat ⊕ gE)} {rX2_atom : Nat → gM (Nat ⊕ gE)} (KX2_row : ∀ {a0 : Nat} {x1 : Int32} {h h' : g_H} {r : (Nat ⊕ gE)}, (rX2_row a0 x1).1 h = some (r, h') → gMet G l yX2_row (Cond.code yX2_row cX2_row 4 (some (.object "GhostAssize$Cond"))) Fd Ld [.ref a0, .int x1] h (g_w g_wR r) h') (KX2_atom : ∀ {a0 : Nat} {h h' : g_H} {r : (Nat ⊕ gE)}, (rX2_atom a0).1 h = some (r, h') → gMet G l yX2_atom (Cond.code yX2_atom cX2_atom 5 (some (.object "GhostAssize$Cond"))) Fd Ld [.ref a0] h (g_w g_wR r) h') {a0 : Nat} {x1 : Int32} {h h' : g_H} {r : (Nat ⊕ gE)} (hf : (f_X2_row rX2_row rX2_atom a0 x1).1 h = some (r, h')) : gMet G l yX2_row (Cond.code yX2_row cX2_row 4 (some (.object "GhostAssize$Cond"))) (Fd + 11) (Ld + 226) [.ref a0, .int x1] h (g_w g_wR r) h' := by
  refine g_head hfl ((f_X2_row rX2_row rX2_atom a0 x1).2 h r h' hf) (plainFor_of_name (by decide)) (Nat.le_of_ble_eq_true rfl) (fun p e s m below meth c H locs cells slots ls X hI hl9 => ?_)
  have hl : lv_has ls 4 [(0, .ref a0), (1, .int x1)] := hl9
  have hx := X.1
  have hb := X.2.1
  have hown := X.2.2.2.1
  have hts := X.2.2.2.2.1
  unfold f_X2_row at hf
  refine g_new X hI hf ⟨Nat.le_refl _, Nat.le_refl _⟩ cX9 q978 dX2_row_0 (fun a1 h H cells slots hf hI => ?_)
  refine lv_dup hx hb dX2_row_3 rfl ?_
  refine lv_iload_n hx hb dX2_row_4 rfl (lv_at hl 1 rfl) ?_
  refine lv_if_eq (tgt := 15) hx hb dX2_row_5 (by decide) (fun c5 => ?_) (fun c5 => ?_)
  · have hf := g_t c5 hf
    refine lv_aload_n hx hb dX2_row_15 rfl (lv_at hl 0 rfl) ?_
    refine lv_iconst (v := (1 : Int32)) hx hb dX2_row_16 (by decide) ?_
    obtain ⟨hs, hf⟩ := gCk_b hf
    refine g_cTR X hI (by decide) hf (fun v9 h9 e9 l9 l9' => g_rV X hI l9 l9' ⟨Nat.le_refl _, Nat.le_refl _⟩ (As := [.int (1 : Int32)]) (KX2_row e9) ydX2_row hs rfl rfl q974 q976 qs30 q122 q977 rfl (show Fd + 1 ≤ Fd + 11 from by omega) (show 8 + (4 + 11) + Ld ≤ Ld + 226 from by omega) hl.1 rfl (Nat.le_of_ble_eq_true rfl) dX2_row_17) (fun r2 h H locs cells slots hf hI => ?_)
    exact b_X2_row_20 X KX2_row KX2_atom _ _ _ _ _ _ _ _ _ _ _ hf hI (lv_sub hl [0, 1] rfl)
  · have hf := g_f c5 hf
    refine lv_aload_n hx hb dX2_row_8 rfl (lv_at hl 0 rfl) ?_
    obtain ⟨hs, hf⟩ := gCk_b hf
    refine g_cTR X hI (by decide) hf (fun v9 h9 e9 l9 l9' => g_rV X hI l9 l9' ⟨Nat.le_refl _, Nat.le_refl _⟩ (As := []) (KX2_atom e9) ydX2_atom hs rfl rfl q980 q982 qs31 q122 q983 rfl (show Fd + 1 ≤ Fd + 11 from by omega) (show 8 + (5 + 11) + Ld ≤ Ld + 226 from by omega) hl.1 rfl (Nat.le_of_ble_eq_true rfl) dX2_row_9) (fun r3 h H locs cells slots hf hI => ?_)
    refine lv_goto (tgt := 20) hx hb dX2_row_12 (by decide) ?_
    exact b_X2_row_20 X KX2_row KX2_atom _ _ _ _ _ _ _ _ _ _ _ hf hI (lv_sub hl [0, 1] rfl)
/-! tieA -/
def f_recA : Nat → (Nat → Int32 → gM (Nat ⊕ gE)) × (Nat → gM (Nat ⊕ gE))
  | 0 => (fun _ _ => gFail, fun _ => gFail)
  | d + 1 => (fun a0 x1 => f_X2_row (f_recA d).1 (f_recA d).2 a0 x1, fun a0 => f_X2_atom (f_recA d).1 (f_recA d).2 a0)
def f_X2_row_r (d : Nat) : Nat → Int32 → gM (Nat ⊕ gE) := (f_recA d).1
def f_X2_atom_r (d : Nat) : Nat → gM (Nat ⊕ gE) := (f_recA d).2
set_option maxRecDepth 100000 in
theorem m_recA {G : gG} {l : Launch} (hfl : l.stackTraces = false) : ∀ d : Nat, (∀ {a0 : Nat} {x1 : Int32} {h h' : g_H} {r : (Nat ⊕ gE)}, ((f_recA d).1 a0 x1).1 h = some (r, h') → gMet G l yX2_row (Cond.code yX2_row cX2_row 4 (some (.object "GhostAssize$Cond"))) (11 * d) (226 * d) [.ref a0, .int x1] h (g_w g_wR r) h') ∧ (∀ {a0 : Nat} {h h' : g_H} {r : (Nat ⊕ gE)}, ((f_recA d).2 a0).1 h = some (r, h') → gMet G l yX2_atom (Cond.code yX2_atom cX2_atom 5 (some (.object "GhostAssize$Cond"))) (11 * d) (226 * d) [.ref a0] h (g_w g_wR r) h') := by
  intro d
  induction d with
  | zero =>
    refine ⟨?_, ?_⟩
    · intro _ _ _ _ _ hf
      exact (gFail_f hf).elim
    · intro _ _ _ _ hf
      exact (gFail_f hf).elim
  | succ d ih =>
    rw [show 11 * (d + 1) = 11 * d + 11 from by omega, show 226 * (d + 1) = 226 * d + 226 from by omega]
    refine ⟨?_, ?_⟩
    · intro _ _ _ _ _ hf
      exact m_X2_row hfl ih.1 ih.2 hf
    · intro _ _ _ _ hf
      exact m_X2_atom hfl ih.1 ih.2 hf
theorem m_X2_row_r {G : gG} {l : Launch} (hfl : l.stackTraces = false) (d : Nat) {a0 : Nat} {x1 : Int32} {h h' : g_H} {r : (Nat ⊕ gE)} (hf : (f_X2_row_r d a0 x1).1 h = some (r, h')) : gMet G l yX2_row (Cond.code yX2_row cX2_row 4 (some (.object "GhostAssize$Cond"))) (11 * d) (226 * d) [.ref a0, .int x1] h (g_w g_wR r) h' := (m_recA hfl d).1 hf
theorem m_X2_atom_r {G : gG} {l : Launch} (hfl : l.stackTraces = false) (d : Nat) {a0 : Nat} {h h' : g_H} {r : (Nat ⊕ gE)} (hf : (f_X2_atom_r d a0).1 h = some (r, h')) : gMet G l yX2_atom (Cond.code yX2_atom cX2_atom 5 (some (.object "GhostAssize$Cond"))) (11 * d) (226 * d) [.ref a0] h (g_w g_wR r) h' := (m_recA hfl d).2 hf
/-! X14_init_c14 -/
def f_X14_init_c14 (a0 : Nat) (x1 : Int32) (a2 : Option Nat) : gM Unit :=
    gB (gPI a0 14 0 x1) fun _ =>
    gB (gPQ a0 14 1 a2) fun _ =>
    gRet ()
set_option maxHeartbeats 4000000 in
set_option maxRecDepth 100000 in
theorem m_X14_init_c14 {G : gG} {l : Launch} (hfl : l.stackTraces = false) {a0 : Nat} {x1 : Int32} {a2 : Option Nat} {h h' : g_H} {r : Unit} (hf : (f_X14_init_c14 a0 x1 a2).1 h = some (r, h')) : gMet G l yX14_init (Cond.code yX14_init cX14_init 3 none) 1 20 [.ref a0, .int x1, va_rf a2] h (.inl (g_wU r)) h' := by
  refine g_head hfl ((f_X14_init_c14 a0 x1 a2).2 h r h' hf) (plainFor_of_name (by decide)) (by cases a2 <;> exact Nat.le_of_ble_eq_true rfl) (fun p e s m below meth c H locs cells slots ls X hI hl9 => ?_)
  have hl : lv_has ls 3 [(0, .ref a0), (1, .int x1), (2, va_rf a2)] := by
    have e9 : lv_args 0 [.ref a0, .int x1, va_rf a2] = [(0, .ref a0), (1, .int x1), (2, va_rf a2)] := by cases a2 <;> rfl
    rw [e9] at hl9
    exact hl9
  have hx := X.1
  have hb := X.2.1
  have hown := X.2.2.2.1
  have hts := X.2.2.2.2.1
  unfold f_X14_init_c14 at hf
  refine lv_aload_n hx hb dX14_init_0 rfl (lv_at hl 0 rfl) ?_
  refine g_oinit X q1074 hl.1 (Nat.le_of_ble_eq_true rfl) (Nat.le_of_ble_eq_true rfl) (Nat.le_of_ble_eq_true rfl) dX14_init_1 ?_
  refine lv_aload_n hx hb dX14_init_4 rfl (lv_at hl 0 rfl) ?_
  refine lv_iload_n hx hb dX14_init_5 rfl (lv_at hl 1 rfl) ?_
  refine g_piF X hI hf fX15_0 q1075 rfl rfl dX14_init_6 (fun h H locs hf hI => ?_)
  refine lv_aload_n hx hb dX14_init_9 rfl (lv_at hl 0 rfl) ?_
  refine g_aloadQ_n hx hb dX14_init_10 rfl (lv_at hl 2 rfl) ?_
  refine g_pqF X hI hf fX15_1 q1076 rfl rfl rfl rfl dX14_init_11 (fun h H locs hf hI => ?_)
  cases gRet_e hf
  exact g_retU X hI rfl dX14_init_14
/-! X15_init -/
def f_X15_init (a0 : Nat) (x1 : Int32) (a2 : Option Nat) : gM Unit :=
    gB (f_X14_init_c14 a0 x1 a2) fun _ =>
    gRet ()
set_option maxHeartbeats 4000000 in
set_option maxRecDepth 100000 in
theorem m_X15_init {G : gG} {l : Launch} (hfl : l.stackTraces = false) {a0 : Nat} {x1 : Int32} {a2 : Option Nat} {h h' : g_H} {r : Unit} (hf : (f_X15_init a0 x1 a2).1 h = some (r, h')) : gMet G l yX15_init (Cond.code yX15_init cX15_init 3 none) 2 42 [.ref a0, .int x1, va_rf a2] h (.inl (g_wU r)) h' := by
  refine g_head hfl ((f_X15_init a0 x1 a2).2 h r h' hf) (plainFor_of_name (by decide)) (by cases a2 <;> exact Nat.le_of_ble_eq_true rfl) (fun p e s m below meth c H locs cells slots ls X hI hl9 => ?_)
  have hl : lv_has ls 3 [(0, .ref a0), (1, .int x1), (2, va_rf a2)] := by
    have e9 : lv_args 0 [.ref a0, .int x1, va_rf a2] = [(0, .ref a0), (1, .int x1), (2, va_rf a2)] := by cases a2 <;> rfl
    rw [e9] at hl9
    exact hl9
  have hx := X.1
  have hb := X.2.1
  have hown := X.2.2.2.1
  have hts := X.2.2.2.2.1
  unfold f_X15_init at hf
  refine lv_aload_n hx hb dX15_init_0 rfl (lv_at hl 0 rfl) ?_
  refine lv_iload_n hx hb dX15_init_1 rfl (lv_at hl 1 rfl) ?_
  refine g_aloadQ_n hx hb dX15_init_2 rfl (lv_at hl 2 rfl) ?_
  refine g_cBU hI hf (fun v9 h9 e9 l9 l9' => g_rI X hI l9 l9' ⟨Nat.le_refl _, Nat.le_refl _⟩ (As := [.int x1, va_rf a2]) (m_X14_init_c14 X.2.2.2.2.2.2.2.2.2.2.1 e9) ydX14_init rfl rfl q1071 q1072 q145 q1073 rfl (Nat.le_of_ble_eq_true rfl) (Nat.le_of_ble_eq_true rfl) hl.1 rfl (Nat.le_of_ble_eq_true rfl) dX15_init_3) (fun r1 h H locs cells slots hf hI => ?_)
  cases gRet_e hf
  exact g_retU X hI rfl dX15_init_6
/-! X14_init_c15 -/
def f_X14_init_c15 (a0 : Nat) (x1 : Int32) (a2 : Option Nat) : gM Unit :=
    gB (gPI a0 15 0 x1) fun _ =>
    gB (gPQ a0 15 1 a2) fun _ =>
    gRet ()
set_option maxHeartbeats 4000000 in
set_option maxRecDepth 100000 in
theorem m_X14_init_c15 {G : gG} {l : Launch} (hfl : l.stackTraces = false) {a0 : Nat} {x1 : Int32} {a2 : Option Nat} {h h' : g_H} {r : Unit} (hf : (f_X14_init_c15 a0 x1 a2).1 h = some (r, h')) : gMet G l yX14_init (Cond.code yX14_init cX14_init 3 none) 1 20 [.ref a0, .int x1, va_rf a2] h (.inl (g_wU r)) h' := by
  refine g_head hfl ((f_X14_init_c15 a0 x1 a2).2 h r h' hf) (plainFor_of_name (by decide)) (by cases a2 <;> exact Nat.le_of_ble_eq_true rfl) (fun p e s m below meth c H locs cells slots ls X hI hl9 => ?_)
  have hl : lv_has ls 3 [(0, .ref a0), (1, .int x1), (2, va_rf a2)] := by
    have e9 : lv_args 0 [.ref a0, .int x1, va_rf a2] = [(0, .ref a0), (1, .int x1), (2, va_rf a2)] := by cases a2 <;> rfl
    rw [e9] at hl9
    exact hl9
  have hx := X.1
  have hb := X.2.1
  have hown := X.2.2.2.1
  have hts := X.2.2.2.2.1
  unfold f_X14_init_c15 at hf
  refine lv_aload_n hx hb dX14_init_0 rfl (lv_at hl 0 rfl) ?_
  refine g_oinit X q1074 hl.1 (Nat.le_of_ble_eq_true rfl) (Nat.le_of_ble_eq_true rfl) (Nat.le_of_ble_eq_true rfl) dX14_init_1 ?_
  refine lv_aload_n hx hb dX14_init_4 rfl (lv_at hl 0 rfl) ?_
  refine lv_iload_n hx hb dX14_init_5 rfl (lv_at hl 1 rfl) ?_
  refine g_piF X hI hf fX16_0 q1075 rfl rfl dX14_init_6 (fun h H locs hf hI => ?_)
  refine lv_aload_n hx hb dX14_init_9 rfl (lv_at hl 0 rfl) ?_
  refine g_aloadQ_n hx hb dX14_init_10 rfl (lv_at hl 2 rfl) ?_
  refine g_pqF X hI hf fX16_1 q1076 rfl rfl rfl rfl dX14_init_11 (fun h H locs hf hI => ?_)
  cases gRet_e hf
  exact g_retU X hI rfl dX14_init_14
/-! X16_init -/
abbrev w_X16_init_16 (G : gG) (l : Launch) (p : Program) (e : Env) (s : State) (m : MethodId) (args : Array Value) (below : List Frame) (meth : Method) (c : Code) (h0 : g_H) (r : Unit) (h' : g_H) (k : Nat → Int32 → gM Unit) : Prop := ∀ (b0 : Nat) (u1 : Int32) (h : g_H) (H : Heap) (locs : List Loc) (cells slots : Nat) (ls : Array Slot), (k b0 u1).1 h = some (r, h') → gI G h0 h H locs cells slots → lv_has ls 4 [] → W p l e (g_rm 2 42 h0 h') s m args below meth c H locs cells slots (gQ G below args s h0 h' (.inl (g_wU r))) (F0 m 16 ls [.int u1, .ref b0])
def f_X16_init_16 (b0 : Nat) (u1 : Int32) : gM Unit :=
    gB (gPI b0 15 2 u1) fun _ =>
    gRet ()
set_option maxHeartbeats 4000000 in
set_option maxRecDepth 100000 in
theorem b_X16_init_16 {G : gG} {l : Launch} {p : Program} {e : Env} {s : State} {m : MethodId} {args : Array Value} {below : List Frame} {meth : Method} {c : Code} {h0 : g_H} {r : Unit} {h' : g_H} (X : gX G l yX16_init.cls cX16_init 4 none [] yX16_init.name p s m args meth c) : w_X16_init_16 G l p e s m args below meth c h0 r h' (f_X16_init_16) := by
  have hx := X.1
  have hb := X.2.1
  have hown := X.2.2.2.1
  have hts := X.2.2.2.2.1
  intro b0 u1 h H locs cells slots ls hf hI hl
  unfold f_X16_init_16 at hf
  refine g_piF X hI hf fX16_2 q1088 rfl rfl dX16_init_16 (fun h H locs hf hI => ?_)
  cases gRet_e hf
  exact g_retU X hI rfl dX16_init_19
def f_X16_init (a0 : Nat) (x1 : Int32) (a2 : Option Nat) (x3 : Int32) : gM Unit :=
    gB (f_X14_init_c15 a0 x1 a2) fun _ =>
    gIf (x3 = 0)
    (f_X16_init_16 a0 (-1 : Int32))
    (f_X16_init_16 a0 (1 : Int32))
set_option maxHeartbeats 4000000 in
set_option maxRecDepth 100000 in
theorem m_X16_init {G : gG} {l : Launch} (hfl : l.stackTraces = false) {a0 : Nat} {x1 : Int32} {a2 : Option Nat} {x3 : Int32} {h h' : g_H} {r : Unit} (hf : (f_X16_init a0 x1 a2 x3).1 h = some (r, h')) : gMet G l yX16_init (Cond.code yX16_init cX16_init 4 none) 2 42 [.ref a0, .int x1, va_rf a2, .int x3] h (.inl (g_wU r)) h' := by
  refine g_head hfl ((f_X16_init a0 x1 a2 x3).2 h r h' hf) (plainFor_of_name (by decide)) (by cases a2 <;> exact Nat.le_of_ble_eq_true rfl) (fun p e s m below meth c H locs cells slots ls X hI hl9 => ?_)
  have hl : lv_has ls 4 [(0, .ref a0), (1, .int x1), (2, va_rf a2), (3, .int x3)] := by
    have e9 : lv_args 0 [.ref a0, .int x1, va_rf a2, .int x3] = [(0, .ref a0), (1, .int x1), (2, va_rf a2), (3, .int x3)] := by cases a2 <;> rfl
    rw [e9] at hl9
    exact hl9
  have hx := X.1
  have hb := X.2.1
  have hown := X.2.2.2.1
  have hts := X.2.2.2.2.1
  unfold f_X16_init at hf
  refine lv_aload_n hx hb dX16_init_0 rfl (lv_at hl 0 rfl) ?_
  refine lv_iload_n hx hb dX16_init_1 rfl (lv_at hl 1 rfl) ?_
  refine g_aloadQ_n hx hb dX16_init_2 rfl (lv_at hl 2 rfl) ?_
  refine g_cBU hI hf (fun v9 h9 e9 l9 l9' => g_rI X hI l9 l9' ⟨Nat.le_refl _, Nat.le_refl _⟩ (As := [.int x1, va_rf a2]) (m_X14_init_c15 X.2.2.2.2.2.2.2.2.2.2.1 e9) ydX14_init rfl rfl q1087 q1072 q145 q1073 rfl (Nat.le_of_ble_eq_true rfl) (Nat.le_of_ble_eq_true rfl) hl.1 rfl (Nat.le_of_ble_eq_true rfl) dX16_init_3) (fun r1 h H locs cells slots hf hI => ?_)
  refine lv_aload_n hx hb dX16_init_6 rfl (lv_at hl 0 rfl) ?_
  refine lv_iload_n hx hb dX16_init_7 rfl (lv_at hl 3 rfl) ?_
  refine lv_if_eq (tgt := 15) hx hb dX16_init_8 (by decide) (fun c8 => ?_) (fun c8 => ?_)
  · have hf := g_t c8 hf
    refine lv_iconst (v := (-1 : Int32)) hx hb dX16_init_15 (by decide) ?_
    exact b_X16_init_16 X _ _ _ _ _ _ _ _ hf hI (lv_sub hl [] rfl)
  · have hf := g_f c8 hf
    refine lv_iconst (v := (1 : Int32)) hx hb dX16_init_11 (by decide) ?_
    refine lv_goto (tgt := 16) hx hb dX16_init_12 (by decide) ?_
    exact b_X16_init_16 X _ _ _ _ _ _ _ _ hf hI (lv_sub hl [] rfl)
/-! X2_law -/
abbrev w_X2_law_129 (G : gG) (l : Launch) (p : Program) (e : Env) (s : State) (m : MethodId) (args : Array Value) (below : List Frame) (meth : Method) (c : Code) (h0 : g_H) (r : (Int32 ⊕ gE)) (h' : g_H) (k : Nat → Int32 → Nat → Int32 → Nat → gM (Int32 ⊕ gE)) : Prop := ∀ (a0 : Nat) (x2 : Int32) (b0 : Nat) (u1 : Int32) (b2 : Nat) (h : g_H) (H : Heap) (locs : List Loc) (cells slots : Nat) (ls : Array Slot), (k a0 x2 b0 u1 b2).1 h = some (r, h') → gI G h0 h H locs cells slots → lv_has ls 6 [(0, .ref a0), (2, .int x2)] → W p l e (g_rm 265 5447 h0 h') s m args below meth c H locs cells slots (gQ G below args s h0 h' (g_w g_wI r)) (F0 m 129 ls [.ref b2, .int u1, .ref b0])
abbrev w_X2_law_126 (G : gG) (l : Launch) (p : Program) (e : Env) (s : State) (m : MethodId) (args : Array Value) (below : List Frame) (meth : Method) (c : Code) (h0 : g_H) (r : (Int32 ⊕ gE)) (h' : g_H) (k : Nat → Int32 → Nat → Int32 → Nat → Nat → Int32 → Option Nat → Int32 → gM (Int32 ⊕ gE)) : Prop := ∀ (a0 : Nat) (x2 : Int32) (b0 : Nat) (u1 : Int32) (b2 : Nat) (b3 : Nat) (u4 : Int32) (b5 : Option Nat) (u6 : Int32) (h : g_H) (H : Heap) (locs : List Loc) (cells slots : Nat) (ls : Array Slot), (k a0 x2 b0 u1 b2 b3 u4 b5 u6).1 h = some (r, h') → gI G h0 h H locs cells slots → lv_has ls 6 [(0, .ref a0), (2, .int x2)] → W p l e (g_rm 265 5447 h0 h') s m args below meth c H locs cells slots (gQ G below args s h0 h' (g_w g_wI r)) (F0 m 126 ls [.int u6, va_rf b5, .int u4, .ref b3, .ref b2, .int u1, .ref b0])
abbrev w_X2_law_83 (G : gG) (l : Launch) (p : Program) (e : Env) (s : State) (m : MethodId) (args : Array Value) (below : List Frame) (meth : Method) (c : Code) (h0 : g_H) (r : (Int32 ⊕ gE)) (h' : g_H) (k : Nat → Int32 → Int32 → Int32 → Option Nat → gM (Int32 ⊕ gE)) : Prop := ∀ (a0 : Nat) (x2 : Int32) (x3 : Int32) (x4 : Int32) (b0 : Option Nat) (h : g_H) (H : Heap) (locs : List Loc) (cells slots : Nat) (ls : Array Slot), (k a0 x2 x3 x4 b0).1 h = some (r, h') → gI G h0 h H locs cells slots → lv_has ls 6 [(0, .ref a0), (2, .int x2), (3, .int x3), (4, .int x4)] → W p l e (g_rm 265 5447 h0 h') s m args below meth c H locs cells slots (gQ G below args s h0 h' (g_w g_wI r)) (F0 m 83 ls [va_rf b0])
abbrev w_X2_law_56 (G : gG) (l : Launch) (p : Program) (e : Env) (s : State) (m : MethodId) (args : Array Value) (below : List Frame) (meth : Method) (c : Code) (h0 : g_H) (r : (Int32 ⊕ gE)) (h' : g_H) (k : Nat → Int32 → Int32 → gM (Int32 ⊕ gE)) : Prop := ∀ (a0 : Nat) (x2 : Int32) (x3 : Int32) (h : g_H) (H : Heap) (locs : List Loc) (cells slots : Nat) (ls : Array Slot), (k a0 x2 x3).1 h = some (r, h') → gI G h0 h H locs cells slots → lv_has ls 6 [(0, .ref a0), (2, .int x2), (3, .int x3)] → W p l e (g_rm 265 5447 h0 h') s m args below meth c H locs cells slots (gQ G below args s h0 h' (g_w g_wI r)) (F0 m 56 ls [])
abbrev w_X2_law_44 (G : gG) (l : Launch) (p : Program) (e : Env) (s : State) (m : MethodId) (args : Array Value) (below : List Frame) (meth : Method) (c : Code) (h0 : g_H) (r : (Int32 ⊕ gE)) (h' : g_H) (k : Nat → Int32 → Int32 → gM (Int32 ⊕ gE)) : Prop := ∀ (a0 : Nat) (x2 : Int32) (u0 : Int32) (h : g_H) (H : Heap) (locs : List Loc) (cells slots : Nat) (ls : Array Slot), (k a0 x2 u0).1 h = some (r, h') → gI G h0 h H locs cells slots → lv_has ls 6 [(0, .ref a0), (2, .int x2)] → W p l e (g_rm 265 5447 h0 h') s m args below meth c H locs cells slots (gQ G below args s h0 h' (g_w g_wI r)) (F0 m 44 ls [.int u0])
abbrev w_X2_law_136 (G : gG) (l : Launch) (p : Program) (e : Env) (s : State) (m : MethodId) (args : Array Value) (below : List Frame) (meth : Method) (c : Code) (h0 : g_H) (r : (Int32 ⊕ gE)) (h' : g_H) (k : Int32 → gM (Int32 ⊕ gE)) : Prop := ∀ (x2 : Int32) (h : g_H) (H : Heap) (locs : List Loc) (cells slots : Nat) (ls : Array Slot), (k x2).1 h = some (r, h') → gI G h0 h H locs cells slots → lv_has ls 6 [(2, .int x2)] → W p l e (g_rm 265 5447 h0 h') s m args below meth c H locs cells slots (gQ G below args s h0 h' (g_w g_wI r)) (F0 m 136 ls [])
abbrev w_X2_law_7 (G : gG) (l : Launch) (p : Program) (e : Env) (s : State) (m : MethodId) (args : Array Value) (below : List Frame) (meth : Method) (c : Code) (h0 : g_H) (r : (Int32 ⊕ gE)) (h' : g_H) (k : Nat → Int32 → gM (Int32 ⊕ gE)) : Prop := ∀ (a0 : Nat) (x2 : Int32) (h : g_H) (H : Heap) (locs : List Loc) (cells slots : Nat) (ls : Array Slot), (k a0 x2).1 h = some (r, h') → gI G h0 h H locs cells slots → lv_has ls 6 [(0, .ref a0), (2, .int x2)] → W p l e (g_rm 265 5447 h0 h') s m args below meth c H locs cells slots (gQ G below args s h0 h' (g_w g_wI r)) (F0 m 7 ls [])
def f_X2_law_129 (k7 : Nat → Int32 → gM (Int32 ⊕ gE)) (a0 : Nat) (x2 : Int32) (b0 : Nat) (u1 : Int32) (b2 : Nat) : gM (Int32 ⊕ gE) :=
    gB (gSh b2) fun c101 =>
    gB (gSQ b0 6 u1 c101 b2) fun _ =>
    k7 a0 (x2 + (1 : Int32))
set_option maxHeartbeats 4000000 in
set_option maxRecDepth 100000 in
theorem b_X2_law_129 {G : gG} {l : Launch} {p : Program} {e : Env} {s : State} {m : MethodId} {args : Array Value} {below : List Frame} {meth : Method} {c : Code} {h0 : g_H} {r : (Int32 ⊕ gE)} {h' : g_H} (X : gX G l yX2_law.cls cX2_law 6 (some .int) [] yX2_law.name p s m args meth c) {k7 : Nat → Int32 → gM (Int32 ⊕ gE)} (K7 : w_X2_law_7 G l p e s m args below meth c h0 r h' k7) : w_X2_law_129 G l p e s m args below meth c h0 r h' (f_X2_law_129 k7) := by
  have hx := X.1
  have hb := X.2.1
  have hown := X.2.2.2.1
  have hts := X.2.2.2.2.1
  intro a0 x2 b0 u1 b2 h H locs cells slots ls hf hI hl
  unfold f_X2_law_129 at hf
  obtain ⟨c101, -, hf⟩ := gSh_b hf
  refine g_sqL X hI hf dX2_law_129 (fun h H locs hf hI => ?_)
  refine lv_iinc (v := (x2 + (1 : Int32))) (lv' := [(2, .int (x2 + (1 : Int32))), (0, .ref a0)]) hx hb dX2_law_130 hl (k := 1) rfl rfl (by decide) rfl (fun ls hl => ?_)
  refine lv_goto (tgt := 7) hx hb dX2_law_133 (by decide) ?_
  exact K7 _ _ _ _ _ _ _ _ hf hI (lv_sub hl [1, 0] rfl)
def f_X2_law_126 (k7 : Nat → Int32 → gM (Int32 ⊕ gE)) (a0 : Nat) (x2 : Int32) (b0 : Nat) (u1 : Int32) (b2 : Nat) (b3 : Nat) (u4 : Int32) (b5 : Option Nat) (u6 : Int32) : gM (Int32 ⊕ gE) :=
    gB (f_X16_init b3 u4 b5 u6) fun _ =>
    f_X2_law_129 k7 a0 x2 b0 u1 b2
set_option maxHeartbeats 4000000 in
set_option maxRecDepth 100000 in
theorem b_X2_law_126 {G : gG} {l : Launch} {p : Program} {e : Env} {s : State} {m : MethodId} {args : Array Value} {below : List Frame} {meth : Method} {c : Code} {h0 : g_H} {r : (Int32 ⊕ gE)} {h' : g_H} (X : gX G l yX2_law.cls cX2_law 6 (some .int) [] yX2_law.name p s m args meth c) {k7 : Nat → Int32 → gM (Int32 ⊕ gE)} (K7 : w_X2_law_7 G l p e s m args below meth c h0 r h' k7) : w_X2_law_126 G l p e s m args below meth c h0 r h' (f_X2_law_126 k7) := by
  have hx := X.1
  have hb := X.2.1
  have hown := X.2.2.2.1
  have hts := X.2.2.2.2.1
  intro a0 x2 b0 u1 b2 b3 u4 b5 u6 h H locs cells slots ls hf hI hl
  unfold f_X2_law_126 at hf
  refine g_cBU hI hf (fun v9 h9 e9 l9 l9' => g_rI X hI l9 l9' ⟨Nat.le_refl _, Nat.le_refl _⟩ (As := [.int u4, va_rf b5, .int u6]) (m_X16_init X.2.2.2.2.2.2.2.2.2.2.1 e9) ydX16_init rfl rfl q1084 q1085 q147 q1086 rfl (Nat.le_of_ble_eq_true rfl) (Nat.le_of_ble_eq_true rfl) hl.1 rfl (Nat.le_of_ble_eq_true rfl) dX2_law_126) (fun r101 h H locs cells slots hf hI => ?_)
  exact b_X2_law_129 X K7 _ _ _ _ _ _ _ _ _ _ _ hf hI (lv_sub hl [0, 1] rfl)
def f_X2_law_83 (k7 : Nat → Int32 → gM (Int32 ⊕ gE)) (a0 : Nat) (x2 : Int32) (x3 : Int32) (x4 : Int32) (b0 : Option Nat) : gM (Int32 ⊕ gE) :=
    gB (gFR a0 1 3) fun v101 =>
    gIf (x3 = (2 : Int32))
    (gB (gNew 14 2) fun a103 =>
    gB (f_X15_init a103 x4 b0) fun _ =>
    f_X2_law_129 k7 a0 x2 v101 x2 a103)
    (gB (gNew 15 3) fun a102 =>
    gIf (x3 = 0)
    (f_X2_law_126 k7 a0 x2 v101 x2 a102 a102 x4 b0 (1 : Int32))
    (f_X2_law_126 k7 a0 x2 v101 x2 a102 a102 x4 b0 (0 : Int32)))
set_option maxHeartbeats 4000000 in
set_option maxRecDepth 100000 in
theorem b_X2_law_83 {G : gG} {l : Launch} {p : Program} {e : Env} {s : State} {m : MethodId} {args : Array Value} {below : List Frame} {meth : Method} {c : Code} {h0 : g_H} {r : (Int32 ⊕ gE)} {h' : g_H} (X : gX G l yX2_law.cls cX2_law 6 (some .int) [] yX2_law.name p s m args meth c) {k7 : Nat → Int32 → gM (Int32 ⊕ gE)} (K7 : w_X2_law_7 G l p e s m args below meth c h0 r h' k7) : w_X2_law_83 G l p e s m args below meth c h0 r h' (f_X2_law_83 k7) := by
  have hx := X.1
  have hb := X.2.1
  have hown := X.2.2.2.1
  have hts := X.2.2.2.2.1
  intro a0 x2 x3 x4 b0 h H locs cells slots ls hf hI hl
  unfold f_X2_law_83 at hf
  refine g_astoreQ (lv' := [(5, va_rf b0), (0, .ref a0), (2, .int x2), (3, .int x3), (4, .int x4)]) hx hb dX2_law_83 hl (by decide) rfl (fun ls hl => ?_)
  refine lv_aload_n hx hb dX2_law_85 rfl (lv_at hl 1 rfl) ?_
  refine g_fr X hI hf fX2_3 q399 rfl rfl dX2_law_86 (fun v101 hf => ?_)
  refine lv_iload_n hx hb dX2_law_89 rfl (lv_at hl 2 rfl) ?_
  refine lv_iload_n hx hb dX2_law_90 rfl (lv_at hl 3 rfl) ?_
  refine lv_iconst (v := (2 : Int32)) hx hb dX2_law_91 (by decide) ?_
  refine lv_icmp_ne (tgt := 109) hx hb dX2_law_92 (by decide) (fun c92 => ?_) (fun c92 => ?_)
  · have hf := g_f c92 hf
    refine g_new X hI hf ⟨Nat.le_refl _, Nat.le_refl _⟩ cX16 q1082 dX2_law_109 (fun a102 h H cells slots hf hI => ?_)
    refine lv_dup hx hb dX2_law_112 rfl ?_
    refine lv_iload hx hb dX2_law_113 (lv_at hl 4 rfl) ?_
    refine g_aloadQ hx hb dX2_law_115 (lv_at hl 0 rfl) ?_
    refine lv_iload_n hx hb dX2_law_117 rfl (lv_at hl 3 rfl) ?_
    refine lv_if_ne (tgt := 125) hx hb dX2_law_118 (by decide) (fun c118 => ?_) (fun c118 => ?_)
    · have hf := g_f c118 hf
      refine lv_iconst (v := (0 : Int32)) hx hb dX2_law_125 (by decide) ?_
      exact b_X2_law_126 X K7 _ _ _ _ _ _ _ _ _ _ _ _ _ _ _ hf hI (lv_sub hl [1, 2] rfl)
    · have hf := g_t c118 hf
      refine lv_iconst (v := (1 : Int32)) hx hb dX2_law_121 (by decide) ?_
      refine lv_goto (tgt := 126) hx hb dX2_law_122 (by decide) ?_
      exact b_X2_law_126 X K7 _ _ _ _ _ _ _ _ _ _ _ _ _ _ _ hf hI (lv_sub hl [1, 2] rfl)
  · have hf := g_t c92 hf
    refine g_new X hI hf ⟨Nat.le_refl _, Nat.le_refl _⟩ cX15 q1066 dX2_law_95 (fun a103 h H cells slots hf hI => ?_)
    refine lv_dup hx hb dX2_law_98 rfl ?_
    refine lv_iload hx hb dX2_law_99 (lv_at hl 4 rfl) ?_
    refine g_aloadQ hx hb dX2_law_101 (lv_at hl 0 rfl) ?_
    refine g_cBU hI hf (fun v9 h9 e9 l9 l9' => g_rI X hI l9 l9' ⟨Nat.le_refl _, Nat.le_refl _⟩ (As := [.int x4, va_rf b0]) (m_X15_init X.2.2.2.2.2.2.2.2.2.2.1 e9) ydX15_init rfl rfl q1068 q1069 q146 q1070 rfl (Nat.le_of_ble_eq_true rfl) (Nat.le_of_ble_eq_true rfl) hl.1 rfl (Nat.le_of_ble_eq_true rfl) dX2_law_103) (fun r104 h H locs cells slots hf hI => ?_)
    refine lv_goto (tgt := 129) hx hb dX2_law_106 (by decide) ?_
    exact b_X2_law_129 X K7 _ _ _ _ _ _ _ _ _ _ _ hf hI (lv_sub hl [1, 2] rfl)
def f_X2_law_56 (k7 : Nat → Int32 → gM (Int32 ⊕ gE)) (a0 : Nat) (x2 : Int32) (x3 : Int32) : gM (Int32 ⊕ gE) :=
    gB (gCk a0 1) fun _ =>
    gT (f_X2_number a0 (0 : Int32) (30 : Int32)) fun r101 =>
    gB (gTx 17) fun t102 =>
    gB (gCk a0 1) fun _ =>
    gB (f_X2_takes a0 t102) fun r103 =>
    gIf (r103 = 0)
    (f_X2_law_83 k7 a0 x2 x3 r101 none)
    (gB (gCk a0 1) fun _ =>
    gT ((f_X2_row_r 24) a0 (0 : Int32)) fun r104 =>
    f_X2_law_83 k7 a0 x2 x3 r101 (some r104))
set_option maxHeartbeats 4000000 in
set_option maxRecDepth 100000 in
theorem b_X2_law_56 {G : gG} {l : Launch} {p : Program} {e : Env} {s : State} {m : MethodId} {args : Array Value} {below : List Frame} {meth : Method} {c : Code} {h0 : g_H} {r : (Int32 ⊕ gE)} {h' : g_H} (X : gX G l yX2_law.cls cX2_law 6 (some .int) [] yX2_law.name p s m args meth c) {k7 : Nat → Int32 → gM (Int32 ⊕ gE)} (K7 : w_X2_law_7 G l p e s m args below meth c h0 r h' k7) : w_X2_law_56 G l p e s m args below meth c h0 r h' (f_X2_law_56 k7) := by
  have hx := X.1
  have hb := X.2.1
  have hown := X.2.2.2.1
  have hts := X.2.2.2.2.1
  intro a0 x2 x3 h H locs cells slots ls hf hI hl
  unfold f_X2_law_56 at hf
  refine lv_aload_n hx hb dX2_law_56 rfl (lv_at hl 0 rfl) ?_
  refine lv_iconst (v := (0 : Int32)) hx hb dX2_law_57 (by decide) ?_
  refine lv_bipush (v := (30 : Int32)) hx hb dX2_law_58 (by decide) ?_
  obtain ⟨hs, hf⟩ := gCk_b hf
  refine g_cTI X hI (by decide) hf (fun v9 h9 e9 l9 l9' => g_rV X hI l9 l9' ⟨Nat.le_refl _, Nat.le_refl _⟩ (As := [.int (0 : Int32), .int (30 : Int32)]) (m_X2_number X.2.2.2.2.2.2.2.2.2.2.1 e9) ydX2_number hs rfl rfl q898 q900 qs27 q122 q901 rfl (Nat.le_of_ble_eq_true rfl) (Nat.le_of_ble_eq_true rfl) hl.1 rfl (Nat.le_of_ble_eq_true rfl) dX2_law_60) (fun r101 h H locs cells slots hf hI => ?_)
  refine lv_istore (lv' := [(4, .int r101), (0, .ref a0), (2, .int x2), (3, .int x3)]) hx hb dX2_law_63 hl (by decide) rfl (fun ls hl => ?_)
  refine lv_aload_n hx hb dX2_law_65 rfl (lv_at hl 1 rfl) ?_
  refine g_ldcS (tx := "if") X hI hf (List.mem_of_getElem? (i := 17) rfl) dX2_law_66 (fun t102 hf => ?_)
  obtain ⟨hs, hf⟩ := gCk_b hf
  refine g_cBI hI hf (fun v9 h9 e9 l9 l9' => g_rV X hI l9 l9' ⟨Nat.le_refl _, Nat.le_refl _⟩ (As := [.ref t102]) (m_X2_takes X.2.2.2.2.2.2.2.2.2.2.1 e9) ydX2_takes hs rfl rfl q821 q823 qs21 q122 q824 rfl (Nat.le_of_ble_eq_true rfl) (Nat.le_of_ble_eq_true rfl) hl.1 rfl (Nat.le_of_ble_eq_true rfl) dX2_law_68) (fun r103 h H locs cells slots hf hI => ?_)
  refine lv_if_eq (tgt := 82) hx hb dX2_law_71 (by decide) (fun c71 => ?_) (fun c71 => ?_)
  · have hf := g_t c71 hf
    refine lv_null hx hb dX2_law_82 ?_
    exact b_X2_law_83 X K7 _ _ _ _ _ _ _ _ _ _ _ hf hI (lv_sub hl [1, 2, 3, 0] rfl)
  · have hf := g_f c71 hf
    refine lv_aload_n hx hb dX2_law_74 rfl (lv_at hl 1 rfl) ?_
    refine lv_iconst (v := (0 : Int32)) hx hb dX2_law_75 (by decide) ?_
    obtain ⟨hs, hf⟩ := gCk_b hf
    refine g_cTR X hI (by decide) hf (fun v9 h9 e9 l9 l9' => g_rV X hI l9 l9' ⟨Nat.le_refl _, Nat.le_refl _⟩ (As := [.int (0 : Int32)]) (m_X2_row_r X.2.2.2.2.2.2.2.2.2.2.1 24 e9) ydX2_row hs rfl rfl q974 q976 qs30 q122 q977 rfl (Nat.le_of_ble_eq_true rfl) (Nat.le_of_ble_eq_true rfl) hl.1 rfl (Nat.le_of_ble_eq_true rfl) dX2_law_76) (fun r104 h H locs cells slots hf hI => ?_)
    refine lv_goto (tgt := 83) hx hb dX2_law_79 (by decide) ?_
    exact b_X2_law_83 X K7 _ _ _ _ _ _ _ _ _ _ _ hf hI (lv_sub hl [1, 2, 3, 0] rfl)
def f_X2_law_44 (k7 : Nat → Int32 → gM (Int32 ⊕ gE)) (a0 : Nat) (x2 : Int32) (u0 : Int32) : gM (Int32 ⊕ gE) :=
    gIf (u0 = (2 : Int32))
    (gB (gTx 16) fun t101 =>
    gB (gCk a0 1) fun _ =>
    gT (f_X2_expect a0 t101) fun _ =>
    f_X2_law_56 k7 a0 x2 u0)
    (f_X2_law_56 k7 a0 x2 u0)
set_option maxHeartbeats 4000000 in
set_option maxRecDepth 100000 in
theorem b_X2_law_44 {G : gG} {l : Launch} {p : Program} {e : Env} {s : State} {m : MethodId} {args : Array Value} {below : List Frame} {meth : Method} {c : Code} {h0 : g_H} {r : (Int32 ⊕ gE)} {h' : g_H} (X : gX G l yX2_law.cls cX2_law 6 (some .int) [] yX2_law.name p s m args meth c) {k7 : Nat → Int32 → gM (Int32 ⊕ gE)} (K7 : w_X2_law_7 G l p e s m args below meth c h0 r h' k7) : w_X2_law_44 G l p e s m args below meth c h0 r h' (f_X2_law_44 k7) := by
  have hx := X.1
  have hb := X.2.1
  have hown := X.2.2.2.1
  have hts := X.2.2.2.2.1
  intro a0 x2 u0 h H locs cells slots ls hf hI hl
  unfold f_X2_law_44 at hf
  refine lv_istore_n (lv' := [(3, .int u0), (0, .ref a0), (2, .int x2)]) hx hb dX2_law_44 rfl hl (by decide) rfl (fun ls hl => ?_)
  refine lv_iload_n hx hb dX2_law_45 rfl (lv_at hl 0 rfl) ?_
  refine lv_iconst (v := (2 : Int32)) hx hb dX2_law_46 (by decide) ?_
  refine lv_icmp_ne (tgt := 56) hx hb dX2_law_47 (by decide) (fun c47 => ?_) (fun c47 => ?_)
  · have hf := g_f c47 hf
    exact b_X2_law_56 X K7 _ _ _ _ _ _ _ _ _ hf hI (lv_sub hl [1, 2, 0] rfl)
  · have hf := g_t c47 hf
    refine lv_aload_n hx hb dX2_law_50 rfl (lv_at hl 1 rfl) ?_
    refine g_ldcS (tx := "wear") X hI hf (List.mem_of_getElem? (i := 16) rfl) dX2_law_51 (fun t101 hf => ?_)
    obtain ⟨hs, hf⟩ := gCk_b hf
    refine g_cTU X hI (by decide) hf (fun v9 h9 e9 l9 l9' => g_rV X hI l9 l9' ⟨Nat.le_refl _, Nat.le_refl _⟩ (As := [.ref t101]) (m_X2_expect X.2.2.2.2.2.2.2.2.2.2.1 e9) ydX2_expect hs rfl rfl q894 q896 qs26 q122 q897 rfl (Nat.le_of_ble_eq_true rfl) (Nat.le_of_ble_eq_true rfl) hl.1 rfl (Nat.le_of_ble_eq_true rfl) dX2_law_53) (fun r102 h H locs cells slots hf hI => ?_)
    exact b_X2_law_56 X K7 _ _ _ _ _ _ _ _ _ hf hI (lv_sub hl [1, 2, 0] rfl)
def f_X2_law_136 (x2 : Int32) : gM (Int32 ⊕ gE) :=
    (gRet (.inl x2))
set_option maxHeartbeats 4000000 in
set_option maxRecDepth 100000 in
theorem b_X2_law_136 {G : gG} {l : Launch} {p : Program} {e : Env} {s : State} {m : MethodId} {args : Array Value} {below : List Frame} {meth : Method} {c : Code} {h0 : g_H} {r : (Int32 ⊕ gE)} {h' : g_H} (X : gX G l yX2_law.cls cX2_law 6 (some .int) [] yX2_law.name p s m args meth c) : w_X2_law_136 G l p e s m args below meth c h0 r h' (f_X2_law_136) := by
  have hx := X.1
  have hb := X.2.1
  have hown := X.2.2.2.1
  have hts := X.2.2.2.2.1
  intro x2 h H locs cells slots ls hf hI hl
  unfold f_X2_law_136 at hf
  refine lv_iload_n hx hb dX2_law_136 rfl (lv_at hl 0 rfl) ?_
  cases gRet_e hf
  exact g_retI X hI rfl dX2_law_137
def f_X2_law_7 : Nat → Nat → Int32 → gM (Int32 ⊕ gE)
  | 0, _, _ => gFail
  | n + 1, a0, x2 =>
    gB (gCk a0 1) fun _ =>
    gT (f_X2_more a0 x2 (12 : Int32)) fun r101 =>
    gIf (r101 = 0)
    (f_X2_law_136 x2)
    (gB (gTx 14) fun t102 =>
    gB (gCk a0 1) fun _ =>
    gB (f_X2_takes a0 t102) fun r103 =>
    gIf (r103 = 0)
    (gB (gTx 15) fun t104 =>
    gB (gCk a0 1) fun _ =>
    gB (f_X2_takes a0 t104) fun r105 =>
    gIf (r105 = 0)
    (f_X2_law_44 (f_X2_law_7 n) a0 x2 (2 : Int32))
    (f_X2_law_44 (f_X2_law_7 n) a0 x2 (1 : Int32)))
    (f_X2_law_44 (f_X2_law_7 n) a0 x2 (0 : Int32)))
set_option maxHeartbeats 4000000 in
set_option maxRecDepth 100000 in
theorem b_X2_law_7 {G : gG} {l : Launch} {p : Program} {e : Env} {s : State} {m : MethodId} {args : Array Value} {below : List Frame} {meth : Method} {c : Code} {h0 : g_H} {r : (Int32 ⊕ gE)} {h' : g_H} (X : gX G l yX2_law.cls cX2_law 6 (some .int) [] yX2_law.name p s m args meth c) : ∀ n : Nat, w_X2_law_7 G l p e s m args below meth c h0 r h' (f_X2_law_7 n) := by
  have hx := X.1
  have hb := X.2.1
  have hown := X.2.2.2.1
  have hts := X.2.2.2.2.1
  intro n
  induction n with
  | zero =>
    intro a0 x2 h H locs cells slots ls hf hI hl
    exact (gFail_f hf).elim
  | succ n ih =>
    intro a0 x2 h H locs cells slots ls hf hI hl
    rw [f_X2_law_7] at hf
    refine lv_aload_n hx hb dX2_law_7 rfl (lv_at hl 0 rfl) ?_
    refine lv_iload_n hx hb dX2_law_8 rfl (lv_at hl 1 rfl) ?_
    refine lv_bipush (v := (12 : Int32)) hx hb dX2_law_9 (by decide) ?_
    obtain ⟨hs, hf⟩ := gCk_b hf
    refine g_cTI X hI (by decide) hf (fun v9 h9 e9 l9 l9' => g_rV X hI l9 l9' ⟨Nat.le_refl _, Nat.le_refl _⟩ (As := [.int x2, .int (12 : Int32)]) (m_X2_more X.2.2.2.2.2.2.2.2.2.2.1 e9) ydX2_more hs rfl rfl q805 q807 qs17 q122 q808 rfl (Nat.le_of_ble_eq_true rfl) (Nat.le_of_ble_eq_true rfl) hl.1 rfl (Nat.le_of_ble_eq_true rfl) dX2_law_11) (fun r101 h H locs cells slots hf hI => ?_)
    refine lv_if_eq (tgt := 136) hx hb dX2_law_14 (by decide) (fun c14 => ?_) (fun c14 => ?_)
    · have hf := g_t c14 hf
      exact b_X2_law_136 X _ _ _ _ _ _ _ hf hI (lv_sub hl [1] rfl)
    · have hf := g_f c14 hf
      refine lv_aload_n hx hb dX2_law_17 rfl (lv_at hl 0 rfl) ?_
      refine g_ldcS (tx := "fright") X hI hf (List.mem_of_getElem? (i := 14) rfl) dX2_law_18 (fun t102 hf => ?_)
      obtain ⟨hs, hf⟩ := gCk_b hf
      refine g_cBI hI hf (fun v9 h9 e9 l9 l9' => g_rV X hI l9 l9' ⟨Nat.le_refl _, Nat.le_refl _⟩ (As := [.ref t102]) (m_X2_takes X.2.2.2.2.2.2.2.2.2.2.1 e9) ydX2_takes hs rfl rfl q821 q823 qs21 q122 q824 rfl (Nat.le_of_ble_eq_true rfl) (Nat.le_of_ble_eq_true rfl) hl.1 rfl (Nat.le_of_ble_eq_true rfl) dX2_law_20) (fun r103 h H locs cells slots hf hI => ?_)
      refine lv_if_eq (tgt := 30) hx hb dX2_law_23 (by decide) (fun c23 => ?_) (fun c23 => ?_)
      · have hf := g_t c23 hf
        refine lv_aload_n hx hb dX2_law_30 rfl (lv_at hl 0 rfl) ?_
        refine g_ldcS (tx := "ease") X hI hf (List.mem_of_getElem? (i := 15) rfl) dX2_law_31 (fun t104 hf => ?_)
        obtain ⟨hs, hf⟩ := gCk_b hf
        refine g_cBI hI hf (fun v9 h9 e9 l9 l9' => g_rV X hI l9 l9' ⟨Nat.le_refl _, Nat.le_refl _⟩ (As := [.ref t104]) (m_X2_takes X.2.2.2.2.2.2.2.2.2.2.1 e9) ydX2_takes hs rfl rfl q821 q823 qs21 q122 q824 rfl (Nat.le_of_ble_eq_true rfl) (Nat.le_of_ble_eq_true rfl) hl.1 rfl (Nat.le_of_ble_eq_true rfl) dX2_law_33) (fun r105 h H locs cells slots hf hI => ?_)
        refine lv_if_eq (tgt := 43) hx hb dX2_law_36 (by decide) (fun c36 => ?_) (fun c36 => ?_)
        · have hf := g_t c36 hf
          refine lv_iconst (v := (2 : Int32)) hx hb dX2_law_43 (by decide) ?_
          exact b_X2_law_44 X ih _ _ _ _ _ _ _ _ _ hf hI (lv_sub hl [0, 1] rfl)
        · have hf := g_f c36 hf
          refine lv_iconst (v := (1 : Int32)) hx hb dX2_law_39 (by decide) ?_
          refine lv_goto (tgt := 44) hx hb dX2_law_40 (by decide) ?_
          exact b_X2_law_44 X ih _ _ _ _ _ _ _ _ _ hf hI (lv_sub hl [0, 1] rfl)
      · have hf := g_f c23 hf
        refine lv_iconst (v := (0 : Int32)) hx hb dX2_law_26 (by decide) ?_
        refine lv_goto (tgt := 44) hx hb dX2_law_27 (by decide) ?_
        exact b_X2_law_44 X ih _ _ _ _ _ _ _ _ _ hf hI (lv_sub hl [0, 1] rfl)
def f_X2_law (a0 : Nat) (x1 : Int32) : gM (Int32 ⊕ gE) :=
    gB (gCk a0 1) fun _ =>
    gB (f_X2_begins a0 x1) fun _ =>
    f_X2_law_7 gN a0 (0 : Int32)
set_option maxHeartbeats 4000000 in
set_option maxRecDepth 100000 in
theorem m_X2_law {G : gG} {l : Launch} (hfl : l.stackTraces = false) {a0 : Nat} {x1 : Int32} {h h' : g_H} {r : (Int32 ⊕ gE)} (hf : (f_X2_law a0 x1).1 h = some (r, h')) : gMet G l yX2_law (Cond.code yX2_law cX2_law 6 (some .int)) 265 5447 [.ref a0, .int x1] h (g_w g_wI r) h' := by
  refine g_head hfl ((f_X2_law a0 x1).2 h r h' hf) (plainFor_of_name (by decide)) (Nat.le_of_ble_eq_true rfl) (fun p e s m below meth c H locs cells slots ls X hI hl9 => ?_)
  have hl : lv_has ls 6 [(0, .ref a0), (1, .int x1)] := hl9
  have hx := X.1
  have hb := X.2.1
  have hown := X.2.2.2.1
  have hts := X.2.2.2.2.1
  unfold f_X2_law at hf
  refine lv_aload_n hx hb dX2_law_0 rfl (lv_at hl 0 rfl) ?_
  refine lv_iload_n hx hb dX2_law_1 rfl (lv_at hl 1 rfl) ?_
  obtain ⟨hs, hf⟩ := gCk_b hf
  refine g_cBU hI hf (fun v9 h9 e9 l9 l9' => g_rV X hI l9 l9' ⟨Nat.le_refl _, Nat.le_refl _⟩ (As := [.int x1]) (m_X2_begins X.2.2.2.2.2.2.2.2.2.2.1 e9) ydX2_begins hs rfl rfl q800 q802 qs16 q122 q803 rfl (Nat.le_of_ble_eq_true rfl) (Nat.le_of_ble_eq_true rfl) hl.1 rfl (Nat.le_of_ble_eq_true rfl) dX2_law_2) (fun r1 h H locs cells slots hf hI => ?_)
  refine lv_iconst (v := (0 : Int32)) hx hb dX2_law_5 (by decide) ?_
  refine lv_istore_n (lv' := [(2, .int (0 : Int32)), (0, .ref a0), (1, .int x1)]) hx hb dX2_law_6 rfl hl (by decide) rfl (fun ls hl => ?_)
  exact b_X2_law_7 X gN _ _ _ _ _ _ _ _ hf hI (lv_sub hl [1, 0] rfl)
/-! X1_isWrong -/
def f_X1_isWrong (a0 : Nat) (a1 : Nat) : gM Nat :=
    gB (gFI a1 5 6) fun v1 =>
    gB (gPI a0 0 11 v1) fun _ =>
    gB (gNew 17 6) fun a2 =>
    gRet a2
set_option maxHeartbeats 4000000 in
set_option maxRecDepth 100000 in
theorem m_X1_isWrong {G : gG} {l : Launch} (hfl : l.stackTraces = false) {a0 : Nat} {a1 : Nat} {h h' : g_H} {r : Nat} (hf : (f_X1_isWrong a0 a1).1 h = some (r, h')) : gMet G l yX1_isWrong (Cond.code yX1_isWrong cX1_isWrong 2 (some (.object "java/lang/IllegalArgumentException"))) 6 89 [.ref a0, .ref a1] h (.inl (g_wR r)) h' := by
  refine g_head hfl ((f_X1_isWrong a0 a1).2 h r h' hf) (plainFor_of_name (by decide)) (Nat.le_of_ble_eq_true rfl) (fun p e s m below meth c H locs cells slots ls X hI hl9 => ?_)
  have hl : lv_has ls 2 [(0, .ref a0), (1, .ref a1)] := hl9
  have hx := X.1
  have hb := X.2.1
  have hown := X.2.2.2.1
  have hts := X.2.2.2.2.1
  unfold f_X1_isWrong at hf
  refine lv_aload_n hx hb dX1_isWrong_0 rfl (lv_at hl 0 rfl) ?_
  refine lv_aload_n hx hb dX1_isWrong_1 rfl (lv_at hl 1 rfl) ?_
  refine g_fiN X hI hf fX6_6 q379 rfl rfl dX1_isWrong_2 (fun v1 hf => ?_)
  refine g_pi X hI hf fX1_11 q472 rfl dX1_isWrong_5 (fun h H locs hf hI => ?_)
  refine g_make (names := ["java/lang/RuntimeException", "java/lang/Exception"]) (ik := 70) (ic := 72) (cls := "java/lang/IllegalArgumentException") X hI hf ⟨Nat.le_refl _, Nat.le_refl _⟩ rfl rfl rfl rfl (by decide) (by decide) q920 q138 (g_hat X x17_1 x17_2) (List.all_eq_true.mp x17_3) hl.1 dX1_isWrong_8 dX1_isWrong_11 dX1_isWrong_12 (Nat.lt_of_lt_of_le (show 2 + 3 < 6 by decide) (Nat.le_of_ble_eq_true rfl)) (Nat.le_of_ble_eq_true rfl) (Nat.le_of_ble_eq_true rfl) (fun a2 h H cells slots hf hI => ?_)
  cases gRet_e hf
  exact g_retR X hI (Or.inl ⟨_, rfl⟩) rfl dX1_isWrong_15
/-! X1_law -/
def f_X1_law (a0 : Nat) : gM (Int32 ⊕ gE) :=
    gB (gCk a0 0) fun _ =>
    gB (f_X1_took a0) fun r1 =>
    gB (gPI a0 0 11 (-1 : Int32)) fun _ =>
    gB (gFR a0 0 1) fun v2 =>
    gB (gFR a0 0 0) fun v3 =>
    gB (gCk v3 1) fun _ =>
    gB (f_X2_law v3 r1) fun r9 => match r9 with
    | .inl r4 => (gB (gPI v2 2 8 r4) fun _ =>
    gB (gFR a0 0 0) fun v5 =>
    gB (gFR v5 1 3) fun v6 =>
    gB (gFR a0 0 1) fun v7 =>
    gB (gFR v7 2 2) fun v8 =>
    gB (gCpQ v6 (0 : Int32) v8 (0 : Int32) (12 : Int32)) fun _ =>
    gB (gPI a0 0 12 (0 : Int32)) fun _ =>
    gB (gFR a0 0 1) fun v9 =>
    gB (gFI v9 2 8) fun v10 =>
    (gRet (.inl v10)))
    | .inr x9 => (gIf (x9.1 = 5)
    (gB (gCk a0 0) fun _ =>
    gB (f_X1_isWrong a0 x9.2) fun r11 =>
    gB (gCk r11 17) fun _ =>
    gRet (.inr (17, r11)))
    (gFail))
set_option maxHeartbeats 4000000 in
set_option maxRecDepth 100000 in
theorem m_X1_law {G : gG} {l : Launch} (hfl : l.stackTraces = false) {a0 : Nat} {h h' : g_H} {r : (Int32 ⊕ gE)} (hf : (f_X1_law a0).1 h = some (r, h')) : gMet G l yX1_law (Cond.codeWith yX1_law cX1_law 3 (some .int) [(10, 25, 28, 119)]) 266 5472 [.ref a0] h (g_w g_wI r) h' := by
  refine g_headW hfl ((f_X1_law a0).2 h r h' hf) (plainFor_of_name (by decide)) (Nat.le_of_ble_eq_true rfl) (fun p e s m below meth c H locs cells slots ls X hI hl9 => ?_)
  have hl : lv_has ls 3 [(0, .ref a0)] := hl9
  have hx := X.1
  have hb := X.2.1
  have hown := X.2.2.2.1
  have hts := X.2.2.2.2.1
  unfold f_X1_law at hf
  refine lv_aload_n hx hb dX1_law_0 rfl (lv_at hl 0 rfl) ?_
  obtain ⟨hs, hf⟩ := gCk_b hf
  refine g_cBI hI hf (fun v9 h9 e9 l9 l9' => g_rV X hI l9 l9' ⟨Nat.le_refl _, Nat.le_refl _⟩ (As := []) (m_X1_took X.2.2.2.2.2.2.2.2.2.2.1 e9) ydX1_took hs rfl rfl q792 q794 qs15 q121 q795 rfl (Nat.le_of_ble_eq_true rfl) (Nat.le_of_ble_eq_true rfl) hl.1 rfl (Nat.le_of_ble_eq_true rfl) dX1_law_1) (fun r1 h H locs cells slots hf hI => ?_)
  refine lv_istore_n (lv' := [(1, .int r1), (0, .ref a0)]) hx hb dX1_law_4 rfl hl (by decide) rfl (fun ls hl => ?_)
  refine lv_aload_n hx hb dX1_law_5 rfl (lv_at hl 1 rfl) ?_
  refine lv_iconst (v := (-1 : Int32)) hx hb dX1_law_6 (by decide) ?_
  refine g_pi X hI hf fX1_11 q472 rfl dX1_law_7 (fun h H locs hf hI => ?_)
  refine lv_aload_n hx hb dX1_law_10 rfl (lv_at hl 1 rfl) ?_
  refine g_fr X hI hf fX1_1 q461 rfl rfl dX1_law_11 (fun v2 hf => ?_)
  refine lv_aload_n hx hb dX1_law_14 rfl (lv_at hl 1 rfl) ?_
  refine g_fr X hI hf fX1_0 q460 rfl rfl dX1_law_15 (fun v3 hf => ?_)
  refine lv_iload_n hx hb dX1_law_18 rfl (lv_at hl 0 rfl) ?_
  obtain ⟨hs, hf⟩ := gCk_b hf
  refine g_cHI hI hf (fun v9 h9 e9 l9 l9' => g_rV X hI l9 l9' ⟨Nat.le_refl _, Nat.le_refl _⟩ (As := [.int r1]) (m_X2_law X.2.2.2.2.2.2.2.2.2.2.1 e9) ydX2_law hs rfl rfl q966 q967 q968 q122 q969 rfl (Nat.le_of_ble_eq_true rfl) (Nat.le_of_ble_eq_true rfl) hl.1 rfl (Nat.le_of_ble_eq_true rfl) dX1_law_19) (fun r4 h H locs cells slots hf hI => ?_) ?_
  · refine g_piN X hI hf fX3_8 q274 rfl dX1_law_22 (fun h H locs hf hI => ?_)
    refine lv_goto (tgt := 35) hx hb dX1_law_25 (by decide) ?_
    refine lv_aload_n hx hb dX1_law_35 rfl (lv_at hl 1 rfl) ?_
    refine g_fr X hI hf fX1_0 q460 rfl rfl dX1_law_36 (fun v5 hf => ?_)
    refine g_frN X hI hf fX2_3 q400 rfl rfl dX1_law_39 (fun v6 hf => ?_)
    refine lv_iconst (v := (0 : Int32)) hx hb dX1_law_42 (by decide) ?_
    refine lv_aload_n hx hb dX1_law_43 rfl (lv_at hl 1 rfl) ?_
    refine g_fr X hI hf fX1_1 q461 rfl rfl dX1_law_44 (fun v7 hf => ?_)
    refine g_frN X hI hf fX3_2 q260 rfl rfl dX1_law_47 (fun v8 hf => ?_)
    refine lv_iconst (v := (0 : Int32)) hx hb dX1_law_50 (by decide) ?_
    refine lv_bipush (v := (12 : Int32)) hx hb dX1_law_51 (by decide) ?_
    refine g_cpQ X hI hf q1094 hl.1 (Nat.le_of_ble_eq_true rfl) (Nat.le_trans g_nfw (Nat.le_of_ble_eq_true rfl)) (Nat.le_of_ble_eq_true rfl) dX1_law_53 (fun h H locs hf hI => ?_)
    refine lv_aload_n hx hb dX1_law_56 rfl (lv_at hl 1 rfl) ?_
    refine lv_iconst (v := (0 : Int32)) hx hb dX1_law_57 (by decide) ?_
    refine g_pi X hI hf fX1_12 q473 rfl dX1_law_58 (fun h H locs hf hI => ?_)
    refine lv_aload_n hx hb dX1_law_61 rfl (lv_at hl 1 rfl) ?_
    refine g_fr X hI hf fX1_1 q461 rfl rfl dX1_law_62 (fun v9 hf => ?_)
    refine g_fiN X hI hf fX3_8 q274 rfl rfl dX1_law_65 (fun v10 hf => ?_)
    cases gRet_e hf
    exact g_retI X hI rfl dX1_law_68
  · intro ci9 x9 h H locs cells slots r9 ce9 hf hr9 hI hce hcv hcl
    by_cases k0 : ci9 = 5
    · subst k0
      cases hr9
      have hf := g_t rfl hf
      refine g_catch0 X hI (name := "GhostAssize$Wrong") rfl (by rfl) (by decide) (by decide) q791 q323 hce hcv hcl ?_
      refine lv_astore_n (lv' := [(2, .ref x9), (1, .int r1), (0, .ref a0)]) hx hb dX1_law_28 rfl hl (by decide) rfl (fun ls hl => ?_)
      refine lv_aload_n hx hb dX1_law_29 rfl (lv_at hl 2 rfl) ?_
      refine lv_aload_n hx hb dX1_law_30 rfl (lv_at hl 0 rfl) ?_
      obtain ⟨hs, hf⟩ := gCk_b hf
      refine g_cBR hI hf (fun v9 h9 e9 l9 l9' => g_rV X hI l9 l9' ⟨Nat.le_refl _, Nat.le_refl _⟩ (As := [.ref x9]) (m_X1_isWrong X.2.2.2.2.2.2.2.2.2.2.1 e9) ydX1_isWrong hs rfl rfl q916 q918 qs29 q121 q919 rfl (Nat.le_of_ble_eq_true rfl) (Nat.le_of_ble_eq_true rfl) hl.1 rfl (Nat.le_of_ble_eq_true rfl) dX1_law_31) (fun r11 h H locs cells slots hf hI => ?_)
      obtain ⟨hs, hf⟩ := gCk_b hf
      cases gRet_e hf
      exact g_athrow X hI (by decide) hs rfl rfl dX1_law_34
    have hf := g_f k0 hf
    exact (gFail_f hf).elim
/-! X0_law -/
def f_X0_law (a0 : Nat) (a1 : Nat) : gM Int32 :=
    gB (gCk a0 0) fun _ =>
    gB (f_X1_law a0) fun r9 => match r9 with
    | .inl r1 => (gB (gSI a1 2 (0 : Int32) (r1)) fun _ =>
    (gRet (0 : Int32)))
    | .inr x9 => (gIf (x9.1 = 17)
    ((gRet (1 : Int32)))
    (gFail))
set_option maxHeartbeats 4000000 in
set_option maxRecDepth 100000 in
theorem m_X0_law {G : gG} {l : Launch} (hfl : l.stackTraces = false) {a0 : Nat} {a1 : Nat} {h h' : g_H} {r : Int32} (hf : (f_X0_law a0 a1).1 h = some (r, h')) : gMet G l yX0_law (Cond.codeWith yX0_law cX0_law 3 (some .int) [(0, 8, 11, 13)]) 267 5494 [.ref a0, .ref a1] h (.inl (g_wI r)) h' := by
  refine g_headW hfl ((f_X0_law a0 a1).2 h r h' hf) (plainFor_of_name (by decide)) (Nat.le_of_ble_eq_true rfl) (fun p e s m below meth c H locs cells slots ls X hI hl9 => ?_)
  have hl : lv_has ls 3 [(0, .ref a0), (1, .ref a1)] := hl9
  have hx := X.1
  have hb := X.2.1
  have hown := X.2.2.2.1
  have hts := X.2.2.2.2.1
  unfold f_X0_law at hf
  refine lv_aload_n hx hb dX0_law_0 rfl (lv_at hl 1 rfl) ?_
  refine lv_iconst (v := (0 : Int32)) hx hb dX0_law_1 (by decide) ?_
  refine lv_aload_n hx hb dX0_law_2 rfl (lv_at hl 0 rfl) ?_
  obtain ⟨hs, hf⟩ := gCk_b hf
  refine g_cHI hI hf (fun v9 h9 e9 l9 l9' => g_rVX X hI l9 l9' ⟨Nat.le_refl _, Nat.le_refl _⟩ (As := []) (m_X1_law X.2.2.2.2.2.2.2.2.2.2.1 e9) ydX1_law hs rfl rfl q962 q963 q964 q121 q965 rfl (Nat.le_of_ble_eq_true rfl) (Nat.le_of_ble_eq_true rfl) hl.1 rfl (Nat.le_of_ble_eq_true rfl) dX0_law_3) (fun r1 h H locs cells slots hf hI => ?_) ?_
  · refine lv_i2l hx hb dX0_law_6 rfl ?_
    refine g_si2 X hI hf dX0_law_7 (fun h H locs hf hI => ?_)
    refine lv_goto (tgt := 14) hx hb dX0_law_8 (by decide) ?_
    refine lv_iconst (v := (0 : Int32)) hx hb dX0_law_14 (by decide) ?_
    cases gRet_e hf
    exact g_retI X hI rfl dX0_law_15
  · intro ci9 x9 h H locs cells slots r9 ce9 hf hr9 hI hce hcv hcl
    by_cases k0 : ci9 = 17
    · subst k0
      cases hr9
      have hf := g_t rfl hf
      refine g_catch0 X hI (name := "java/lang/IllegalArgumentException") rfl (by rfl) (by decide) (by decide) q785 q922 hce hcv hcl ?_
      refine lv_astore_n (lv' := [(2, .ref x9), (0, .ref a0), (1, .ref a1)]) hx hb dX0_law_11 rfl hl (by decide) rfl (fun ls hl => ?_)
      refine lv_iconst (v := (1 : Int32)) hx hb dX0_law_12 (by decide) ?_
      cases gRet_e hf
      exact g_retI X hI rfl dX0_law_13
    have hf := g_f k0 hf
    exact (gFail_f hf).elim
/-! X8_isAt -/
abbrev w_X8_isAt_42 (G : gG) (l : Launch) (p : Program) (e : Env) (s : State) (m : MethodId) (args : Array Value) (below : List Frame) (meth : Method) (c : Code) (h0 : g_H) (r : Int32) (h' : g_H) (k : Int32 → gM Int32) : Prop := ∀ (u0 : Int32) (h : g_H) (H : Heap) (locs : List Loc) (cells slots : Nat) (ls : Array Slot), (k u0).1 h = some (r, h') → gI G h0 h H locs cells slots → lv_has ls 3 [] → W p l e (g_rm 1 20 h0 h') s m args below meth c H locs cells slots (gQ G below args s h0 h' (.inl (g_wI r))) (F0 m 42 ls [.int u0])
abbrev w_X8_isAt_41 (G : gG) (l : Launch) (p : Program) (e : Env) (s : State) (m : MethodId) (args : Array Value) (below : List Frame) (meth : Method) (c : Code) (h0 : g_H) (r : Int32) (h' : g_H) (k : gM Int32) : Prop := ∀ (h : g_H) (H : Heap) (locs : List Loc) (cells slots : Nat) (ls : Array Slot), (k).1 h = some (r, h') → gI G h0 h H locs cells slots → lv_has ls 3 [] → W p l e (g_rm 1 20 h0 h') s m args below meth c H locs cells slots (gQ G below args s h0 h' (.inl (g_wI r))) (F0 m 41 ls [])
def f_X8_isAt_42 (u0 : Int32) : gM Int32 :=
    gB (gGd (u0 = 0 ∨ u0 = 1)) fun _ =>
    (gRet u0)
set_option maxHeartbeats 4000000 in
set_option maxRecDepth 100000 in
theorem b_X8_isAt_42 {G : gG} {l : Launch} {p : Program} {e : Env} {s : State} {m : MethodId} {args : Array Value} {below : List Frame} {meth : Method} {c : Code} {h0 : g_H} {r : Int32} {h' : g_H} (X : gX G l yX8_isAt.cls cX8_isAt 3 (some .boolean) [] yX8_isAt.name p s m args meth c) : w_X8_isAt_42 G l p e s m args below meth c h0 r h' (f_X8_isAt_42) := by
  have hx := X.1
  have hb := X.2.1
  have hown := X.2.2.2.1
  have hts := X.2.2.2.2.1
  intro u0 h H locs cells slots ls hf hI hl
  unfold f_X8_isAt_42 at hf
  obtain ⟨hz, hf⟩ := gB_gd hf
  cases gRet_e hf
  exact g_retZ X hI hz rfl dX8_isAt_42
def f_X8_isAt_41 : gM Int32 :=
    f_X8_isAt_42 (0 : Int32)
set_option maxHeartbeats 4000000 in
set_option maxRecDepth 100000 in
theorem b_X8_isAt_41 {G : gG} {l : Launch} {p : Program} {e : Env} {s : State} {m : MethodId} {args : Array Value} {below : List Frame} {meth : Method} {c : Code} {h0 : g_H} {r : Int32} {h' : g_H} (X : gX G l yX8_isAt.cls cX8_isAt 3 (some .boolean) [] yX8_isAt.name p s m args meth c) : w_X8_isAt_41 G l p e s m args below meth c h0 r h' (f_X8_isAt_41) := by
  have hx := X.1
  have hb := X.2.1
  have hown := X.2.2.2.1
  have hts := X.2.2.2.2.1
  intro h H locs cells slots ls hf hI hl
  unfold f_X8_isAt_41 at hf
  refine lv_iconst (v := (0 : Int32)) hx hb dX8_isAt_41 (by decide) ?_
  exact b_X8_isAt_42 X _ _ _ _ _ _ _ hf hI (lv_sub hl [] rfl)
def f_X8_isAt (a0 : Nat) (x1 : Int32) (x2 : Int32) : gM Int32 :=
    gB (gFI a0 7 10) fun v1 =>
    gB (gFI a0 7 11) fun v2 =>
    gIf (v2 ≤ v1)
    (f_X8_isAt_41)
    (gB (gFR a0 7 8) fun v3 =>
    gB (gFI a0 7 10) fun v4 =>
    gB (gAI v3 1 v4) fun v5 =>
    gIf (v5 < x1)
    (f_X8_isAt_41)
    (gB (gFR a0 7 8) fun v6 =>
    gB (gFI a0 7 10) fun v7 =>
    gB (gAI v6 1 v7) fun v8 =>
    gIf (x2 < v8)
    (f_X8_isAt_41)
    (f_X8_isAt_42 (1 : Int32))))
set_option maxHeartbeats 4000000 in
set_option maxRecDepth 100000 in
theorem m_X8_isAt {G : gG} {l : Launch} (hfl : l.stackTraces = false) {a0 : Nat} {x1 : Int32} {x2 : Int32} {h h' : g_H} {r : Int32} (hf : (f_X8_isAt a0 x1 x2).1 h = some (r, h')) : gMet G l yX8_isAt (Cond.code yX8_isAt cX8_isAt 3 (some .boolean)) 1 20 [.ref a0, .int x1, .int x2] h (.inl (g_wI r)) h' := by
  refine g_head hfl ((f_X8_isAt a0 x1 x2).2 h r h' hf) (plainFor_of_name (by decide)) (Nat.le_of_ble_eq_true rfl) (fun p e s m below meth c H locs cells slots ls X hI hl9 => ?_)
  have hl : lv_has ls 3 [(0, .ref a0), (1, .int x1), (2, .int x2)] := hl9
  have hx := X.1
  have hb := X.2.1
  have hown := X.2.2.2.1
  have hts := X.2.2.2.2.1
  unfold f_X8_isAt at hf
  refine lv_aload_n hx hb dX8_isAt_0 rfl (lv_at hl 0 rfl) ?_
  refine g_fi X hI hf fX8_10 q1454 rfl rfl dX8_isAt_1 (fun v1 hf => ?_)
  refine lv_aload_n hx hb dX8_isAt_4 rfl (lv_at hl 0 rfl) ?_
  refine g_fi X hI hf fX8_11 q1455 rfl rfl dX8_isAt_5 (fun v2 hf => ?_)
  refine lv_icmp_ge (tgt := 41) hx hb dX8_isAt_8 (by decide) (fun c8 => ?_) (fun c8 => ?_)
  · have hf := g_t c8 hf
    exact b_X8_isAt_41 X _ _ _ _ _ _ hf hI (lv_sub hl [] rfl)
  · have hf := g_f c8 hf
    refine lv_aload_n hx hb dX8_isAt_11 rfl (lv_at hl 0 rfl) ?_
    refine g_fr X hI hf fX8_8 q1452 rfl rfl dX8_isAt_12 (fun v3 hf => ?_)
    refine lv_aload_n hx hb dX8_isAt_15 rfl (lv_at hl 0 rfl) ?_
    refine g_fi X hI hf fX8_10 q1454 rfl rfl dX8_isAt_16 (fun v4 hf => ?_)
    refine g_ai1 X hI hf dX8_isAt_19 (fun v5 hf => ?_)
    refine lv_iload_n hx hb dX8_isAt_20 rfl (lv_at hl 1 rfl) ?_
    refine lv_icmp_lt (tgt := 41) hx hb dX8_isAt_21 (by decide) (fun c21 => ?_) (fun c21 => ?_)
    · have hf := g_t c21 hf
      exact b_X8_isAt_41 X _ _ _ _ _ _ hf hI (lv_sub hl [] rfl)
    · have hf := g_f c21 hf
      refine lv_aload_n hx hb dX8_isAt_24 rfl (lv_at hl 0 rfl) ?_
      refine g_fr X hI hf fX8_8 q1452 rfl rfl dX8_isAt_25 (fun v6 hf => ?_)
      refine lv_aload_n hx hb dX8_isAt_28 rfl (lv_at hl 0 rfl) ?_
      refine g_fi X hI hf fX8_10 q1454 rfl rfl dX8_isAt_29 (fun v7 hf => ?_)
      refine g_ai1 X hI hf dX8_isAt_32 (fun v8 hf => ?_)
      refine lv_iload_n hx hb dX8_isAt_33 rfl (lv_at hl 2 rfl) ?_
      refine lv_icmp_gt (tgt := 41) hx hb dX8_isAt_34 (by decide) (fun c34 => ?_) (fun c34 => ?_)
      · have hf := g_t c34 hf
        exact b_X8_isAt_41 X _ _ _ _ _ _ hf hI (lv_sub hl [] rfl)
      · have hf := g_f c34 hf
        refine lv_iconst (v := (1 : Int32)) hx hb dX8_isAt_37 (by decide) ?_
        refine lv_goto (tgt := 42) hx hb dX8_isAt_38 (by decide) ?_
        exact b_X8_isAt_42 X _ _ _ _ _ _ _ hf hI (lv_sub hl [] rfl)
/-! X8_blanks -/
abbrev w_X8_blanks_24 (G : gG) (l : Launch) (p : Program) (e : Env) (s : State) (m : MethodId) (args : Array Value) (below : List Frame) (meth : Method) (c : Code) (h0 : g_H) (r : Unit) (h' : g_H) (k : Nat → gM Unit) : Prop := ∀ (a0 : Nat) (h : g_H) (H : Heap) (locs : List Loc) (cells slots : Nat) (ls : Array Slot), (k a0).1 h = some (r, h') → gI G h0 h H locs cells slots → lv_has ls 1 [(0, .ref a0)] → W p l e (g_rm 2 42 h0 h') s m args below meth c H locs cells slots (gQ G below args s h0 h' (.inl (g_wU r))) (F0 m 24 ls [])
abbrev w_X8_blanks_0 (G : gG) (l : Launch) (p : Program) (e : Env) (s : State) (m : MethodId) (args : Array Value) (below : List Frame) (meth : Method) (c : Code) (h0 : g_H) (r : Unit) (h' : g_H) (k : Nat → gM Unit) : Prop := ∀ (a0 : Nat) (h : g_H) (H : Heap) (locs : List Loc) (cells slots : Nat) (ls : Array Slot), (k a0).1 h = some (r, h') → gI G h0 h H locs cells slots → lv_has ls 1 [(0, .ref a0)] → W p l e (g_rm 2 42 h0 h') s m args below meth c H locs cells slots (gQ G below args s h0 h' (.inl (g_wU r))) (F0 m 0 ls [])
def f_X8_blanks_24 (a0 : Nat) : gM Unit :=
    gB (gFI a0 7 10) fun v101 =>
    gB (gPI a0 7 12 v101) fun _ =>
    gRet ()
set_option maxHeartbeats 4000000 in
set_option maxRecDepth 100000 in
theorem b_X8_blanks_24 {G : gG} {l : Launch} {p : Program} {e : Env} {s : State} {m : MethodId} {args : Array Value} {below : List Frame} {meth : Method} {c : Code} {h0 : g_H} {r : Unit} {h' : g_H} (X : gX G l yX8_blanks.cls cX8_blanks 1 none [] yX8_blanks.name p s m args meth c) : w_X8_blanks_24 G l p e s m args below meth c h0 r h' (f_X8_blanks_24) := by
  have hx := X.1
  have hb := X.2.1
  have hown := X.2.2.2.1
  have hts := X.2.2.2.2.1
  intro a0 h H locs cells slots ls hf hI hl
  unfold f_X8_blanks_24 at hf
  refine lv_aload_n hx hb dX8_blanks_24 rfl (lv_at hl 0 rfl) ?_
  refine lv_aload_n hx hb dX8_blanks_25 rfl (lv_at hl 0 rfl) ?_
  refine g_fi X hI hf fX8_10 q1454 rfl rfl dX8_blanks_26 (fun v101 hf => ?_)
  refine g_pi X hI hf fX8_12 q1456 rfl dX8_blanks_29 (fun h H locs hf hI => ?_)
  cases gRet_e hf
  exact g_retU X hI rfl dX8_blanks_32
def f_X8_blanks_0 : Nat → Nat → gM Unit
  | 0, _ => gFail
  | n + 1, a0 =>
    gB (gCk a0 7) fun _ =>
    gB (f_X8_isAt a0 (32 : Int32) (32 : Int32)) fun r101 =>
    gIf (r101 = 0)
    (f_X8_blanks_24 a0)
    (gB (gFI a0 7 10) fun v102 =>
    gB (gPI a0 7 10 (v102 + (1 : Int32))) fun _ =>
    f_X8_blanks_0 n a0)
set_option maxHeartbeats 4000000 in
set_option maxRecDepth 100000 in
theorem b_X8_blanks_0 {G : gG} {l : Launch} {p : Program} {e : Env} {s : State} {m : MethodId} {args : Array Value} {below : List Frame} {meth : Method} {c : Code} {h0 : g_H} {r : Unit} {h' : g_H} (X : gX G l yX8_blanks.cls cX8_blanks 1 none [] yX8_blanks.name p s m args meth c) : ∀ n : Nat, w_X8_blanks_0 G l p e s m args below meth c h0 r h' (f_X8_blanks_0 n) := by
  have hx := X.1
  have hb := X.2.1
  have hown := X.2.2.2.1
  have hts := X.2.2.2.2.1
  intro n
  induction n with
  | zero =>
    intro a0 h H locs cells slots ls hf hI hl
    exact (gFail_f hf).elim
  | succ n ih =>
    intro a0 h H locs cells slots ls hf hI hl
    rw [f_X8_blanks_0] at hf
    refine lv_aload_n hx hb dX8_blanks_0 rfl (lv_at hl 0 rfl) ?_
    refine lv_bipush (v := (32 : Int32)) hx hb dX8_blanks_1 (by decide) ?_
    refine lv_bipush (v := (32 : Int32)) hx hb dX8_blanks_3 (by decide) ?_
    obtain ⟨hs, hf⟩ := gCk_b hf
    refine g_cBI hI hf (fun v9 h9 e9 l9 l9' => g_rV X hI l9 l9' ⟨Nat.le_refl _, Nat.le_refl _⟩ (As := [.int (32 : Int32), .int (32 : Int32)]) (m_X8_isAt X.2.2.2.2.2.2.2.2.2.2.1 e9) ydX8_isAt hs rfl rfl q1599 q1601 qs47 q131 q1602 rfl (Nat.le_of_ble_eq_true rfl) (Nat.le_of_ble_eq_true rfl) hl.1 rfl (Nat.le_of_ble_eq_true rfl) dX8_blanks_5) (fun r101 h H locs cells slots hf hI => ?_)
    refine lv_if_eq (tgt := 24) hx hb dX8_blanks_8 (by decide) (fun c8 => ?_) (fun c8 => ?_)
    · have hf := g_t c8 hf
      exact b_X8_blanks_24 X _ _ _ _ _ _ _ hf hI (lv_sub hl [0] rfl)
    · have hf := g_f c8 hf
      refine lv_aload_n hx hb dX8_blanks_11 rfl (lv_at hl 0 rfl) ?_
      refine lv_dup hx hb dX8_blanks_12 rfl ?_
      refine g_fi X hI hf fX8_10 q1454 rfl rfl dX8_blanks_13 (fun v102 hf => ?_)
      refine lv_iconst (v := (1 : Int32)) hx hb dX8_blanks_16 (by decide) ?_
      refine lv_iadd hx hb dX8_blanks_17 ?_
      refine g_pi X hI hf fX8_10 q1454 rfl dX8_blanks_18 (fun h H locs hf hI => ?_)
      refine lv_goto (tgt := 0) hx hb dX8_blanks_21 (by decide) ?_
      exact ih _ _ _ _ _ _ _ hf hI (lv_sub hl [0] rfl)
def f_X8_blanks (a0 : Nat) : gM Unit :=
    f_X8_blanks_0 gN a0
set_option maxHeartbeats 4000000 in
set_option maxRecDepth 100000 in
theorem m_X8_blanks {G : gG} {l : Launch} (hfl : l.stackTraces = false) {a0 : Nat} {h h' : g_H} {r : Unit} (hf : (f_X8_blanks a0).1 h = some (r, h')) : gMet G l yX8_blanks (Cond.code yX8_blanks cX8_blanks 1 none) 2 42 [.ref a0] h (.inl (g_wU r)) h' := by
  refine g_head hfl ((f_X8_blanks a0).2 h r h' hf) (plainFor_of_name (by decide)) (Nat.le_of_ble_eq_true rfl) (fun p e s m below meth c H locs cells slots ls X hI hl9 => ?_)
  have hl : lv_has ls 1 [(0, .ref a0)] := hl9
  have hx := X.1
  have hb := X.2.1
  have hown := X.2.2.2.1
  have hts := X.2.2.2.2.1
  unfold f_X8_blanks at hf
  exact b_X8_blanks_0 X gN _ _ _ _ _ _ _ hf hI (lv_sub hl [0] rfl)
/-! X8_letters -/
abbrev w_X8_letters_4 (G : gG) (l : Launch) (p : Program) (e : Env) (s : State) (m : MethodId) (args : Array Value) (below : List Frame) (meth : Method) (c : Code) (h0 : g_H) (r : Unit) (h' : g_H) (k : Nat → gM Unit) : Prop := ∀ (a0 : Nat) (h : g_H) (H : Heap) (locs : List Loc) (cells slots : Nat) (ls : Array Slot), (k a0).1 h = some (r, h') → gI G h0 h H locs cells slots → lv_has ls 1 [(0, .ref a0)] → W p l e (g_rm 3 62 h0 h') s m args below meth c H locs cells slots (gQ G below args s h0 h' (.inl (g_wU r))) (F0 m 4 ls [])
def f_X8_letters_4 : Nat → Nat → gM Unit
  | 0, _ => gFail
  | n + 1, a0 =>
    gB (gCk a0 7) fun _ =>
    gB (f_X8_isAt a0 (97 : Int32) (122 : Int32)) fun r101 =>
    gIf (r101 = 0)
    (gRet ())
    (gB (gFI a0 7 10) fun v102 =>
    gB (gPI a0 7 10 (v102 + (1 : Int32))) fun _ =>
    f_X8_letters_4 n a0)
set_option maxHeartbeats 4000000 in
set_option maxRecDepth 100000 in
theorem b_X8_letters_4 {G : gG} {l : Launch} {p : Program} {e : Env} {s : State} {m : MethodId} {args : Array Value} {below : List Frame} {meth : Method} {c : Code} {h0 : g_H} {r : Unit} {h' : g_H} (X : gX G l yX8_letters.cls cX8_letters 1 none [] yX8_letters.name p s m args meth c) : ∀ n : Nat, w_X8_letters_4 G l p e s m args below meth c h0 r h' (f_X8_letters_4 n) := by
  have hx := X.1
  have hb := X.2.1
  have hown := X.2.2.2.1
  have hts := X.2.2.2.2.1
  intro n
  induction n with
  | zero =>
    intro a0 h H locs cells slots ls hf hI hl
    exact (gFail_f hf).elim
  | succ n ih =>
    intro a0 h H locs cells slots ls hf hI hl
    rw [f_X8_letters_4] at hf
    refine lv_aload_n hx hb dX8_letters_4 rfl (lv_at hl 0 rfl) ?_
    refine lv_bipush (v := (97 : Int32)) hx hb dX8_letters_5 (by decide) ?_
    refine lv_bipush (v := (122 : Int32)) hx hb dX8_letters_7 (by decide) ?_
    obtain ⟨hs, hf⟩ := gCk_b hf
    refine g_cBI hI hf (fun v9 h9 e9 l9 l9' => g_rV X hI l9 l9' ⟨Nat.le_refl _, Nat.le_refl _⟩ (As := [.int (97 : Int32), .int (122 : Int32)]) (m_X8_isAt X.2.2.2.2.2.2.2.2.2.2.1 e9) ydX8_isAt hs rfl rfl q1599 q1601 qs47 q131 q1602 rfl (Nat.le_of_ble_eq_true rfl) (Nat.le_of_ble_eq_true rfl) hl.1 rfl (Nat.le_of_ble_eq_true rfl) dX8_letters_9) (fun r101 h H locs cells slots hf hI => ?_)
    refine lv_if_eq (tgt := 28) hx hb dX8_letters_12 (by decide) (fun c12 => ?_) (fun c12 => ?_)
    · have hf := g_t c12 hf
      cases gRet_e hf
      exact g_retU X hI rfl dX8_letters_28
    · have hf := g_f c12 hf
      refine lv_aload_n hx hb dX8_letters_15 rfl (lv_at hl 0 rfl) ?_
      refine lv_dup hx hb dX8_letters_16 rfl ?_
      refine g_fi X hI hf fX8_10 q1454 rfl rfl dX8_letters_17 (fun v102 hf => ?_)
      refine lv_iconst (v := (1 : Int32)) hx hb dX8_letters_20 (by decide) ?_
      refine lv_iadd hx hb dX8_letters_21 ?_
      refine g_pi X hI hf fX8_10 q1454 rfl dX8_letters_22 (fun h H locs hf hI => ?_)
      refine lv_goto (tgt := 4) hx hb dX8_letters_25 (by decide) ?_
      exact ih _ _ _ _ _ _ _ hf hI (lv_sub hl [0] rfl)
def f_X8_letters (a0 : Nat) : gM Unit :=
    gB (gCk a0 7) fun _ =>
    gB (f_X8_blanks a0) fun _ =>
    f_X8_letters_4 gN a0
set_option maxHeartbeats 4000000 in
set_option maxRecDepth 100000 in
theorem m_X8_letters {G : gG} {l : Launch} (hfl : l.stackTraces = false) {a0 : Nat} {h h' : g_H} {r : Unit} (hf : (f_X8_letters a0).1 h = some (r, h')) : gMet G l yX8_letters (Cond.code yX8_letters cX8_letters 1 none) 3 62 [.ref a0] h (.inl (g_wU r)) h' := by
  refine g_head hfl ((f_X8_letters a0).2 h r h' hf) (plainFor_of_name (by decide)) (Nat.le_of_ble_eq_true rfl) (fun p e s m below meth c H locs cells slots ls X hI hl9 => ?_)
  have hl : lv_has ls 1 [(0, .ref a0)] := hl9
  have hx := X.1
  have hb := X.2.1
  have hown := X.2.2.2.1
  have hts := X.2.2.2.2.1
  unfold f_X8_letters at hf
  refine lv_aload_n hx hb dX8_letters_0 rfl (lv_at hl 0 rfl) ?_
  obtain ⟨hs, hf⟩ := gCk_b hf
  refine g_cBU hI hf (fun v9 h9 e9 l9 l9' => g_rV X hI l9 l9' ⟨Nat.le_refl _, Nat.le_refl _⟩ (As := []) (m_X8_blanks X.2.2.2.2.2.2.2.2.2.2.1 e9) ydX8_blanks hs rfl rfl q1595 q1597 qs46 q131 q1598 rfl (Nat.le_of_ble_eq_true rfl) (Nat.le_of_ble_eq_true rfl) hl.1 rfl (Nat.le_of_ble_eq_true rfl) dX8_letters_1) (fun r1 h H locs cells slots hf hI => ?_)
  exact b_X8_letters_4 X gN _ _ _ _ _ _ _ hf hI (lv_sub hl [0] rfl)
/-! X8_isWord -/
abbrev w_X8_isWord_60 (G : gG) (l : Launch) (p : Program) (e : Env) (s : State) (m : MethodId) (args : Array Value) (below : List Frame) (meth : Method) (c : Code) (h0 : g_H) (r : Int32) (h' : g_H) (k : Nat → Nat → Int32 → Int32 → gM Int32) : Prop := ∀ (a0 : Nat) (a1 : Nat) (x3 : Int32) (u0 : Int32) (h : g_H) (H : Heap) (locs : List Loc) (cells slots : Nat) (ls : Array Slot), (k a0 a1 x3 u0).1 h = some (r, h') → gI G h0 h H locs cells slots → lv_has ls 4 [(0, .ref a0), (1, .ref a1), (3, .int x3)] → W p l e (g_rm 5 105 h0 h') s m args below meth c H locs cells slots (gQ G below args s h0 h' (.inl (g_wI r))) (F0 m 60 ls [.int u0])
abbrev w_X8_isWord_67 (G : gG) (l : Launch) (p : Program) (e : Env) (s : State) (m : MethodId) (args : Array Value) (below : List Frame) (meth : Method) (c : Code) (h0 : g_H) (r : Int32) (h' : g_H) (k : Int32 → gM Int32) : Prop := ∀ (x2 : Int32) (h : g_H) (H : Heap) (locs : List Loc) (cells slots : Nat) (ls : Array Slot), (k x2).1 h = some (r, h') → gI G h0 h H locs cells slots → lv_has ls 4 [(2, .int x2)] → W p l e (g_rm 5 105 h0 h') s m args below meth c H locs cells slots (gQ G below args s h0 h' (.inl (g_wI r))) (F0 m 67 ls [])
abbrev w_X8_isWord_24 (G : gG) (l : Launch) (p : Program) (e : Env) (s : State) (m : MethodId) (args : Array Value) (below : List Frame) (meth : Method) (c : Code) (h0 : g_H) (r : Int32) (h' : g_H) (k : Nat → Nat → Int32 → Int32 → gM Int32) : Prop := ∀ (a0 : Nat) (a1 : Nat) (x2 : Int32) (x3 : Int32) (h : g_H) (H : Heap) (locs : List Loc) (cells slots : Nat) (ls : Array Slot), (k a0 a1 x2 x3).1 h = some (r, h') → gI G h0 h H locs cells slots → lv_has ls 4 [(0, .ref a0), (1, .ref a1), (2, .int x2), (3, .int x3)] → W p l e (g_rm 5 105 h0 h') s m args below meth c H locs cells slots (gQ G below args s h0 h' (.inl (g_wI r))) (F0 m 24 ls [])
abbrev w_X8_isWord_21 (G : gG) (l : Launch) (p : Program) (e : Env) (s : State) (m : MethodId) (args : Array Value) (below : List Frame) (meth : Method) (c : Code) (h0 : g_H) (r : Int32) (h' : g_H) (k : Nat → Nat → Int32 → gM Int32) : Prop := ∀ (a0 : Nat) (a1 : Nat) (u0 : Int32) (h : g_H) (H : Heap) (locs : List Loc) (cells slots : Nat) (ls : Array Slot), (k a0 a1 u0).1 h = some (r, h') → gI G h0 h H locs cells slots → lv_has ls 4 [(0, .ref a0), (1, .ref a1)] → W p l e (g_rm 5 105 h0 h') s m args below meth c H locs cells slots (gQ G below args s h0 h' (.inl (g_wI r))) (F0 m 21 ls [.int u0])
def f_X8_isWord_60 (k24 : Nat → Nat → Int32 → Int32 → gM Int32) (a0 : Nat) (a1 : Nat) (x3 : Int32) (u0 : Int32) : gM Int32 :=
    k24 a0 a1 u0 (x3 + (1 : Int32))
set_option maxHeartbeats 4000000 in
set_option maxRecDepth 100000 in
theorem b_X8_isWord_60 {G : gG} {l : Launch} {p : Program} {e : Env} {s : State} {m : MethodId} {args : Array Value} {below : List Frame} {meth : Method} {c : Code} {h0 : g_H} {r : Int32} {h' : g_H} (X : gX G l yX8_isWord.cls cX8_isWord 4 (some .boolean) [] yX8_isWord.name p s m args meth c) {k24 : Nat → Nat → Int32 → Int32 → gM Int32} (K24 : w_X8_isWord_24 G l p e s m args below meth c h0 r h' k24) : w_X8_isWord_60 G l p e s m args below meth c h0 r h' (f_X8_isWord_60 k24) := by
  have hx := X.1
  have hb := X.2.1
  have hown := X.2.2.2.1
  have hts := X.2.2.2.2.1
  intro a0 a1 x3 u0 h H locs cells slots ls hf hI hl
  unfold f_X8_isWord_60 at hf
  refine lv_istore_n (lv' := [(2, .int u0), (0, .ref a0), (1, .ref a1), (3, .int x3)]) hx hb dX8_isWord_60 rfl hl (by decide) rfl (fun ls hl => ?_)
  refine lv_iinc (v := (x3 + (1 : Int32))) (lv' := [(3, .int (x3 + (1 : Int32))), (2, .int u0), (0, .ref a0), (1, .ref a1)]) hx hb dX8_isWord_61 hl (k := 3) rfl rfl (by decide) rfl (fun ls hl => ?_)
  refine lv_goto (tgt := 24) hx hb dX8_isWord_64 (by decide) ?_
  exact K24 _ _ _ _ _ _ _ _ _ _ hf hI (lv_sub hl [2, 3, 1, 0] rfl)
def f_X8_isWord_67 (x2 : Int32) : gM Int32 :=
    gB (gGd (x2 = 0 ∨ x2 = 1)) fun _ =>
    (gRet x2)
set_option maxHeartbeats 4000000 in
set_option maxRecDepth 100000 in
theorem b_X8_isWord_67 {G : gG} {l : Launch} {p : Program} {e : Env} {s : State} {m : MethodId} {args : Array Value} {below : List Frame} {meth : Method} {c : Code} {h0 : g_H} {r : Int32} {h' : g_H} (X : gX G l yX8_isWord.cls cX8_isWord 4 (some .boolean) [] yX8_isWord.name p s m args meth c) : w_X8_isWord_67 G l p e s m args below meth c h0 r h' (f_X8_isWord_67) := by
  have hx := X.1
  have hb := X.2.1
  have hown := X.2.2.2.1
  have hts := X.2.2.2.2.1
  intro x2 h H locs cells slots ls hf hI hl
  unfold f_X8_isWord_67 at hf
  refine lv_iload_n hx hb dX8_isWord_67 rfl (lv_at hl 0 rfl) ?_
  obtain ⟨hz, hf⟩ := gB_gd hf
  cases gRet_e hf
  exact g_retZ X hI hz rfl dX8_isWord_68
def f_X8_isWord_24 : Nat → Nat → Nat → Int32 → Int32 → gM Int32
  | 0, _, _, _, _ => gFail
  | n + 1, a0, a1, x2, x3 =>
    gIf (x2 = 0)
    (f_X8_isWord_67 x2)
    (gB (gCk a1 16) fun _ =>
    gB (f_J3_length a1) fun r101 =>
    gIf (r101 ≤ x3)
    (f_X8_isWord_67 x2)
    (gB (gFR a0 7 8) fun v102 =>
    gB (gFI a0 7 12) fun v103 =>
    gB (gAI v102 1 (v103 + x3)) fun v104 =>
    gB (gCk a1 16) fun _ =>
    gB (f_J3_charAt a1 x3) fun r105 =>
    gIf (v104 = r105)
    (f_X8_isWord_60 (f_X8_isWord_24 n) a0 a1 x3 (1 : Int32))
    (f_X8_isWord_60 (f_X8_isWord_24 n) a0 a1 x3 (0 : Int32))))
set_option maxHeartbeats 4000000 in
set_option maxRecDepth 100000 in
theorem b_X8_isWord_24 {G : gG} {l : Launch} {p : Program} {e : Env} {s : State} {m : MethodId} {args : Array Value} {below : List Frame} {meth : Method} {c : Code} {h0 : g_H} {r : Int32} {h' : g_H} (X : gX G l yX8_isWord.cls cX8_isWord 4 (some .boolean) [] yX8_isWord.name p s m args meth c) : ∀ n : Nat, w_X8_isWord_24 G l p e s m args below meth c h0 r h' (f_X8_isWord_24 n) := by
  have hx := X.1
  have hb := X.2.1
  have hown := X.2.2.2.1
  have hts := X.2.2.2.2.1
  intro n
  induction n with
  | zero =>
    intro a0 a1 x2 x3 h H locs cells slots ls hf hI hl
    exact (gFail_f hf).elim
  | succ n ih =>
    intro a0 a1 x2 x3 h H locs cells slots ls hf hI hl
    rw [f_X8_isWord_24] at hf
    refine lv_iload_n hx hb dX8_isWord_24 rfl (lv_at hl 2 rfl) ?_
    refine lv_if_eq (tgt := 67) hx hb dX8_isWord_25 (by decide) (fun c25 => ?_) (fun c25 => ?_)
    · have hf := g_t c25 hf
      exact b_X8_isWord_67 X _ _ _ _ _ _ _ hf hI (lv_sub hl [2] rfl)
    · have hf := g_f c25 hf
      refine lv_iload_n hx hb dX8_isWord_28 rfl (lv_at hl 3 rfl) ?_
      refine lv_aload_n hx hb dX8_isWord_29 rfl (lv_at hl 1 rfl) ?_
      obtain ⟨hs, hf⟩ := gCk_b hf
      refine g_cBI hI hf (fun v9 h9 e9 l9 l9' => g_rV X hI l9 l9' ⟨Nat.le_refl _, Nat.le_refl _⟩ (As := []) (m_J3_length X.2.2.2.2.2.2.2.2.2.2.1 e9) ydJ3_length hs rfl rfl q1620 q826 q827 q133 q828 rfl (Nat.le_of_ble_eq_true rfl) (Nat.le_of_ble_eq_true rfl) hl.1 rfl (Nat.le_of_ble_eq_true rfl) dX8_isWord_30) (fun r101 h H locs cells slots hf hI => ?_)
      refine lv_icmp_ge (tgt := 67) hx hb dX8_isWord_33 (by decide) (fun c33 => ?_) (fun c33 => ?_)
      · have hf := g_t c33 hf
        exact b_X8_isWord_67 X _ _ _ _ _ _ _ hf hI (lv_sub hl [2] rfl)
      · have hf := g_f c33 hf
        refine lv_aload_n hx hb dX8_isWord_36 rfl (lv_at hl 0 rfl) ?_
        refine g_fr X hI hf fX8_8 q1452 rfl rfl dX8_isWord_37 (fun v102 hf => ?_)
        refine lv_aload_n hx hb dX8_isWord_40 rfl (lv_at hl 0 rfl) ?_
        refine g_fi X hI hf fX8_12 q1456 rfl rfl dX8_isWord_41 (fun v103 hf => ?_)
        refine lv_iload_n hx hb dX8_isWord_44 rfl (lv_at hl 3 rfl) ?_
        refine lv_iadd hx hb dX8_isWord_45 ?_
        refine g_ai1 X hI hf dX8_isWord_46 (fun v104 hf => ?_)
        refine lv_aload_n hx hb dX8_isWord_47 rfl (lv_at hl 1 rfl) ?_
        refine lv_iload_n hx hb dX8_isWord_48 rfl (lv_at hl 3 rfl) ?_
        obtain ⟨hs, hf⟩ := gCk_b hf
        refine g_cBI hI hf (fun v9 h9 e9 l9 l9' => g_rV X hI l9 l9' ⟨Nat.le_refl _, Nat.le_refl _⟩ (As := [.int x3]) (m_J3_charAt X.2.2.2.2.2.2.2.2.2.2.1 e9) ydJ3_charAt hs rfl rfl q1621 q836 q837 q133 q838 rfl (Nat.le_of_ble_eq_true rfl) (Nat.le_of_ble_eq_true rfl) hl.1 rfl (Nat.le_of_ble_eq_true rfl) dX8_isWord_49) (fun r105 h H locs cells slots hf hI => ?_)
        refine lv_icmp_ne (tgt := 59) hx hb dX8_isWord_52 (by decide) (fun c52 => ?_) (fun c52 => ?_)
        · have hf := g_f c52 hf
          refine lv_iconst (v := (0 : Int32)) hx hb dX8_isWord_59 (by decide) ?_
          exact b_X8_isWord_60 X ih _ _ _ _ _ _ _ _ _ _ hf hI (lv_sub hl [0, 1, 3] rfl)
        · have hf := g_t c52 hf
          refine lv_iconst (v := (1 : Int32)) hx hb dX8_isWord_55 (by decide) ?_
          refine lv_goto (tgt := 60) hx hb dX8_isWord_56 (by decide) ?_
          exact b_X8_isWord_60 X ih _ _ _ _ _ _ _ _ _ _ hf hI (lv_sub hl [0, 1, 3] rfl)
def f_X8_isWord_21 (a0 : Nat) (a1 : Nat) (u0 : Int32) : gM Int32 :=
    f_X8_isWord_24 gN a0 a1 u0 (0 : Int32)
set_option maxHeartbeats 4000000 in
set_option maxRecDepth 100000 in
theorem b_X8_isWord_21 {G : gG} {l : Launch} {p : Program} {e : Env} {s : State} {m : MethodId} {args : Array Value} {below : List Frame} {meth : Method} {c : Code} {h0 : g_H} {r : Int32} {h' : g_H} (X : gX G l yX8_isWord.cls cX8_isWord 4 (some .boolean) [] yX8_isWord.name p s m args meth c) : w_X8_isWord_21 G l p e s m args below meth c h0 r h' (f_X8_isWord_21) := by
  have hx := X.1
  have hb := X.2.1
  have hown := X.2.2.2.1
  have hts := X.2.2.2.2.1
  intro a0 a1 u0 h H locs cells slots ls hf hI hl
  unfold f_X8_isWord_21 at hf
  refine lv_istore_n (lv' := [(2, .int u0), (0, .ref a0), (1, .ref a1)]) hx hb dX8_isWord_21 rfl hl (by decide) rfl (fun ls hl => ?_)
  refine lv_iconst (v := (0 : Int32)) hx hb dX8_isWord_22 (by decide) ?_
  refine lv_istore_n (lv' := [(3, .int (0 : Int32)), (2, .int u0), (0, .ref a0), (1, .ref a1)]) hx hb dX8_isWord_23 rfl hl (by decide) rfl (fun ls hl => ?_)
  exact b_X8_isWord_24 X gN _ _ _ _ _ _ _ _ _ _ hf hI (lv_sub hl [2, 3, 1, 0] rfl)
def f_X8_isWord (a0 : Nat) (a1 : Nat) : gM Int32 :=
    gB (gFI a0 7 10) fun v1 =>
    gB (gFI a0 7 12) fun v2 =>
    gB (gCk a1 16) fun _ =>
    gB (f_J3_length a1) fun r3 =>
    gIf ((v1 - v2) = r3)
    (f_X8_isWord_21 a0 a1 (1 : Int32))
    (f_X8_isWord_21 a0 a1 (0 : Int32))
set_option maxHeartbeats 4000000 in
set_option maxRecDepth 100000 in
theorem m_X8_isWord {G : gG} {l : Launch} (hfl : l.stackTraces = false) {a0 : Nat} {a1 : Nat} {h h' : g_H} {r : Int32} (hf : (f_X8_isWord a0 a1).1 h = some (r, h')) : gMet G l yX8_isWord (Cond.code yX8_isWord cX8_isWord 4 (some .boolean)) 5 105 [.ref a0, .ref a1] h (.inl (g_wI r)) h' := by
  refine g_head hfl ((f_X8_isWord a0 a1).2 h r h' hf) (plainFor_of_name (by decide)) (Nat.le_of_ble_eq_true rfl) (fun p e s m below meth c H locs cells slots ls X hI hl9 => ?_)
  have hl : lv_has ls 4 [(0, .ref a0), (1, .ref a1)] := hl9
  have hx := X.1
  have hb := X.2.1
  have hown := X.2.2.2.1
  have hts := X.2.2.2.2.1
  unfold f_X8_isWord at hf
  refine lv_aload_n hx hb dX8_isWord_0 rfl (lv_at hl 0 rfl) ?_
  refine g_fi X hI hf fX8_10 q1454 rfl rfl dX8_isWord_1 (fun v1 hf => ?_)
  refine lv_aload_n hx hb dX8_isWord_4 rfl (lv_at hl 0 rfl) ?_
  refine g_fi X hI hf fX8_12 q1456 rfl rfl dX8_isWord_5 (fun v2 hf => ?_)
  refine lv_isub hx hb dX8_isWord_8 ?_
  refine lv_aload_n hx hb dX8_isWord_9 rfl (lv_at hl 1 rfl) ?_
  obtain ⟨hs, hf⟩ := gCk_b hf
  refine g_cBI hI hf (fun v9 h9 e9 l9 l9' => g_rV X hI l9 l9' ⟨Nat.le_refl _, Nat.le_refl _⟩ (As := []) (m_J3_length X.2.2.2.2.2.2.2.2.2.2.1 e9) ydJ3_length hs rfl rfl q1620 q826 q827 q133 q828 rfl (Nat.le_of_ble_eq_true rfl) (Nat.le_of_ble_eq_true rfl) hl.1 rfl (Nat.le_of_ble_eq_true rfl) dX8_isWord_10) (fun r3 h H locs cells slots hf hI => ?_)
  refine lv_icmp_ne (tgt := 20) hx hb dX8_isWord_13 (by decide) (fun c13 => ?_) (fun c13 => ?_)
  · have hf := g_f c13 hf
    refine lv_iconst (v := (0 : Int32)) hx hb dX8_isWord_20 (by decide) ?_
    exact b_X8_isWord_21 X _ _ _ _ _ _ _ _ _ hf hI (lv_sub hl [0, 1] rfl)
  · have hf := g_t c13 hf
    refine lv_iconst (v := (1 : Int32)) hx hb dX8_isWord_16 (by decide) ?_
    refine lv_goto (tgt := 21) hx hb dX8_isWord_17 (by decide) ?_
    exact b_X8_isWord_21 X _ _ _ _ _ _ _ _ _ hf hI (lv_sub hl [0, 1] rfl)
end
