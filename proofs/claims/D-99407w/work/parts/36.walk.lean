noncomputable section
/-! X2_line -/
abbrev w_X2_line_112 (G : gG) (l : Launch) (p : Program) (e : Env) (s : State) (m : MethodId) (args : Array Value) (below : List Frame) (meth : Method) (c : Code) (h0 : g_H) (r : (Unit ⊕ gE)) (h' : g_H) (k : gM (Unit ⊕ gE)) : Prop := ∀ (h : g_H) (H : Heap) (locs : List Loc) (cells slots : Nat) (ls : Array Slot), (k).1 h = some (r, h') → gI G h0 h H locs cells slots → lv_has ls 2 [] → W p l e (g_rm 9 198 h0 h') s m args below meth c H locs cells slots (gQ G below args s h0 h' (g_w g_wU r)) (F0 m 112 ls [])
def f_X2_line_112 : gM (Unit ⊕ gE) :=
    gRet (.inl ())
set_option maxHeartbeats 4000000 in
set_option maxRecDepth 100000 in
theorem b_X2_line_112 {G : gG} {l : Launch} {p : Program} {e : Env} {s : State} {m : MethodId} {args : Array Value} {below : List Frame} {meth : Method} {c : Code} {h0 : g_H} {r : (Unit ⊕ gE)} {h' : g_H} (X : gX G l yX2_line.cls cX2_line 2 none [] yX2_line.name p s m args meth c) : w_X2_line_112 G l p e s m args below meth c h0 r h' (f_X2_line_112) := by
  have hx := X.1
  have hb := X.2.1
  have hown := X.2.2.2.1
  have hts := X.2.2.2.2.1
  intro h H locs cells slots ls hf hI hl
  unfold f_X2_line_112 at hf
  cases gRet_e hf
  exact g_retU X hI rfl dX2_line_112
def f_X2_line (a0 : Nat) : gM (Unit ⊕ gE) :=
    gB (gFI a0 1 8) fun v1 =>
    gB (gTx 0) fun t2 =>
    gB (gCk a0 1) fun _ =>
    gB (f_X2_takes a0 t2) fun r3 =>
    gIf (r3 = 0)
    (gB (gTx 9) fun t4 =>
    gB (gCk a0 1) fun _ =>
    gB (f_X2_takes a0 t4) fun r5 =>
    gIf (r5 = 0)
    (gB (gTx 11) fun t6 =>
    gB (gCk a0 1) fun _ =>
    gB (f_X2_takes a0 t6) fun r7 =>
    gIf (r7 = 0)
    (gB (gTx 12) fun t8 =>
    gB (gCk a0 1) fun _ =>
    gB (f_X2_takes a0 t8) fun r9 =>
    gIf (r9 = 0)
    (gB (gTx 13) fun t10 =>
    gB (gCk a0 1) fun _ =>
    gT (f_X2_expect a0 t10) fun _ =>
    gB (gFR a0 1 4) fun v12 =>
    gB (gCk a0 1) fun _ =>
    gT (f_X2_number a0 (0 : Int32) (999 : Int32)) fun r13 =>
    gB (gPI v12 2 10 r13) fun _ =>
    f_X2_line_112)
    (gB (gFR a0 1 4) fun v14 =>
    gB (gCk a0 1) fun _ =>
    gT (f_X2_number a0 (0 : Int32) (20 : Int32)) fun r15 =>
    gB (gPI v14 2 12 r15) fun _ =>
    f_X2_line_112))
    (gB (gFR a0 1 4) fun v16 =>
    gB (gCk a0 1) fun _ =>
    gT (f_X2_number a0 (0 : Int32) (9 : Int32)) fun r17 =>
    gB (gPI v16 2 11 r17) fun _ =>
    f_X2_line_112))
    (gB (gCk a0 1) fun _ =>
    gT (f_X2_addOne a0 v1) fun _ =>
    f_X2_line_112))
    (gB (gCk a0 1) fun _ =>
    gT (f_X2_addProp a0 v1) fun _ =>
    f_X2_line_112)
set_option maxHeartbeats 4000000 in
set_option maxRecDepth 100000 in
theorem m_X2_line {G : gG} {l : Launch} (hfl : l.stackTraces = false) {a0 : Nat} {h h' : g_H} {r : (Unit ⊕ gE)} (hf : (f_X2_line a0).1 h = some (r, h')) : gMet G l yX2_line (Cond.code yX2_line cX2_line 2 none) 9 198 [.ref a0] h (g_w g_wU r) h' := by
  refine g_head hfl ((f_X2_line a0).2 h r h' hf) (plainFor_of_name (by decide)) (Nat.le_of_ble_eq_true rfl) (fun p e s m below meth c H locs cells slots ls X hI hl9 => ?_)
  have hl : lv_has ls 2 [(0, .ref a0)] := hl9
  have hx := X.1
  have hb := X.2.1
  have hown := X.2.2.2.1
  have hts := X.2.2.2.2.1
  unfold f_X2_line at hf
  refine lv_aload_n hx hb dX2_line_0 rfl (lv_at hl 0 rfl) ?_
  refine g_fi X hI hf fX2_8 q405 rfl rfl dX2_line_1 (fun v1 hf => ?_)
  refine lv_istore_n (lv' := [(1, .int v1), (0, .ref a0)]) hx hb dX2_line_4 rfl hl (by decide) rfl (fun ls hl => ?_)
  refine lv_aload_n hx hb dX2_line_5 rfl (lv_at hl 1 rfl) ?_
  refine g_ldcS (tx := "prop") X hI hf (List.mem_of_getElem? (i := 0) rfl) dX2_line_6 (fun t2 hf => ?_)
  obtain ⟨hs, hf⟩ := gCk_b hf
  refine g_cBI hI hf (fun v9 h9 e9 l9 l9' => g_rV X hI l9 l9' ⟨Nat.le_refl _, Nat.le_refl _⟩ (As := [.ref t2]) (m_X2_takes X.2.2.2.2.2.2.2.2.2.2.1 e9) ydX2_takes hs rfl rfl q821 q823 qs21 q122 q824 rfl (Nat.le_of_ble_eq_true rfl) (Nat.le_of_ble_eq_true rfl) hl.1 rfl (Nat.le_of_ble_eq_true rfl) dX2_line_8) (fun r3 h H locs cells slots hf hI => ?_)
  refine lv_if_eq (tgt := 22) hx hb dX2_line_11 (by decide) (fun c11 => ?_) (fun c11 => ?_)
  · have hf := g_t c11 hf
    refine lv_aload_n hx hb dX2_line_22 rfl (lv_at hl 1 rfl) ?_
    refine g_ldcS (tx := "accused") X hI hf (List.mem_of_getElem? (i := 9) rfl) dX2_line_23 (fun t4 hf => ?_)
    obtain ⟨hs, hf⟩ := gCk_b hf
    refine g_cBI hI hf (fun v9 h9 e9 l9 l9' => g_rV X hI l9 l9' ⟨Nat.le_refl _, Nat.le_refl _⟩ (As := [.ref t4]) (m_X2_takes X.2.2.2.2.2.2.2.2.2.2.1 e9) ydX2_takes hs rfl rfl q821 q823 qs21 q122 q824 rfl (Nat.le_of_ble_eq_true rfl) (Nat.le_of_ble_eq_true rfl) hl.1 rfl (Nat.le_of_ble_eq_true rfl) dX2_line_25) (fun r5 h H locs cells slots hf hI => ?_)
    refine lv_if_eq (tgt := 39) hx hb dX2_line_28 (by decide) (fun c28 => ?_) (fun c28 => ?_)
    · have hf := g_t c28 hf
      refine lv_aload_n hx hb dX2_line_39 rfl (lv_at hl 1 rfl) ?_
      refine g_ldcS (tx := "calm") X hI hf (List.mem_of_getElem? (i := 11) rfl) dX2_line_40 (fun t6 hf => ?_)
      obtain ⟨hs, hf⟩ := gCk_b hf
      refine g_cBI hI hf (fun v9 h9 e9 l9 l9' => g_rV X hI l9 l9' ⟨Nat.le_refl _, Nat.le_refl _⟩ (As := [.ref t6]) (m_X2_takes X.2.2.2.2.2.2.2.2.2.2.1 e9) ydX2_takes hs rfl rfl q821 q823 qs21 q122 q824 rfl (Nat.le_of_ble_eq_true rfl) (Nat.le_of_ble_eq_true rfl) hl.1 rfl (Nat.le_of_ble_eq_true rfl) dX2_line_42) (fun r7 h H locs cells slots hf hI => ?_)
      refine lv_if_eq (tgt := 65) hx hb dX2_line_45 (by decide) (fun c45 => ?_) (fun c45 => ?_)
      · have hf := g_t c45 hf
        refine lv_aload_n hx hb dX2_line_65 rfl (lv_at hl 1 rfl) ?_
        refine g_ldcS (tx := "echo") X hI hf (List.mem_of_getElem? (i := 12) rfl) dX2_line_66 (fun t8 hf => ?_)
        obtain ⟨hs, hf⟩ := gCk_b hf
        refine g_cBI hI hf (fun v9 h9 e9 l9 l9' => g_rV X hI l9 l9' ⟨Nat.le_refl _, Nat.le_refl _⟩ (As := [.ref t8]) (m_X2_takes X.2.2.2.2.2.2.2.2.2.2.1 e9) ydX2_takes hs rfl rfl q821 q823 qs21 q122 q824 rfl (Nat.le_of_ble_eq_true rfl) (Nat.le_of_ble_eq_true rfl) hl.1 rfl (Nat.le_of_ble_eq_true rfl) dX2_line_68) (fun r9 h H locs cells slots hf hI => ?_)
        refine lv_if_eq (tgt := 91) hx hb dX2_line_71 (by decide) (fun c71 => ?_) (fun c71 => ?_)
        · have hf := g_t c71 hf
          refine lv_aload_n hx hb dX2_line_91 rfl (lv_at hl 1 rfl) ?_
          refine g_ldcS (tx := "day") X hI hf (List.mem_of_getElem? (i := 13) rfl) dX2_line_92 (fun t10 hf => ?_)
          obtain ⟨hs, hf⟩ := gCk_b hf
          refine g_cTU X hI (by decide) hf (fun v9 h9 e9 l9 l9' => g_rV X hI l9 l9' ⟨Nat.le_refl _, Nat.le_refl _⟩ (As := [.ref t10]) (m_X2_expect X.2.2.2.2.2.2.2.2.2.2.1 e9) ydX2_expect hs rfl rfl q894 q896 qs26 q122 q897 rfl (Nat.le_of_ble_eq_true rfl) (Nat.le_of_ble_eq_true rfl) hl.1 rfl (Nat.le_of_ble_eq_true rfl) dX2_line_94) (fun r11 h H locs cells slots hf hI => ?_)
          refine lv_aload_n hx hb dX2_line_97 rfl (lv_at hl 1 rfl) ?_
          refine g_fr X hI hf fX2_4 q401 rfl rfl dX2_line_98 (fun v12 hf => ?_)
          refine lv_aload_n hx hb dX2_line_101 rfl (lv_at hl 1 rfl) ?_
          refine lv_iconst (v := (0 : Int32)) hx hb dX2_line_102 (by decide) ?_
          refine lv_sipush (v := (999 : Int32)) hx hb dX2_line_103 (by decide) ?_
          obtain ⟨hs, hf⟩ := gCk_b hf
          refine g_cTI X hI (by decide) hf (fun v9 h9 e9 l9 l9' => g_rV X hI l9 l9' ⟨Nat.le_refl _, Nat.le_refl _⟩ (As := [.int (0 : Int32), .int (999 : Int32)]) (m_X2_number X.2.2.2.2.2.2.2.2.2.2.1 e9) ydX2_number hs rfl rfl q898 q900 qs27 q122 q901 rfl (Nat.le_of_ble_eq_true rfl) (Nat.le_of_ble_eq_true rfl) hl.1 rfl (Nat.le_of_ble_eq_true rfl) dX2_line_106) (fun r13 h H locs cells slots hf hI => ?_)
          refine g_piN X hI hf fX3_10 q278 rfl dX2_line_109 (fun h H locs hf hI => ?_)
          exact b_X2_line_112 X _ _ _ _ _ _ hf hI (lv_sub hl [] rfl)
        · have hf := g_f c71 hf
          refine lv_aload_n hx hb dX2_line_74 rfl (lv_at hl 1 rfl) ?_
          refine g_fr X hI hf fX2_4 q401 rfl rfl dX2_line_75 (fun v14 hf => ?_)
          refine lv_aload_n hx hb dX2_line_78 rfl (lv_at hl 1 rfl) ?_
          refine lv_iconst (v := (0 : Int32)) hx hb dX2_line_79 (by decide) ?_
          refine lv_bipush (v := (20 : Int32)) hx hb dX2_line_80 (by decide) ?_
          obtain ⟨hs, hf⟩ := gCk_b hf
          refine g_cTI X hI (by decide) hf (fun v9 h9 e9 l9 l9' => g_rV X hI l9 l9' ⟨Nat.le_refl _, Nat.le_refl _⟩ (As := [.int (0 : Int32), .int (20 : Int32)]) (m_X2_number X.2.2.2.2.2.2.2.2.2.2.1 e9) ydX2_number hs rfl rfl q898 q900 qs27 q122 q901 rfl (Nat.le_of_ble_eq_true rfl) (Nat.le_of_ble_eq_true rfl) hl.1 rfl (Nat.le_of_ble_eq_true rfl) dX2_line_82) (fun r15 h H locs cells slots hf hI => ?_)
          refine g_piN X hI hf fX3_12 q284 rfl dX2_line_85 (fun h H locs hf hI => ?_)
          refine lv_goto (tgt := 112) hx hb dX2_line_88 (by decide) ?_
          exact b_X2_line_112 X _ _ _ _ _ _ hf hI (lv_sub hl [] rfl)
      · have hf := g_f c45 hf
        refine lv_aload_n hx hb dX2_line_48 rfl (lv_at hl 1 rfl) ?_
        refine g_fr X hI hf fX2_4 q401 rfl rfl dX2_line_49 (fun v16 hf => ?_)
        refine lv_aload_n hx hb dX2_line_52 rfl (lv_at hl 1 rfl) ?_
        refine lv_iconst (v := (0 : Int32)) hx hb dX2_line_53 (by decide) ?_
        refine lv_bipush (v := (9 : Int32)) hx hb dX2_line_54 (by decide) ?_
        obtain ⟨hs, hf⟩ := gCk_b hf
        refine g_cTI X hI (by decide) hf (fun v9 h9 e9 l9 l9' => g_rV X hI l9 l9' ⟨Nat.le_refl _, Nat.le_refl _⟩ (As := [.int (0 : Int32), .int (9 : Int32)]) (m_X2_number X.2.2.2.2.2.2.2.2.2.2.1 e9) ydX2_number hs rfl rfl q898 q900 qs27 q122 q901 rfl (Nat.le_of_ble_eq_true rfl) (Nat.le_of_ble_eq_true rfl) hl.1 rfl (Nat.le_of_ble_eq_true rfl) dX2_line_56) (fun r17 h H locs cells slots hf hI => ?_)
        refine g_piN X hI hf fX3_11 q281 rfl dX2_line_59 (fun h H locs hf hI => ?_)
        refine lv_goto (tgt := 112) hx hb dX2_line_62 (by decide) ?_
        exact b_X2_line_112 X _ _ _ _ _ _ hf hI (lv_sub hl [] rfl)
    · have hf := g_f c28 hf
      refine lv_aload_n hx hb dX2_line_31 rfl (lv_at hl 1 rfl) ?_
      refine lv_iload_n hx hb dX2_line_32 rfl (lv_at hl 0 rfl) ?_
      obtain ⟨hs, hf⟩ := gCk_b hf
      refine g_cTU X hI (by decide) hf (fun v9 h9 e9 l9 l9' => g_rV X hI l9 l9' ⟨Nat.le_refl _, Nat.le_refl _⟩ (As := [.int v1]) (m_X2_addOne X.2.2.2.2.2.2.2.2.2.2.1 e9) ydX2_addOne hs rfl rfl q908 q910 qs28 q122 q911 rfl (Nat.le_of_ble_eq_true rfl) (Nat.le_of_ble_eq_true rfl) hl.1 rfl (Nat.le_of_ble_eq_true rfl) dX2_line_33) (fun r18 h H locs cells slots hf hI => ?_)
      refine lv_goto (tgt := 112) hx hb dX2_line_36 (by decide) ?_
      exact b_X2_line_112 X _ _ _ _ _ _ hf hI (lv_sub hl [] rfl)
  · have hf := g_f c11 hf
    refine lv_aload_n hx hb dX2_line_14 rfl (lv_at hl 1 rfl) ?_
    refine lv_iload_n hx hb dX2_line_15 rfl (lv_at hl 0 rfl) ?_
    obtain ⟨hs, hf⟩ := gCk_b hf
    refine g_cTU X hI (by decide) hf (fun v9 h9 e9 l9 l9' => g_rV X hI l9 l9' ⟨Nat.le_refl _, Nat.le_refl _⟩ (As := [.int v1]) (m_X2_addProp X.2.2.2.2.2.2.2.2.2.2.1 e9) ydX2_addProp hs rfl rfl q873 q875 qs22 q122 q876 rfl (Nat.le_of_ble_eq_true rfl) (Nat.le_of_ble_eq_true rfl) hl.1 rfl (Nat.le_of_ble_eq_true rfl) dX2_line_16) (fun r19 h H locs cells slots hf hI => ?_)
    refine lv_goto (tgt := 112) hx hb dX2_line_19 (by decide) ?_
    exact b_X2_line_112 X _ _ _ _ _ _ hf hI (lv_sub hl [] rfl)
/-! X2_court -/
abbrev w_X2_court_35 (G : gG) (l : Launch) (p : Program) (e : Env) (s : State) (m : MethodId) (args : Array Value) (below : List Frame) (meth : Method) (c : Code) (h0 : g_H) (r : (Nat ⊕ gE)) (h' : g_H) (k : Nat → gM (Nat ⊕ gE)) : Prop := ∀ (a0 : Nat) (h : g_H) (H : Heap) (locs : List Loc) (cells slots : Nat) (ls : Array Slot), (k a0).1 h = some (r, h') → gI G h0 h H locs cells slots → lv_has ls 4 [(0, .ref a0)] → W p l e (g_rm 10 219 h0 h') s m args below meth c H locs cells slots (gQ G below args s h0 h' (g_w g_wR r)) (F0 m 35 ls [])
abbrev w_X2_court_15 (G : gG) (l : Launch) (p : Program) (e : Env) (s : State) (m : MethodId) (args : Array Value) (below : List Frame) (meth : Method) (c : Code) (h0 : g_H) (r : (Nat ⊕ gE)) (h' : g_H) (k : Nat → Int32 → gM (Nat ⊕ gE)) : Prop := ∀ (a0 : Nat) (x3 : Int32) (h : g_H) (H : Heap) (locs : List Loc) (cells slots : Nat) (ls : Array Slot), (k a0 x3).1 h = some (r, h') → gI G h0 h H locs cells slots → lv_has ls 4 [(0, .ref a0), (3, .int x3)] → W p l e (g_rm 10 219 h0 h') s m args below meth c H locs cells slots (gQ G below args s h0 h' (g_w g_wR r)) (F0 m 15 ls [])
def f_X2_court_35 (a0 : Nat) : gM (Nat ⊕ gE) :=
    gB (gFR a0 1 4) fun v101 =>
    gRet (.inl v101)
set_option maxHeartbeats 4000000 in
set_option maxRecDepth 100000 in
theorem b_X2_court_35 {G : gG} {l : Launch} {p : Program} {e : Env} {s : State} {m : MethodId} {args : Array Value} {below : List Frame} {meth : Method} {c : Code} {h0 : g_H} {r : (Nat ⊕ gE)} {h' : g_H} (X : gX G l yX2_court.cls cX2_court 4 (some (.object "GhostAssize$State")) [] yX2_court.name p s m args meth c) : w_X2_court_35 G l p e s m args below meth c h0 r h' (f_X2_court_35) := by
  have hx := X.1
  have hb := X.2.1
  have hown := X.2.2.2.1
  have hts := X.2.2.2.2.1
  intro a0 h H locs cells slots ls hf hI hl
  unfold f_X2_court_35 at hf
  refine lv_aload_n hx hb dX2_court_35 rfl (lv_at hl 0 rfl) ?_
  refine g_fr X hI hf fX2_4 q401 rfl rfl dX2_court_36 (fun v101 hf => ?_)
  cases gRet_e hf
  exact g_retR X hI (Or.inl ⟨_, rfl⟩) rfl dX2_court_39
def f_X2_court_15 : Nat → Nat → Int32 → gM (Nat ⊕ gE)
  | 0, _, _ => gFail
  | n + 1, a0, x3 =>
    gB (gCk a0 1) fun _ =>
    gT (f_X2_more a0 x3 (14 : Int32)) fun r101 =>
    gIf (r101 = 0)
    (f_X2_court_35 a0)
    (gB (gCk a0 1) fun _ =>
    gT (f_X2_line a0) fun _ =>
    f_X2_court_15 n a0 (x3 + (1 : Int32)))
set_option maxHeartbeats 4000000 in
set_option maxRecDepth 100000 in
theorem b_X2_court_15 {G : gG} {l : Launch} {p : Program} {e : Env} {s : State} {m : MethodId} {args : Array Value} {below : List Frame} {meth : Method} {c : Code} {h0 : g_H} {r : (Nat ⊕ gE)} {h' : g_H} (X : gX G l yX2_court.cls cX2_court 4 (some (.object "GhostAssize$State")) [] yX2_court.name p s m args meth c) : ∀ n : Nat, w_X2_court_15 G l p e s m args below meth c h0 r h' (f_X2_court_15 n) := by
  have hx := X.1
  have hb := X.2.1
  have hown := X.2.2.2.1
  have hts := X.2.2.2.2.1
  intro n
  induction n with
  | zero =>
    intro a0 x3 h H locs cells slots ls hf hI hl
    exact (gFail_f hf).elim
  | succ n ih =>
    intro a0 x3 h H locs cells slots ls hf hI hl
    rw [f_X2_court_15] at hf
    refine lv_aload_n hx hb dX2_court_15 rfl (lv_at hl 0 rfl) ?_
    refine lv_iload_n hx hb dX2_court_16 rfl (lv_at hl 1 rfl) ?_
    refine lv_bipush (v := (14 : Int32)) hx hb dX2_court_17 (by decide) ?_
    obtain ⟨hs, hf⟩ := gCk_b hf
    refine g_cTI X hI (by decide) hf (fun v9 h9 e9 l9 l9' => g_rV X hI l9 l9' ⟨Nat.le_refl _, Nat.le_refl _⟩ (As := [.int x3, .int (14 : Int32)]) (m_X2_more X.2.2.2.2.2.2.2.2.2.2.1 e9) ydX2_more hs rfl rfl q805 q807 qs17 q122 q808 rfl (Nat.le_of_ble_eq_true rfl) (Nat.le_of_ble_eq_true rfl) hl.1 rfl (Nat.le_of_ble_eq_true rfl) dX2_court_19) (fun r101 h H locs cells slots hf hI => ?_)
    refine lv_if_eq (tgt := 35) hx hb dX2_court_22 (by decide) (fun c22 => ?_) (fun c22 => ?_)
    · have hf := g_t c22 hf
      exact b_X2_court_35 X _ _ _ _ _ _ _ hf hI (lv_sub hl [0] rfl)
    · have hf := g_f c22 hf
      refine lv_aload_n hx hb dX2_court_25 rfl (lv_at hl 0 rfl) ?_
      obtain ⟨hs, hf⟩ := gCk_b hf
      refine g_cTU X hI (by decide) hf (fun v9 h9 e9 l9 l9' => g_rV X hI l9 l9' ⟨Nat.le_refl _, Nat.le_refl _⟩ (As := []) (m_X2_line X.2.2.2.2.2.2.2.2.2.2.1 e9) ydX2_line hs rfl rfl q817 q819 qs20 q122 q820 rfl (Nat.le_of_ble_eq_true rfl) (Nat.le_of_ble_eq_true rfl) hl.1 rfl (Nat.le_of_ble_eq_true rfl) dX2_court_26) (fun r102 h H locs cells slots hf hI => ?_)
      refine lv_iinc (v := (x3 + (1 : Int32))) (lv' := [(3, .int (x3 + (1 : Int32))), (0, .ref a0)]) hx hb dX2_court_29 hl (k := 1) rfl rfl (by decide) rfl (fun ls hl => ?_)
      refine lv_goto (tgt := 15) hx hb dX2_court_32 (by decide) ?_
      exact ih _ _ _ _ _ _ _ _ hf hI (lv_sub hl [1, 0] rfl)
def f_X2_court (a0 : Nat) (x1 : Int32) (a2 : Nat) : gM (Nat ⊕ gE) :=
    gB (gCk a0 1) fun _ =>
    gB (f_X2_begins a0 x1) fun _ =>
    gB (gFR a0 1 4) fun v2 =>
    gB (gCk v2 2) fun _ =>
    gB (f_X3_be v2 a2) fun _ =>
    f_X2_court_15 gN a0 (0 : Int32)
set_option maxHeartbeats 4000000 in
set_option maxRecDepth 100000 in
theorem m_X2_court {G : gG} {l : Launch} (hfl : l.stackTraces = false) {a0 : Nat} {x1 : Int32} {a2 : Nat} {h h' : g_H} {r : (Nat ⊕ gE)} (hf : (f_X2_court a0 x1 a2).1 h = some (r, h')) : gMet G l yX2_court (Cond.code yX2_court cX2_court 4 (some (.object "GhostAssize$State"))) 10 219 [.ref a0, .int x1, .ref a2] h (g_w g_wR r) h' := by
  refine g_head hfl ((f_X2_court a0 x1 a2).2 h r h' hf) (plainFor_of_name (by decide)) (Nat.le_of_ble_eq_true rfl) (fun p e s m below meth c H locs cells slots ls X hI hl9 => ?_)
  have hl : lv_has ls 4 [(0, .ref a0), (1, .int x1), (2, .ref a2)] := hl9
  have hx := X.1
  have hb := X.2.1
  have hown := X.2.2.2.1
  have hts := X.2.2.2.2.1
  unfold f_X2_court at hf
  refine lv_aload_n hx hb dX2_court_0 rfl (lv_at hl 0 rfl) ?_
  refine lv_iload_n hx hb dX2_court_1 rfl (lv_at hl 1 rfl) ?_
  obtain ⟨hs, hf⟩ := gCk_b hf
  refine g_cBU hI hf (fun v9 h9 e9 l9 l9' => g_rV X hI l9 l9' ⟨Nat.le_refl _, Nat.le_refl _⟩ (As := [.int x1]) (m_X2_begins X.2.2.2.2.2.2.2.2.2.2.1 e9) ydX2_begins hs rfl rfl q800 q802 qs16 q122 q803 rfl (Nat.le_of_ble_eq_true rfl) (Nat.le_of_ble_eq_true rfl) hl.1 rfl (Nat.le_of_ble_eq_true rfl) dX2_court_2) (fun r1 h H locs cells slots hf hI => ?_)
  refine lv_aload_n hx hb dX2_court_5 rfl (lv_at hl 0 rfl) ?_
  refine g_fr X hI hf fX2_4 q401 rfl rfl dX2_court_6 (fun v2 hf => ?_)
  refine lv_aload_n hx hb dX2_court_9 rfl (lv_at hl 2 rfl) ?_
  obtain ⟨hs, hf⟩ := gCk_b hf
  refine g_cBU hI hf (fun v9 h9 e9 l9 l9' => g_rV X hI l9 l9' ⟨Nat.le_refl _, Nat.le_refl _⟩ (As := [.ref a2]) (m_X3_be X.2.2.2.2.2.2.2.2.2.2.1 e9) ydX3_be hs rfl rfl q804 q673 q674 q123 q675 rfl (Nat.le_of_ble_eq_true rfl) (Nat.le_of_ble_eq_true rfl) hl.1 rfl (Nat.le_of_ble_eq_true rfl) dX2_court_10) (fun r3 h H locs cells slots hf hI => ?_)
  refine lv_iconst (v := (0 : Int32)) hx hb dX2_court_13 (by decide) ?_
  refine lv_istore_n (lv' := [(3, .int (0 : Int32)), (0, .ref a0), (1, .int x1), (2, .ref a2)]) hx hb dX2_court_14 rfl hl (by decide) rfl (fun ls hl => ?_)
  exact b_X2_court_15 X gN _ _ _ _ _ _ _ _ hf hI (lv_sub hl [1, 0] rfl)
/-! X1_mayBe -/
def f_X1_mayBe (x0 : Int32) : gM (Unit ⊕ gE) :=
    gIf (x0 = 0)
    (gB (gNew 18 6) fun a1 =>
    gB (gCk a1 18) fun _ =>
    gRet (.inr (18, a1)))
    (gRet (.inl ()))
set_option maxHeartbeats 4000000 in
set_option maxRecDepth 100000 in
theorem m_X1_mayBe {G : gG} {l : Launch} (hfl : l.stackTraces = false) {x0 : Int32} {h h' : g_H} {r : (Unit ⊕ gE)} (hf : (f_X1_mayBe x0).1 h = some (r, h')) : gMet G l yX1_mayBe (Cond.code yX1_mayBe cX1_mayBe 1 none) 6 89 [.int x0] h (g_w g_wU r) h' := by
  refine g_head hfl ((f_X1_mayBe x0).2 h r h' hf) (plainFor_of_name (by decide)) (Nat.le_of_ble_eq_true rfl) (fun p e s m below meth c H locs cells slots ls X hI hl9 => ?_)
  have hl : lv_has ls 1 [(0, .int x0)] := hl9
  have hx := X.1
  have hb := X.2.1
  have hown := X.2.2.2.1
  have hts := X.2.2.2.2.1
  unfold f_X1_mayBe at hf
  refine lv_iload_n hx hb dX1_mayBe_0 rfl (lv_at hl 0 rfl) ?_
  refine lv_if_ne (tgt := 12) hx hb dX1_mayBe_1 (by decide) (fun c1 => ?_) (fun c1 => ?_)
  · have hf := g_f c1 hf
    cases gRet_e hf
    exact g_retU X hI rfl dX1_mayBe_12
  · have hf := g_t c1 hf
    refine g_make (names := ["java/lang/RuntimeException", "java/lang/Exception"]) (ik := 73) (ic := 75) (cls := "java/lang/UnsupportedOperationException") X hI hf ⟨Nat.le_refl _, Nat.le_refl _⟩ rfl rfl rfl rfl (by decide) (by decide) q944 q139 (g_hat X x18_1 x18_2) (List.all_eq_true.mp x18_3) hl.1 dX1_mayBe_4 dX1_mayBe_7 dX1_mayBe_8 (Nat.lt_of_lt_of_le (show 2 + 3 < 6 by decide) (Nat.le_of_ble_eq_true rfl)) (Nat.le_of_ble_eq_true rfl) (Nat.le_of_ble_eq_true rfl) (fun a1 h H cells slots hf hI => ?_)
    obtain ⟨hs, hf⟩ := gCk_b hf
    cases gRet_e hf
    exact g_athrow X hI (by decide) hs rfl rfl dX1_mayBe_11
/-! X1_court -/
abbrev w_X1_court_50 (G : gG) (l : Launch) (p : Program) (e : Env) (s : State) (m : MethodId) (args : Array Value) (below : List Frame) (meth : Method) (c : Code) (h0 : g_H) (r : (Int32 ⊕ gE)) (h' : g_H) (k : Nat → Nat → Int32 → gM (Int32 ⊕ gE)) : Prop := ∀ (a0 : Nat) (a2 : Nat) (u0 : Int32) (h : g_H) (H : Heap) (locs : List Loc) (cells slots : Nat) (ls : Array Slot), (k a0 a2 u0).1 h = some (r, h') → gI G h0 h H locs cells slots → lv_has ls 4 [(0, .ref a0), (2, .ref a2)] → W p l e (g_rm 11 242 h0 h') s m args below meth c H locs cells slots (gQ G below args s h0 h' (g_w g_wI r)) (F0 m 50 ls [.int u0])
def f_X1_court_50 (a0 : Nat) (a2 : Nat) (u0 : Int32) : gM (Int32 ⊕ gE) :=
    gT (f_X1_mayBe u0) fun _ =>
    gB (gFR a0 0 1) fun v102 =>
    gB (gCk v102 2) fun _ =>
    gB (f_X3_be v102 a2) fun _ =>
    gB (gFR a0 0 1) fun v104 =>
    gB (gFI v104 2 9) fun v105 =>
    gB (gPI v104 2 9 (v105 + (1 : Int32))) fun _ =>
    gB (gPI a0 0 12 (0 : Int32)) fun _ =>
    gB (gFR a0 0 1) fun v106 =>
    gB (gFI v106 2 9) fun v107 =>
    (gRet (.inl v107))
set_option maxHeartbeats 4000000 in
set_option maxRecDepth 100000 in
theorem b_X1_court_50 {G : gG} {l : Launch} {p : Program} {e : Env} {s : State} {m : MethodId} {args : Array Value} {below : List Frame} {meth : Method} {c : Code} {h0 : g_H} {r : (Int32 ⊕ gE)} {h' : g_H} (X : gX G l yX1_court.cls cX1_court 4 (some .int) [(10, 23, 26, 119)] yX1_court.name p s m args meth c) : w_X1_court_50 G l p e s m args below meth c h0 r h' (f_X1_court_50) := by
  have hx := X.1
  have hb := X.2.1
  have hown := X.2.2.2.1
  have hts := X.2.2.2.2.1
  intro a0 a2 u0 h H locs cells slots ls hf hI hl
  unfold f_X1_court_50 at hf
  refine g_cTU X hI (by decide) hf (fun v9 h9 e9 l9 l9' => g_rS (b := 0) X hI l9 l9' ⟨Nat.le_refl _, Nat.le_refl _⟩ (As := [.int u0]) (m_X1_mayBe X.2.2.2.2.2.2.2.2.2.2.1 e9) ydX1_mayBe q941 q942 q121 q943 rfl (Nat.le_of_ble_eq_true rfl) (Nat.le_of_ble_eq_true rfl) hl.1 rfl (Nat.le_of_ble_eq_true rfl) dX1_court_50) (fun r101 h H locs cells slots hf hI => ?_)
  refine lv_aload_n hx hb dX1_court_53 rfl (lv_at hl 0 rfl) ?_
  refine g_fr X hI hf fX1_1 q461 rfl rfl dX1_court_54 (fun v102 hf => ?_)
  refine lv_aload_n hx hb dX1_court_57 rfl (lv_at hl 1 rfl) ?_
  obtain ⟨hs, hf⟩ := gCk_b hf
  refine g_cBU hI hf (fun v9 h9 e9 l9 l9' => g_rV X hI l9 l9' ⟨Nat.le_refl _, Nat.le_refl _⟩ (As := [.ref a2]) (m_X3_be X.2.2.2.2.2.2.2.2.2.2.1 e9) ydX3_be hs rfl rfl q672 q673 q674 q123 q675 rfl (Nat.le_of_ble_eq_true rfl) (Nat.le_of_ble_eq_true rfl) hl.1 rfl (Nat.le_of_ble_eq_true rfl) dX1_court_58) (fun r103 h H locs cells slots hf hI => ?_)
  refine lv_aload_n hx hb dX1_court_61 rfl (lv_at hl 0 rfl) ?_
  refine g_fr X hI hf fX1_1 q461 rfl rfl dX1_court_62 (fun v104 hf => ?_)
  refine lv_dup hx hb dX1_court_65 rfl ?_
  refine g_fiN X hI hf fX3_9 q276 rfl rfl dX1_court_66 (fun v105 hf => ?_)
  refine lv_iconst (v := (1 : Int32)) hx hb dX1_court_69 (by decide) ?_
  refine lv_iadd hx hb dX1_court_70 ?_
  refine g_piN X hI hf fX3_9 q276 rfl dX1_court_71 (fun h H locs hf hI => ?_)
  refine lv_aload_n hx hb dX1_court_74 rfl (lv_at hl 0 rfl) ?_
  refine lv_iconst (v := (0 : Int32)) hx hb dX1_court_75 (by decide) ?_
  refine g_pi X hI hf fX1_12 q473 rfl dX1_court_76 (fun h H locs hf hI => ?_)
  refine lv_aload_n hx hb dX1_court_79 rfl (lv_at hl 0 rfl) ?_
  refine g_fr X hI hf fX1_1 q461 rfl rfl dX1_court_80 (fun v106 hf => ?_)
  refine g_fiN X hI hf fX3_9 q276 rfl rfl dX1_court_83 (fun v107 hf => ?_)
  cases gRet_e hf
  exact g_retI X hI rfl dX1_court_86
def f_X1_court (a0 : Nat) : gM (Int32 ⊕ gE) :=
    gB (gCk a0 0) fun _ =>
    gB (f_X1_took a0) fun r1 =>
    gB (gPI a0 0 11 (-1 : Int32)) fun _ =>
    gB (gFR a0 0 0) fun v2 =>
    gB (gFR a0 0 1) fun v3 =>
    gB (gCk v2 1) fun _ =>
    gB (f_X2_court v2 r1 v3) fun r9 => match r9 with
    | .inl r4 => (gB (gFR a0 0 1) fun v5 =>
    gB (gFI v5 2 9) fun v6 =>
    gIf ((12 : Int32) ≤ v6)
    (f_X1_court_50 a0 r4 (0 : Int32))
    (f_X1_court_50 a0 r4 (1 : Int32)))
    | .inr x9 => (gIf (x9.1 = 5)
    (gB (gCk a0 0) fun _ =>
    gB (f_X1_isWrong a0 x9.2) fun r7 =>
    gB (gCk r7 17) fun _ =>
    gRet (.inr (17, r7)))
    (gFail))
set_option maxHeartbeats 4000000 in
set_option maxRecDepth 100000 in
theorem m_X1_court {G : gG} {l : Launch} (hfl : l.stackTraces = false) {a0 : Nat} {h h' : g_H} {r : (Int32 ⊕ gE)} (hf : (f_X1_court a0).1 h = some (r, h')) : gMet G l yX1_court (Cond.codeWith yX1_court cX1_court 4 (some .int) [(10, 23, 26, 119)]) 11 242 [.ref a0] h (g_w g_wI r) h' := by
  refine g_headW hfl ((f_X1_court a0).2 h r h' hf) (plainFor_of_name (by decide)) (Nat.le_of_ble_eq_true rfl) (fun p e s m below meth c H locs cells slots ls X hI hl9 => ?_)
  have hl : lv_has ls 4 [(0, .ref a0)] := hl9
  have hx := X.1
  have hb := X.2.1
  have hown := X.2.2.2.1
  have hts := X.2.2.2.2.1
  unfold f_X1_court at hf
  refine lv_aload_n hx hb dX1_court_0 rfl (lv_at hl 0 rfl) ?_
  obtain ⟨hs, hf⟩ := gCk_b hf
  refine g_cBI hI hf (fun v9 h9 e9 l9 l9' => g_rV X hI l9 l9' ⟨Nat.le_refl _, Nat.le_refl _⟩ (As := []) (m_X1_took X.2.2.2.2.2.2.2.2.2.2.1 e9) ydX1_took hs rfl rfl q792 q794 qs15 q121 q795 rfl (Nat.le_of_ble_eq_true rfl) (Nat.le_of_ble_eq_true rfl) hl.1 rfl (Nat.le_of_ble_eq_true rfl) dX1_court_1) (fun r1 h H locs cells slots hf hI => ?_)
  refine lv_istore_n (lv' := [(1, .int r1), (0, .ref a0)]) hx hb dX1_court_4 rfl hl (by decide) rfl (fun ls hl => ?_)
  refine lv_aload_n hx hb dX1_court_5 rfl (lv_at hl 1 rfl) ?_
  refine lv_iconst (v := (-1 : Int32)) hx hb dX1_court_6 (by decide) ?_
  refine g_pi X hI hf fX1_11 q472 rfl dX1_court_7 (fun h H locs hf hI => ?_)
  refine lv_aload_n hx hb dX1_court_10 rfl (lv_at hl 1 rfl) ?_
  refine g_fr X hI hf fX1_0 q460 rfl rfl dX1_court_11 (fun v2 hf => ?_)
  refine lv_iload_n hx hb dX1_court_14 rfl (lv_at hl 0 rfl) ?_
  refine lv_aload_n hx hb dX1_court_15 rfl (lv_at hl 1 rfl) ?_
  refine g_fr X hI hf fX1_1 q461 rfl rfl dX1_court_16 (fun v3 hf => ?_)
  obtain ⟨hs, hf⟩ := gCk_b hf
  refine g_cHR hI hf (fun v9 h9 e9 l9 l9' => g_rV X hI l9 l9' ⟨Nat.le_refl _, Nat.le_refl _⟩ (As := [.int r1, .ref v3]) (m_X2_court X.2.2.2.2.2.2.2.2.2.2.1 e9) ydX2_court hs rfl rfl q796 q797 q798 q122 q799 rfl (Nat.le_of_ble_eq_true rfl) (Nat.le_of_ble_eq_true rfl) hl.1 rfl (Nat.le_of_ble_eq_true rfl) dX1_court_19) (fun r4 h H locs cells slots hf hI => ?_) ?_
  · refine lv_astore_n (lv' := [(2, .ref r4), (1, .int r1), (0, .ref a0)]) hx hb dX1_court_22 rfl hl (by decide) rfl (fun ls hl => ?_)
    refine lv_goto (tgt := 33) hx hb dX1_court_23 (by decide) ?_
    refine lv_aload_n hx hb dX1_court_33 rfl (lv_at hl 2 rfl) ?_
    refine g_fr X hI hf fX1_1 q461 rfl rfl dX1_court_34 (fun v5 hf => ?_)
    refine g_fiN X hI hf fX3_9 q276 rfl rfl dX1_court_37 (fun v6 hf => ?_)
    refine lv_bipush (v := (12 : Int32)) hx hb dX1_court_40 (by decide) ?_
    refine lv_icmp_ge (tgt := 49) hx hb dX1_court_42 (by decide) (fun c42 => ?_) (fun c42 => ?_)
    · have hf := g_t c42 hf
      refine lv_iconst (v := (0 : Int32)) hx hb dX1_court_49 (by decide) ?_
      exact b_X1_court_50 X _ _ _ _ _ _ _ _ _ hf hI (lv_sub hl [2, 0] rfl)
    · have hf := g_f c42 hf
      refine lv_iconst (v := (1 : Int32)) hx hb dX1_court_45 (by decide) ?_
      refine lv_goto (tgt := 50) hx hb dX1_court_46 (by decide) ?_
      exact b_X1_court_50 X _ _ _ _ _ _ _ _ _ hf hI (lv_sub hl [2, 0] rfl)
  · intro ci9 x9 h H locs cells slots r9 ce9 hf hr9 hI hce hcv hcl
    by_cases k0 : ci9 = 5
    · subst k0
      cases hr9
      have hf := g_t rfl hf
      refine g_catch0 X hI (name := "GhostAssize$Wrong") rfl (by rfl) (by decide) (by decide) q791 q323 hce hcv hcl ?_
      refine lv_astore_n (lv' := [(3, .ref x9), (1, .int r1), (0, .ref a0)]) hx hb dX1_court_26 rfl hl (by decide) rfl (fun ls hl => ?_)
      refine lv_aload_n hx hb dX1_court_27 rfl (lv_at hl 2 rfl) ?_
      refine lv_aload_n hx hb dX1_court_28 rfl (lv_at hl 0 rfl) ?_
      obtain ⟨hs, hf⟩ := gCk_b hf
      refine g_cBR hI hf (fun v9 h9 e9 l9 l9' => g_rV X hI l9 l9' ⟨Nat.le_refl _, Nat.le_refl _⟩ (As := [.ref x9]) (m_X1_isWrong X.2.2.2.2.2.2.2.2.2.2.1 e9) ydX1_isWrong hs rfl rfl q916 q918 qs29 q121 q919 rfl (Nat.le_of_ble_eq_true rfl) (Nat.le_of_ble_eq_true rfl) hl.1 rfl (Nat.le_of_ble_eq_true rfl) dX1_court_29) (fun r7 h H locs cells slots hf hI => ?_)
      obtain ⟨hs, hf⟩ := gCk_b hf
      cases gRet_e hf
      exact g_athrow X hI (by decide) hs rfl rfl dX1_court_32
    have hf := g_f k0 hf
    exact (gFail_f hf).elim
/-! X0_court -/
def f_X0_court (a0 : Nat) (a1 : Nat) : gM Int32 :=
    gB (gCk a0 0) fun _ =>
    gB (f_X1_court a0) fun r9 => match r9 with
    | .inl r1 => (gB (gSI a1 2 (0 : Int32) (r1)) fun _ =>
    (gRet (0 : Int32)))
    | .inr x9 => (gIf (x9.1 = 17)
    ((gRet (1 : Int32)))
    (gIf (x9.1 = 18)
    ((gRet (2 : Int32)))
    (gFail)))
set_option maxHeartbeats 4000000 in
set_option maxRecDepth 100000 in
theorem m_X0_court {G : gG} {l : Launch} (hfl : l.stackTraces = false) {a0 : Nat} {a1 : Nat} {h h' : g_H} {r : Int32} (hf : (f_X0_court a0 a1).1 h = some (r, h')) : gMet G l yX0_court (Cond.codeWith yX0_court cX0_court 3 (some .int) [(0, 8, 11, 13), (0, 8, 14, 15)]) 12 265 [.ref a0, .ref a1] h (.inl (g_wI r)) h' := by
  refine g_headW hfl ((f_X0_court a0 a1).2 h r h' hf) (plainFor_of_name (by decide)) (Nat.le_of_ble_eq_true rfl) (fun p e s m below meth c H locs cells slots ls X hI hl9 => ?_)
  have hl : lv_has ls 3 [(0, .ref a0), (1, .ref a1)] := hl9
  have hx := X.1
  have hb := X.2.1
  have hown := X.2.2.2.1
  have hts := X.2.2.2.2.1
  unfold f_X0_court at hf
  refine lv_aload_n hx hb dX0_court_0 rfl (lv_at hl 1 rfl) ?_
  refine lv_iconst (v := (0 : Int32)) hx hb dX0_court_1 (by decide) ?_
  refine lv_aload_n hx hb dX0_court_2 rfl (lv_at hl 0 rfl) ?_
  obtain ⟨hs, hf⟩ := gCk_b hf
  refine g_cHI hI hf (fun v9 h9 e9 l9 l9' => g_rVX X hI l9 l9' ⟨Nat.le_refl _, Nat.le_refl _⟩ (As := []) (m_X1_court X.2.2.2.2.2.2.2.2.2.2.1 e9) ydX1_court hs rfl rfl q787 q788 q789 q121 q790 rfl (Nat.le_of_ble_eq_true rfl) (Nat.le_of_ble_eq_true rfl) hl.1 rfl (Nat.le_of_ble_eq_true rfl) dX0_court_3) (fun r1 h H locs cells slots hf hI => ?_) ?_
  · refine lv_i2l hx hb dX0_court_6 rfl ?_
    refine g_si2 X hI hf dX0_court_7 (fun h H locs hf hI => ?_)
    refine lv_goto (tgt := 17) hx hb dX0_court_8 (by decide) ?_
    refine lv_iconst (v := (0 : Int32)) hx hb dX0_court_17 (by decide) ?_
    cases gRet_e hf
    exact g_retI X hI rfl dX0_court_18
  · intro ci9 x9 h H locs cells slots r9 ce9 hf hr9 hI hce hcv hcl
    by_cases k0 : ci9 = 17
    · subst k0
      cases hr9
      have hf := g_t rfl hf
      refine g_catch0 X hI (name := "java/lang/IllegalArgumentException") rfl (by rfl) (by decide) (by decide) q785 q922 hce hcv hcl ?_
      refine lv_astore_n (lv' := [(2, .ref x9), (0, .ref a0), (1, .ref a1)]) hx hb dX0_court_11 rfl hl (by decide) rfl (fun ls hl => ?_)
      refine lv_iconst (v := (1 : Int32)) hx hb dX0_court_12 (by decide) ?_
      cases gRet_e hf
      exact g_retI X hI rfl dX0_court_13
    have hf := g_f k0 hf
    by_cases k1 : ci9 = 18
    · subst k1
      cases hr9
      have hf := g_t rfl hf
      refine g_catch1 X hI (name := "java/lang/UnsupportedOperationException") rfl (by rfl) (by decide) (by decide) q786 q946 q785 (List.mem_of_getElem? (i := 0) rfl) hce hcv hcl ?_
      refine lv_astore_n (lv' := [(2, .ref x9), (0, .ref a0), (1, .ref a1)]) hx hb dX0_court_14 rfl hl (by decide) rfl (fun ls hl => ?_)
      refine lv_iconst (v := (2 : Int32)) hx hb dX0_court_15 (by decide) ?_
      cases gRet_e hf
      exact g_retI X hI rfl dX0_court_16
    have hf := g_f k1 hf
    exact (gFail_f hf).elim
/-! X8_court -/
abbrev w_X8_court_117 (G : gG) (l : Launch) (p : Program) (e : Env) (s : State) (m : MethodId) (args : Array Value) (below : List Frame) (meth : Method) (c : Code) (h0 : g_H) (r : Int32) (h' : g_H) (k : gM Int32) : Prop := ∀ (h : g_H) (H : Heap) (locs : List Loc) (cells slots : Nat) (ls : Array Slot), (k).1 h = some (r, h') → gI G h0 h H locs cells slots → lv_has ls 3 [] → W p l e (g_rm 244 4862 h0 h') s m args below meth c H locs cells slots (gQ G below args s h0 h' (.inl (g_wI r))) (F0 m 117 ls [])
abbrev w_X8_court_92 (G : gG) (l : Launch) (p : Program) (e : Env) (s : State) (m : MethodId) (args : Array Value) (below : List Frame) (meth : Method) (c : Code) (h0 : g_H) (r : Int32) (h' : g_H) (k : Nat → Int32 → gM Int32) : Prop := ∀ (a0 : Nat) (x2 : Int32) (h : g_H) (H : Heap) (locs : List Loc) (cells slots : Nat) (ls : Array Slot), (k a0 x2).1 h = some (r, h') → gI G h0 h H locs cells slots → lv_has ls 3 [(0, .ref a0), (2, .int x2)] → W p l e (g_rm 244 4862 h0 h') s m args below meth c H locs cells slots (gQ G below args s h0 h' (.inl (g_wI r))) (F0 m 92 ls [])
abbrev w_X8_court_90 (G : gG) (l : Launch) (p : Program) (e : Env) (s : State) (m : MethodId) (args : Array Value) (below : List Frame) (meth : Method) (c : Code) (h0 : g_H) (r : Int32) (h' : g_H) (k : Nat → gM Int32) : Prop := ∀ (a0 : Nat) (h : g_H) (H : Heap) (locs : List Loc) (cells slots : Nat) (ls : Array Slot), (k a0).1 h = some (r, h') → gI G h0 h H locs cells slots → lv_has ls 3 [(0, .ref a0)] → W p l e (g_rm 244 4862 h0 h') s m args below meth c H locs cells slots (gQ G below args s h0 h' (.inl (g_wI r))) (F0 m 90 ls [])
abbrev w_X8_court_83 (G : gG) (l : Launch) (p : Program) (e : Env) (s : State) (m : MethodId) (args : Array Value) (below : List Frame) (meth : Method) (c : Code) (h0 : g_H) (r : Int32) (h' : g_H) (k : Nat → Nat → Int32 → gM Int32) : Prop := ∀ (a0 : Nat) (b0 : Nat) (u1 : Int32) (h : g_H) (H : Heap) (locs : List Loc) (cells slots : Nat) (ls : Array Slot), (k a0 b0 u1).1 h = some (r, h') → gI G h0 h H locs cells slots → lv_has ls 3 [(0, .ref a0)] → W p l e (g_rm 244 4862 h0 h') s m args below meth c H locs cells slots (gQ G below args s h0 h' (.inl (g_wI r))) (F0 m 83 ls [.int u1, .ref b0])
abbrev w_X8_court_59 (G : gG) (l : Launch) (p : Program) (e : Env) (s : State) (m : MethodId) (args : Array Value) (below : List Frame) (meth : Method) (c : Code) (h0 : g_H) (r : Int32) (h' : g_H) (k : Nat → Nat → Int32 → gM Int32) : Prop := ∀ (a0 : Nat) (b0 : Nat) (u1 : Int32) (h : g_H) (H : Heap) (locs : List Loc) (cells slots : Nat) (ls : Array Slot), (k a0 b0 u1).1 h = some (r, h') → gI G h0 h H locs cells slots → lv_has ls 3 [(0, .ref a0)] → W p l e (g_rm 244 4862 h0 h') s m args below meth c H locs cells slots (gQ G below args s h0 h' (.inl (g_wI r))) (F0 m 59 ls [.int u1, .ref b0])
abbrev w_X8_court_46 (G : gG) (l : Launch) (p : Program) (e : Env) (s : State) (m : MethodId) (args : Array Value) (below : List Frame) (meth : Method) (c : Code) (h0 : g_H) (r : Int32) (h' : g_H) (k : Nat → Int32 → Nat → Int32 → gM Int32) : Prop := ∀ (a0 : Nat) (x1 : Int32) (b0 : Nat) (u1 : Int32) (h : g_H) (H : Heap) (locs : List Loc) (cells slots : Nat) (ls : Array Slot), (k a0 x1 b0 u1).1 h = some (r, h') → gI G h0 h H locs cells slots → lv_has ls 3 [(0, .ref a0), (1, .int x1)] → W p l e (g_rm 244 4862 h0 h') s m args below meth c H locs cells slots (gQ G below args s h0 h' (.inl (g_wI r))) (F0 m 46 ls [.int u1, .ref b0])
abbrev w_X8_court_27 (G : gG) (l : Launch) (p : Program) (e : Env) (s : State) (m : MethodId) (args : Array Value) (below : List Frame) (meth : Method) (c : Code) (h0 : g_H) (r : Int32) (h' : g_H) (k : Nat → gM Int32) : Prop := ∀ (a0 : Nat) (h : g_H) (H : Heap) (locs : List Loc) (cells slots : Nat) (ls : Array Slot), (k a0).1 h = some (r, h') → gI G h0 h H locs cells slots → lv_has ls 3 [(0, .ref a0)] → W p l e (g_rm 244 4862 h0 h') s m args below meth c H locs cells slots (gQ G below args s h0 h' (.inl (g_wI r))) (F0 m 27 ls [])
abbrev w_X8_court_2 (G : gG) (l : Launch) (p : Program) (e : Env) (s : State) (m : MethodId) (args : Array Value) (below : List Frame) (meth : Method) (c : Code) (h0 : g_H) (r : Int32) (h' : g_H) (k : Nat → Int32 → gM Int32) : Prop := ∀ (a0 : Nat) (x1 : Int32) (h : g_H) (H : Heap) (locs : List Loc) (cells slots : Nat) (ls : Array Slot), (k a0 x1).1 h = some (r, h') → gI G h0 h H locs cells slots → lv_has ls 3 [(0, .ref a0), (1, .int x1)] → W p l e (g_rm 244 4862 h0 h') s m args below meth c H locs cells slots (gQ G below args s h0 h' (.inl (g_wI r))) (F0 m 2 ls [])
def f_X8_court_117 : gM Int32 :=
    (gRet (0 : Int32))
set_option maxHeartbeats 4000000 in
set_option maxRecDepth 100000 in
theorem b_X8_court_117 {G : gG} {l : Launch} {p : Program} {e : Env} {s : State} {m : MethodId} {args : Array Value} {below : List Frame} {meth : Method} {c : Code} {h0 : g_H} {r : Int32} {h' : g_H} (X : gX G l yX8_court.cls cX8_court 3 (some .int) [] yX8_court.name p s m args meth c) : w_X8_court_117 G l p e s m args below meth c h0 r h' (f_X8_court_117) := by
  have hx := X.1
  have hb := X.2.1
  have hown := X.2.2.2.1
  have hts := X.2.2.2.2.1
  intro h H locs cells slots ls hf hI hl
  unfold f_X8_court_117 at hf
  refine lv_iconst (v := (0 : Int32)) hx hb dX8_court_117 (by decide) ?_
  cases gRet_e hf
  exact g_retI X hI rfl dX8_court_118
def f_X8_court_92 : Nat → Nat → Int32 → gM Int32
  | 0, _, _ => gFail
  | n + 1, a0, x2 =>
    gIf ((1154 : Int32) ≤ x2)
    (f_X8_court_117)
    (gB (gFR a0 7 1) fun v101 =>
    gB (gFR a0 7 3) fun v102 =>
    gB (gAI v102 0 x2) fun v103 =>
    gB (gSI v101 0 x2 v103) fun _ =>
    f_X8_court_92 n a0 (x2 + (1 : Int32)))
set_option maxHeartbeats 4000000 in
set_option maxRecDepth 100000 in
theorem b_X8_court_92 {G : gG} {l : Launch} {p : Program} {e : Env} {s : State} {m : MethodId} {args : Array Value} {below : List Frame} {meth : Method} {c : Code} {h0 : g_H} {r : Int32} {h' : g_H} (X : gX G l yX8_court.cls cX8_court 3 (some .int) [] yX8_court.name p s m args meth c) : ∀ n : Nat, w_X8_court_92 G l p e s m args below meth c h0 r h' (f_X8_court_92 n) := by
  have hx := X.1
  have hb := X.2.1
  have hown := X.2.2.2.1
  have hts := X.2.2.2.2.1
  intro n
  induction n with
  | zero =>
    intro a0 x2 h H locs cells slots ls hf hI hl
    exact (gFail_f hf).elim
  | succ n ih =>
    intro a0 x2 h H locs cells slots ls hf hI hl
    rw [f_X8_court_92] at hf
    refine lv_iload_n hx hb dX8_court_92 rfl (lv_at hl 1 rfl) ?_
    refine lv_sipush (v := (1154 : Int32)) hx hb dX8_court_93 (by decide) ?_
    refine lv_icmp_ge (tgt := 117) hx hb dX8_court_96 (by decide) (fun c96 => ?_) (fun c96 => ?_)
    · have hf := g_t c96 hf
      exact b_X8_court_117 X _ _ _ _ _ _ hf hI (lv_sub hl [] rfl)
    · have hf := g_f c96 hf
      refine lv_aload_n hx hb dX8_court_99 rfl (lv_at hl 0 rfl) ?_
      refine g_fr X hI hf fX8_1 q1445 rfl rfl dX8_court_100 (fun v101 hf => ?_)
      refine lv_iload_n hx hb dX8_court_103 rfl (lv_at hl 1 rfl) ?_
      refine lv_aload_n hx hb dX8_court_104 rfl (lv_at hl 0 rfl) ?_
      refine g_fr X hI hf fX8_3 q1447 rfl rfl dX8_court_105 (fun v102 hf => ?_)
      refine lv_iload_n hx hb dX8_court_108 rfl (lv_at hl 1 rfl) ?_
      refine g_ai0 X hI hf dX8_court_109 (fun v103 hf => ?_)
      refine g_si0 X hI hf dX8_court_110 (fun h H locs hf hI => ?_)
      refine lv_iinc (v := (x2 + (1 : Int32))) (lv' := [(2, .int (x2 + (1 : Int32))), (0, .ref a0)]) hx hb dX8_court_111 hl (k := 1) rfl rfl (by decide) rfl (fun ls hl => ?_)
      refine lv_goto (tgt := 92) hx hb dX8_court_114 (by decide) ?_
      exact ih _ _ _ _ _ _ _ _ hf hI (lv_sub hl [1, 0] rfl)
def f_X8_court_90 (a0 : Nat) : gM Int32 :=
    f_X8_court_92 gN a0 (0 : Int32)
set_option maxHeartbeats 4000000 in
set_option maxRecDepth 100000 in
theorem b_X8_court_90 {G : gG} {l : Launch} {p : Program} {e : Env} {s : State} {m : MethodId} {args : Array Value} {below : List Frame} {meth : Method} {c : Code} {h0 : g_H} {r : Int32} {h' : g_H} (X : gX G l yX8_court.cls cX8_court 3 (some .int) [] yX8_court.name p s m args meth c) : w_X8_court_90 G l p e s m args below meth c h0 r h' (f_X8_court_90) := by
  have hx := X.1
  have hb := X.2.1
  have hown := X.2.2.2.1
  have hts := X.2.2.2.2.1
  intro a0 h H locs cells slots ls hf hI hl
  unfold f_X8_court_90 at hf
  refine lv_iconst (v := (0 : Int32)) hx hb dX8_court_90 (by decide) ?_
  refine lv_istore_n (lv' := [(2, .int (0 : Int32)), (0, .ref a0)]) hx hb dX8_court_91 rfl hl (by decide) rfl (fun ls hl => ?_)
  exact b_X8_court_92 X gN _ _ _ _ _ _ _ _ hf hI (lv_sub hl [1, 0] rfl)
def f_X8_court_83 (a0 : Nat) (b0 : Nat) (u1 : Int32) : gM Int32 :=
    gB (gCk b0 7) fun _ =>
    gB (f_X8_throwsIf b0 u1 (2 : Int32)) fun r101 =>
    gIf (r101 = 0)
    (gB (gFR a0 7 1) fun v102 =>
    gB (gAI v102 0 (2 : Int32)) fun v103 =>
    gB (gSI v102 0 (2 : Int32) (v103 + (1 : Int32))) fun _ =>
    gB (gPI a0 7 7 (0 : Int32)) fun _ =>
    gB (gFR a0 7 1) fun v104 =>
    gB (gAI v104 0 (2 : Int32)) fun v105 =>
    (gRet v105))
    (f_X8_court_90 a0)
set_option maxHeartbeats 4000000 in
set_option maxRecDepth 100000 in
theorem b_X8_court_83 {G : gG} {l : Launch} {p : Program} {e : Env} {s : State} {m : MethodId} {args : Array Value} {below : List Frame} {meth : Method} {c : Code} {h0 : g_H} {r : Int32} {h' : g_H} (X : gX G l yX8_court.cls cX8_court 3 (some .int) [] yX8_court.name p s m args meth c) : w_X8_court_83 G l p e s m args below meth c h0 r h' (f_X8_court_83) := by
  have hx := X.1
  have hb := X.2.1
  have hown := X.2.2.2.1
  have hts := X.2.2.2.2.1
  intro a0 b0 u1 h H locs cells slots ls hf hI hl
  unfold f_X8_court_83 at hf
  refine lv_iconst (v := (2 : Int32)) hx hb dX8_court_83 (by decide) ?_
  obtain ⟨hs, hf⟩ := gCk_b hf
  refine g_cBI hI hf (fun v9 h9 e9 l9 l9' => g_rV X hI l9 l9' ⟨Nat.le_refl _, Nat.le_refl _⟩ (As := [.int u1, .int (2 : Int32)]) (m_X8_throwsIf X.2.2.2.2.2.2.2.2.2.2.1 e9) ydX8_throwsIf hs rfl rfl q1736 q1738 qs72 q131 q1739 rfl (Nat.le_of_ble_eq_true rfl) (Nat.le_of_ble_eq_true rfl) hl.1 rfl (Nat.le_of_ble_eq_true rfl) dX8_court_84) (fun r101 h H locs cells slots hf hI => ?_)
  refine lv_if_eq (tgt := 119) hx hb dX8_court_87 (by decide) (fun c87 => ?_) (fun c87 => ?_)
  · have hf := g_t c87 hf
    refine lv_aload_n hx hb dX8_court_119 rfl (lv_at hl 0 rfl) ?_
    refine g_fr X hI hf fX8_1 q1445 rfl rfl dX8_court_120 (fun v102 hf => ?_)
    refine lv_iconst (v := (2 : Int32)) hx hb dX8_court_123 (by decide) ?_
    refine lv_dup2_11 hx hb dX8_court_124 rfl rfl ?_
    refine g_ai0 X hI hf dX8_court_125 (fun v103 hf => ?_)
    refine lv_iconst (v := (1 : Int32)) hx hb dX8_court_126 (by decide) ?_
    refine lv_iadd hx hb dX8_court_127 ?_
    refine g_si0 X hI hf dX8_court_128 (fun h H locs hf hI => ?_)
    refine lv_aload_n hx hb dX8_court_129 rfl (lv_at hl 0 rfl) ?_
    refine lv_iconst (v := (0 : Int32)) hx hb dX8_court_130 (by decide) ?_
    refine g_pi X hI hf fX8_7 q1451 rfl dX8_court_131 (fun h H locs hf hI => ?_)
    refine lv_aload_n hx hb dX8_court_134 rfl (lv_at hl 0 rfl) ?_
    refine g_fr X hI hf fX8_1 q1445 rfl rfl dX8_court_135 (fun v104 hf => ?_)
    refine lv_iconst (v := (2 : Int32)) hx hb dX8_court_138 (by decide) ?_
    refine g_ai0 X hI hf dX8_court_139 (fun v105 hf => ?_)
    cases gRet_e hf
    exact g_retI X hI rfl dX8_court_140
  · have hf := g_f c87 hf
    exact b_X8_court_90 X _ _ _ _ _ _ _ hf hI (lv_sub hl [0] rfl)
def f_X8_court_59 (a0 : Nat) (b0 : Nat) (u1 : Int32) : gM Int32 :=
    gB (gCk b0 7) fun _ =>
    gB (f_X8_throwsIf b0 u1 (1 : Int32)) fun r101 =>
    gIf (r101 = 0)
    (gB (gFR a0 7 1) fun v102 =>
    gB (gAI v102 0 (2 : Int32)) fun v103 =>
    gIf (v103 = (12 : Int32))
    (f_X8_court_83 a0 a0 (1 : Int32))
    (f_X8_court_83 a0 a0 (0 : Int32)))
    (f_X8_court_90 a0)
set_option maxHeartbeats 4000000 in
set_option maxRecDepth 100000 in
theorem b_X8_court_59 {G : gG} {l : Launch} {p : Program} {e : Env} {s : State} {m : MethodId} {args : Array Value} {below : List Frame} {meth : Method} {c : Code} {h0 : g_H} {r : Int32} {h' : g_H} (X : gX G l yX8_court.cls cX8_court 3 (some .int) [] yX8_court.name p s m args meth c) : w_X8_court_59 G l p e s m args below meth c h0 r h' (f_X8_court_59) := by
  have hx := X.1
  have hb := X.2.1
  have hown := X.2.2.2.1
  have hts := X.2.2.2.2.1
  intro a0 b0 u1 h H locs cells slots ls hf hI hl
  unfold f_X8_court_59 at hf
  refine lv_iconst (v := (1 : Int32)) hx hb dX8_court_59 (by decide) ?_
  obtain ⟨hs, hf⟩ := gCk_b hf
  refine g_cBI hI hf (fun v9 h9 e9 l9 l9' => g_rV X hI l9 l9' ⟨Nat.le_refl _, Nat.le_refl _⟩ (As := [.int u1, .int (1 : Int32)]) (m_X8_throwsIf X.2.2.2.2.2.2.2.2.2.2.1 e9) ydX8_throwsIf hs rfl rfl q1736 q1738 qs72 q131 q1739 rfl (Nat.le_of_ble_eq_true rfl) (Nat.le_of_ble_eq_true rfl) hl.1 rfl (Nat.le_of_ble_eq_true rfl) dX8_court_60) (fun r101 h H locs cells slots hf hI => ?_)
  refine lv_if_ne (tgt := 90) hx hb dX8_court_63 (by decide) (fun c63 => ?_) (fun c63 => ?_)
  · have hf := g_f c63 hf
    exact b_X8_court_90 X _ _ _ _ _ _ _ hf hI (lv_sub hl [0] rfl)
  · have hf := g_t c63 hf
    refine lv_aload_n hx hb dX8_court_66 rfl (lv_at hl 0 rfl) ?_
    refine lv_aload_n hx hb dX8_court_67 rfl (lv_at hl 0 rfl) ?_
    refine g_fr X hI hf fX8_1 q1445 rfl rfl dX8_court_68 (fun v102 hf => ?_)
    refine lv_iconst (v := (2 : Int32)) hx hb dX8_court_71 (by decide) ?_
    refine g_ai0 X hI hf dX8_court_72 (fun v103 hf => ?_)
    refine lv_bipush (v := (12 : Int32)) hx hb dX8_court_73 (by decide) ?_
    refine lv_icmp_ne (tgt := 82) hx hb dX8_court_75 (by decide) (fun c75 => ?_) (fun c75 => ?_)
    · have hf := g_f c75 hf
      refine lv_iconst (v := (0 : Int32)) hx hb dX8_court_82 (by decide) ?_
      exact b_X8_court_83 X _ _ _ _ _ _ _ _ _ hf hI (lv_sub hl [0] rfl)
    · have hf := g_t c75 hf
      refine lv_iconst (v := (1 : Int32)) hx hb dX8_court_78 (by decide) ?_
      refine lv_goto (tgt := 83) hx hb dX8_court_79 (by decide) ?_
      exact b_X8_court_83 X _ _ _ _ _ _ _ _ _ hf hI (lv_sub hl [0] rfl)
def f_X8_court_46 (a0 : Nat) (x1 : Int32) (b0 : Nat) (u1 : Int32) : gM Int32 :=
    gB (gPI b0 7 14 u1) fun _ =>
    gIf (0 ≤ x1)
    (f_X8_court_59 a0 a0 (0 : Int32))
    (f_X8_court_59 a0 a0 (1 : Int32))
set_option maxHeartbeats 4000000 in
set_option maxRecDepth 100000 in
theorem b_X8_court_46 {G : gG} {l : Launch} {p : Program} {e : Env} {s : State} {m : MethodId} {args : Array Value} {below : List Frame} {meth : Method} {c : Code} {h0 : g_H} {r : Int32} {h' : g_H} (X : gX G l yX8_court.cls cX8_court 3 (some .int) [] yX8_court.name p s m args meth c) : w_X8_court_46 G l p e s m args below meth c h0 r h' (f_X8_court_46) := by
  have hx := X.1
  have hb := X.2.1
  have hown := X.2.2.2.1
  have hts := X.2.2.2.2.1
  intro a0 x1 b0 u1 h H locs cells slots ls hf hI hl
  unfold f_X8_court_46 at hf
  refine g_pi X hI hf fX8_14 q1458 rfl dX8_court_46 (fun h H locs hf hI => ?_)
  refine lv_aload_n hx hb dX8_court_49 rfl (lv_at hl 0 rfl) ?_
  refine lv_iload_n hx hb dX8_court_50 rfl (lv_at hl 1 rfl) ?_
  refine lv_if_ge (tgt := 58) hx hb dX8_court_51 (by decide) (fun c51 => ?_) (fun c51 => ?_)
  · have hf := g_t c51 hf
    refine lv_iconst (v := (0 : Int32)) hx hb dX8_court_58 (by decide) ?_
    exact b_X8_court_59 X _ _ _ _ _ _ _ _ _ hf hI (lv_sub hl [0] rfl)
  · have hf := g_f c51 hf
    refine lv_iconst (v := (1 : Int32)) hx hb dX8_court_54 (by decide) ?_
    refine lv_goto (tgt := 59) hx hb dX8_court_55 (by decide) ?_
    exact b_X8_court_59 X _ _ _ _ _ _ _ _ _ hf hI (lv_sub hl [0] rfl)
def f_X8_court_27 (a0 : Nat) : gM Int32 :=
    gB (gCk a0 7) fun _ =>
    gB (f_X8_readAll a0 (1 : Int32)) fun r101 =>
    gIf (0 ≤ r101)
    (f_X8_court_46 a0 r101 a0 (-1 : Int32))
    (gB (gFI a0 7 12) fun v102 =>
    f_X8_court_46 a0 r101 a0 v102)
set_option maxHeartbeats 4000000 in
set_option maxRecDepth 100000 in
theorem b_X8_court_27 {G : gG} {l : Launch} {p : Program} {e : Env} {s : State} {m : MethodId} {args : Array Value} {below : List Frame} {meth : Method} {c : Code} {h0 : g_H} {r : Int32} {h' : g_H} (X : gX G l yX8_court.cls cX8_court 3 (some .int) [] yX8_court.name p s m args meth c) : w_X8_court_27 G l p e s m args below meth c h0 r h' (f_X8_court_27) := by
  have hx := X.1
  have hb := X.2.1
  have hown := X.2.2.2.1
  have hts := X.2.2.2.2.1
  intro a0 h H locs cells slots ls hf hI hl
  unfold f_X8_court_27 at hf
  refine lv_aload_n hx hb dX8_court_27 rfl (lv_at hl 0 rfl) ?_
  refine lv_iconst (v := (1 : Int32)) hx hb dX8_court_28 (by decide) ?_
  obtain ⟨hs, hf⟩ := gCk_b hf
  refine g_cBI hI hf (fun v9 h9 e9 l9 l9' => g_rV X hI l9 l9' ⟨Nat.le_refl _, Nat.le_refl _⟩ (As := [.int (1 : Int32)]) (m_X8_readAll X.2.2.2.2.2.2.2.2.2.2.1 e9) ydX8_readAll hs rfl rfl q1587 q1589 qs44 q131 q1590 rfl (Nat.le_of_ble_eq_true rfl) (Nat.le_of_ble_eq_true rfl) hl.1 rfl (Nat.le_of_ble_eq_true rfl) dX8_court_29) (fun r101 h H locs cells slots hf hI => ?_)
  refine lv_istore_n (lv' := [(1, .int r101), (0, .ref a0)]) hx hb dX8_court_32 rfl hl (by decide) rfl (fun ls hl => ?_)
  refine lv_aload_n hx hb dX8_court_33 rfl (lv_at hl 1 rfl) ?_
  refine lv_iload_n hx hb dX8_court_34 rfl (lv_at hl 0 rfl) ?_
  refine lv_if_ge (tgt := 45) hx hb dX8_court_35 (by decide) (fun c35 => ?_) (fun c35 => ?_)
  · have hf := g_t c35 hf
    refine lv_iconst (v := (-1 : Int32)) hx hb dX8_court_45 (by decide) ?_
    exact b_X8_court_46 X _ _ _ _ _ _ _ _ _ _ hf hI (lv_sub hl [1, 0] rfl)
  · have hf := g_f c35 hf
    refine lv_aload_n hx hb dX8_court_38 rfl (lv_at hl 1 rfl) ?_
    refine g_fi X hI hf fX8_12 q1456 rfl rfl dX8_court_39 (fun v102 hf => ?_)
    refine lv_goto (tgt := 46) hx hb dX8_court_42 (by decide) ?_
    exact b_X8_court_46 X _ _ _ _ _ _ _ _ _ _ hf hI (lv_sub hl [1, 0] rfl)
def f_X8_court_2 : Nat → Nat → Int32 → gM Int32
  | 0, _, _ => gFail
  | n + 1, a0, x1 =>
    gIf ((1154 : Int32) ≤ x1)
    (f_X8_court_27 a0)
    (gB (gFR a0 7 3) fun v101 =>
    gB (gFR a0 7 1) fun v102 =>
    gB (gAI v102 0 x1) fun v103 =>
    gB (gSI v101 0 x1 v103) fun _ =>
    f_X8_court_2 n a0 (x1 + (1 : Int32)))
set_option maxHeartbeats 4000000 in
set_option maxRecDepth 100000 in
theorem b_X8_court_2 {G : gG} {l : Launch} {p : Program} {e : Env} {s : State} {m : MethodId} {args : Array Value} {below : List Frame} {meth : Method} {c : Code} {h0 : g_H} {r : Int32} {h' : g_H} (X : gX G l yX8_court.cls cX8_court 3 (some .int) [] yX8_court.name p s m args meth c) : ∀ n : Nat, w_X8_court_2 G l p e s m args below meth c h0 r h' (f_X8_court_2 n) := by
  have hx := X.1
  have hb := X.2.1
  have hown := X.2.2.2.1
  have hts := X.2.2.2.2.1
  intro n
  induction n with
  | zero =>
    intro a0 x1 h H locs cells slots ls hf hI hl
    exact (gFail_f hf).elim
  | succ n ih =>
    intro a0 x1 h H locs cells slots ls hf hI hl
    rw [f_X8_court_2] at hf
    refine lv_iload_n hx hb dX8_court_2 rfl (lv_at hl 1 rfl) ?_
    refine lv_sipush (v := (1154 : Int32)) hx hb dX8_court_3 (by decide) ?_
    refine lv_icmp_ge (tgt := 27) hx hb dX8_court_6 (by decide) (fun c6 => ?_) (fun c6 => ?_)
    · have hf := g_t c6 hf
      exact b_X8_court_27 X _ _ _ _ _ _ _ hf hI (lv_sub hl [0] rfl)
    · have hf := g_f c6 hf
      refine lv_aload_n hx hb dX8_court_9 rfl (lv_at hl 0 rfl) ?_
      refine g_fr X hI hf fX8_3 q1447 rfl rfl dX8_court_10 (fun v101 hf => ?_)
      refine lv_iload_n hx hb dX8_court_13 rfl (lv_at hl 1 rfl) ?_
      refine lv_aload_n hx hb dX8_court_14 rfl (lv_at hl 0 rfl) ?_
      refine g_fr X hI hf fX8_1 q1445 rfl rfl dX8_court_15 (fun v102 hf => ?_)
      refine lv_iload_n hx hb dX8_court_18 rfl (lv_at hl 1 rfl) ?_
      refine g_ai0 X hI hf dX8_court_19 (fun v103 hf => ?_)
      refine g_si0 X hI hf dX8_court_20 (fun h H locs hf hI => ?_)
      refine lv_iinc (v := (x1 + (1 : Int32))) (lv' := [(1, .int (x1 + (1 : Int32))), (0, .ref a0)]) hx hb dX8_court_21 hl (k := 1) rfl rfl (by decide) rfl (fun ls hl => ?_)
      refine lv_goto (tgt := 2) hx hb dX8_court_24 (by decide) ?_
      exact ih _ _ _ _ _ _ _ _ hf hI (lv_sub hl [1, 0] rfl)
def f_X8_court (a0 : Nat) : gM Int32 :=
    f_X8_court_2 gN a0 (0 : Int32)
set_option maxHeartbeats 4000000 in
set_option maxRecDepth 100000 in
theorem m_X8_court {G : gG} {l : Launch} (hfl : l.stackTraces = false) {a0 : Nat} {h h' : g_H} {r : Int32} (hf : (f_X8_court a0).1 h = some (r, h')) : gMet G l yX8_court (Cond.code yX8_court cX8_court 3 (some .int)) 244 4862 [.ref a0] h (.inl (g_wI r)) h' := by
  refine g_head hfl ((f_X8_court a0).2 h r h' hf) (plainFor_of_name (by decide)) (Nat.le_of_ble_eq_true rfl) (fun p e s m below meth c H locs cells slots ls X hI hl9 => ?_)
  have hl : lv_has ls 3 [(0, .ref a0)] := hl9
  have hx := X.1
  have hb := X.2.1
  have hown := X.2.2.2.1
  have hts := X.2.2.2.2.1
  unfold f_X8_court at hf
  refine lv_iconst (v := (0 : Int32)) hx hb dX8_court_0 (by decide) ?_
  refine lv_istore_n (lv' := [(1, .int (0 : Int32)), (0, .ref a0)]) hx hb dX8_court_1 rfl hl (by decide) rfl (fun ls hl => ?_)
  exact b_X8_court_2 X gN _ _ _ _ _ _ _ _ hf hI (lv_sub hl [1, 0] rfl)
/-! X1_end -/
def f_X1_end (a0 : Nat) (x1 : Int32) : gM Int32 :=
    gB (gFR a0 0 0) fun v1 =>
    gB (gFI v1 1 6) fun v2 =>
    gB (f_X1_isIn x1 (0 : Int32) v2) fun r3 =>
    gIf (r3 = 0)
    ((gRet (0 : Int32)))
    (gB (gFR a0 0 0) fun v4 =>
    gB (gPI v4 1 6 x1) fun _ =>
    (gRet (1 : Int32)))
set_option maxHeartbeats 4000000 in
set_option maxRecDepth 100000 in
theorem m_X1_end {G : gG} {l : Launch} (hfl : l.stackTraces = false) {a0 : Nat} {x1 : Int32} {h h' : g_H} {r : Int32} (hf : (f_X1_end a0 x1).1 h = some (r, h')) : gMet G l yX1_end (Cond.code yX1_end cX1_end 2 (some .boolean)) 2 42 [.ref a0, .int x1] h (.inl (g_wI r)) h' := by
  refine g_head hfl ((f_X1_end a0 x1).2 h r h' hf) (plainFor_of_name (by decide)) (Nat.le_of_ble_eq_true rfl) (fun p e s m below meth c H locs cells slots ls X hI hl9 => ?_)
  have hl : lv_has ls 2 [(0, .ref a0), (1, .int x1)] := hl9
  have hx := X.1
  have hb := X.2.1
  have hown := X.2.2.2.1
  have hts := X.2.2.2.2.1
  unfold f_X1_end at hf
  refine lv_iload_n hx hb dX1_end_0 rfl (lv_at hl 1 rfl) ?_
  refine lv_iconst (v := (0 : Int32)) hx hb dX1_end_1 (by decide) ?_
  refine lv_aload_n hx hb dX1_end_2 rfl (lv_at hl 0 rfl) ?_
  refine g_fr X hI hf fX1_0 q460 rfl rfl dX1_end_3 (fun v1 hf => ?_)
  refine g_fiN X hI hf fX2_6 q403 rfl rfl dX1_end_6 (fun v2 hf => ?_)
  refine g_cBI hI hf (fun v9 h9 e9 l9 l9' => g_rS (b := 0) X hI l9 l9' ⟨Nat.le_refl _, Nat.le_refl _⟩ (As := [.int x1, .int (0 : Int32), .int v2]) (m_X1_isIn X.2.2.2.2.2.2.2.2.2.2.1 e9) ydX1_isIn q532 q533 q121 q534 rfl (Nat.le_of_ble_eq_true rfl) (Nat.le_of_ble_eq_true rfl) hl.1 rfl (Nat.le_of_ble_eq_true rfl) dX1_end_9) (fun r3 h H locs cells slots hf hI => ?_)
  refine lv_if_ne (tgt := 17) hx hb dX1_end_12 (by decide) (fun c12 => ?_) (fun c12 => ?_)
  · have hf := g_f c12 hf
    refine lv_aload_n hx hb dX1_end_17 rfl (lv_at hl 0 rfl) ?_
    refine g_fr X hI hf fX1_0 q460 rfl rfl dX1_end_18 (fun v4 hf => ?_)
    refine lv_iload_n hx hb dX1_end_21 rfl (lv_at hl 1 rfl) ?_
    refine g_piN X hI hf fX2_6 q403 rfl dX1_end_22 (fun h H locs hf hI => ?_)
    refine lv_iconst (v := (1 : Int32)) hx hb dX1_end_25 (by decide) ?_
    cases gRet_e hf
    exact g_retZ X hI (Or.inr rfl) rfl dX1_end_26
  · have hf := g_t c12 hf
    refine lv_iconst (v := (0 : Int32)) hx hb dX1_end_15 (by decide) ?_
    cases gRet_e hf
    exact g_retZ X hI (Or.inl rfl) rfl dX1_end_16
/-! X8_end -/
abbrev w_X8_end_17 (G : gG) (l : Launch) (p : Program) (e : Env) (s : State) (m : MethodId) (args : Array Value) (below : List Frame) (meth : Method) (c : Code) (h0 : g_H) (r : Int32) (h' : g_H) (k : gM Int32) : Prop := ∀ (h : g_H) (H : Heap) (locs : List Loc) (cells slots : Nat) (ls : Array Slot), (k).1 h = some (r, h') → gI G h0 h H locs cells slots → lv_has ls 2 [] → W p l e (g_rm 1 20 h0 h') s m args below meth c H locs cells slots (gQ G below args s h0 h' (.inl (g_wI r))) (F0 m 17 ls [])
def f_X8_end_17 : gM Int32 :=
    (gRet (0 : Int32))
set_option maxHeartbeats 4000000 in
set_option maxRecDepth 100000 in
theorem b_X8_end_17 {G : gG} {l : Launch} {p : Program} {e : Env} {s : State} {m : MethodId} {args : Array Value} {below : List Frame} {meth : Method} {c : Code} {h0 : g_H} {r : Int32} {h' : g_H} (X : gX G l yX8_end.cls cX8_end 2 (some .boolean) [] yX8_end.name p s m args meth c) : w_X8_end_17 G l p e s m args below meth c h0 r h' (f_X8_end_17) := by
  have hx := X.1
  have hb := X.2.1
  have hown := X.2.2.2.1
  have hts := X.2.2.2.2.1
  intro h H locs cells slots ls hf hI hl
  unfold f_X8_end_17 at hf
  refine lv_iconst (v := (0 : Int32)) hx hb dX8_end_17 (by decide) ?_
  cases gRet_e hf
  exact g_retZ X hI (Or.inl rfl) rfl dX8_end_18
def f_X8_end (a0 : Nat) (x1 : Int32) : gM Int32 :=
    gB (gPI a0 7 0 (0 : Int32)) fun _ =>
    gIf (x1 < 0)
    (f_X8_end_17)
    (gB (gFI a0 7 9) fun v1 =>
    gIf (x1 ≤ v1)
    (gB (gPI a0 7 9 x1) fun _ =>
    (gRet (1 : Int32)))
    (f_X8_end_17))
set_option maxHeartbeats 4000000 in
set_option maxRecDepth 100000 in
theorem m_X8_end {G : gG} {l : Launch} (hfl : l.stackTraces = false) {a0 : Nat} {x1 : Int32} {h h' : g_H} {r : Int32} (hf : (f_X8_end a0 x1).1 h = some (r, h')) : gMet G l yX8_end (Cond.code yX8_end cX8_end 2 (some .boolean)) 1 20 [.ref a0, .int x1] h (.inl (g_wI r)) h' := by
  refine g_head hfl ((f_X8_end a0 x1).2 h r h' hf) (plainFor_of_name (by decide)) (Nat.le_of_ble_eq_true rfl) (fun p e s m below meth c H locs cells slots ls X hI hl9 => ?_)
  have hl : lv_has ls 2 [(0, .ref a0), (1, .int x1)] := hl9
  have hx := X.1
  have hb := X.2.1
  have hown := X.2.2.2.1
  have hts := X.2.2.2.2.1
  unfold f_X8_end at hf
  refine lv_aload_n hx hb dX8_end_0 rfl (lv_at hl 0 rfl) ?_
  refine lv_iconst (v := (0 : Int32)) hx hb dX8_end_1 (by decide) ?_
  refine g_pi X hI hf fX8_0 q1444 rfl dX8_end_2 (fun h H locs hf hI => ?_)
  refine lv_iload_n hx hb dX8_end_5 rfl (lv_at hl 1 rfl) ?_
  refine lv_if_lt (tgt := 17) hx hb dX8_end_6 (by decide) (fun c6 => ?_) (fun c6 => ?_)
  · have hf := g_t c6 hf
    exact b_X8_end_17 X _ _ _ _ _ _ hf hI (lv_sub hl [] rfl)
  · have hf := g_f c6 hf
    refine lv_iload_n hx hb dX8_end_9 rfl (lv_at hl 1 rfl) ?_
    refine lv_aload_n hx hb dX8_end_10 rfl (lv_at hl 0 rfl) ?_
    refine g_fi X hI hf fX8_9 q1453 rfl rfl dX8_end_11 (fun v1 hf => ?_)
    refine lv_icmp_le (tgt := 19) hx hb dX8_end_14 (by decide) (fun c14 => ?_) (fun c14 => ?_)
    · have hf := g_t c14 hf
      refine lv_aload_n hx hb dX8_end_19 rfl (lv_at hl 0 rfl) ?_
      refine lv_iload_n hx hb dX8_end_20 rfl (lv_at hl 1 rfl) ?_
      refine g_pi X hI hf fX8_9 q1453 rfl dX8_end_21 (fun h H locs hf hI => ?_)
      refine lv_iconst (v := (1 : Int32)) hx hb dX8_end_24 (by decide) ?_
      cases gRet_e hf
      exact g_retZ X hI (Or.inr rfl) rfl dX8_end_25
    · have hf := g_f c14 hf
      exact b_X8_end_17 X _ _ _ _ _ _ hf hI (lv_sub hl [] rfl)
/-! X1_four -/
abbrev w_X1_four_3 (G : gG) (l : Launch) (p : Program) (e : Env) (s : State) (m : MethodId) (args : Array Value) (below : List Frame) (meth : Method) (c : Code) (h0 : g_H) (r : Unit) (h' : g_H) (k : Nat → Int32 → Int32 → gM Unit) : Prop := ∀ (a0 : Nat) (x1 : Int32) (x2 : Int32) (h : g_H) (H : Heap) (locs : List Loc) (cells slots : Nat) (ls : Array Slot), (k a0 x1 x2).1 h = some (r, h') → gI G h0 h H locs cells slots → lv_has ls 3 [(0, .ref a0), (1, .int x1), (2, .int x2)] → W p l e (g_rm 1 20 h0 h') s m args below meth c H locs cells slots (gQ G below args s h0 h' (.inl (g_wU r))) (F0 m 3 ls [])
def f_X1_four_3 : Nat → Nat → Int32 → Int32 → gM Unit
  | 0, _, _, _ => gFail
  | n + 1, a0, x1, x2 =>
    gIf (x2 < 0)
    (gRet ())
    (gB (gFR a0 0 0) fun v101 =>
    gB (gFR v101 1 0) fun v102 =>
    gB (gFR a0 0 0) fun v103 =>
    gB (gFI v103 1 6) fun v104 =>
    gB (gSI v102 1 v104 (vp_nar .byte (((x1 >>> (x2 &&& 31))).toInt8.toInt32))) fun _ =>
    gB (gFR a0 0 0) fun v105 =>
    gB (gFI v105 1 6) fun v106 =>
    gB (gPI v105 1 6 (v106 + (1 : Int32))) fun _ =>
    f_X1_four_3 n a0 x1 (x2 + (-8 : Int32)))
set_option maxHeartbeats 4000000 in
set_option maxRecDepth 100000 in
theorem b_X1_four_3 {G : gG} {l : Launch} {p : Program} {e : Env} {s : State} {m : MethodId} {args : Array Value} {below : List Frame} {meth : Method} {c : Code} {h0 : g_H} {r : Unit} {h' : g_H} (X : gX G l yX1_four.cls cX1_four 3 none [] yX1_four.name p s m args meth c) : ∀ n : Nat, w_X1_four_3 G l p e s m args below meth c h0 r h' (f_X1_four_3 n) := by
  have hx := X.1
  have hb := X.2.1
  have hown := X.2.2.2.1
  have hts := X.2.2.2.2.1
  intro n
  induction n with
  | zero =>
    intro a0 x1 x2 h H locs cells slots ls hf hI hl
    exact (gFail_f hf).elim
  | succ n ih =>
    intro a0 x1 x2 h H locs cells slots ls hf hI hl
    rw [f_X1_four_3] at hf
    refine lv_iload_n hx hb dX1_four_3 rfl (lv_at hl 2 rfl) ?_
    refine lv_if_lt (tgt := 45) hx hb dX1_four_4 (by decide) (fun c4 => ?_) (fun c4 => ?_)
    · have hf := g_t c4 hf
      cases gRet_e hf
      exact g_retU X hI rfl dX1_four_45
    · have hf := g_f c4 hf
      refine lv_aload_n hx hb dX1_four_7 rfl (lv_at hl 0 rfl) ?_
      refine g_fr X hI hf fX1_0 q460 rfl rfl dX1_four_8 (fun v101 hf => ?_)
      refine g_frN X hI hf fX2_0 q396 rfl rfl dX1_four_11 (fun v102 hf => ?_)
      refine lv_aload_n hx hb dX1_four_14 rfl (lv_at hl 0 rfl) ?_
      refine g_fr X hI hf fX1_0 q460 rfl rfl dX1_four_15 (fun v103 hf => ?_)
      refine g_fiN X hI hf fX2_6 q403 rfl rfl dX1_four_18 (fun v104 hf => ?_)
      refine lv_iload_n hx hb dX1_four_21 rfl (lv_at hl 1 rfl) ?_
      refine lv_iload_n hx hb dX1_four_22 rfl (lv_at hl 2 rfl) ?_
      refine lv_ishr hx hb dX1_four_23 ?_
      refine lv_i2b hx hb dX1_four_24 rfl ?_
      refine g_si1 X hI hf dX1_four_25 (fun h H locs hf hI => ?_)
      refine lv_aload_n hx hb dX1_four_26 rfl (lv_at hl 0 rfl) ?_
      refine g_fr X hI hf fX1_0 q460 rfl rfl dX1_four_27 (fun v105 hf => ?_)
      refine lv_dup hx hb dX1_four_30 rfl ?_
      refine g_fiN X hI hf fX2_6 q403 rfl rfl dX1_four_31 (fun v106 hf => ?_)
      refine lv_iconst (v := (1 : Int32)) hx hb dX1_four_34 (by decide) ?_
      refine lv_iadd hx hb dX1_four_35 ?_
      refine g_piN X hI hf fX2_6 q403 rfl dX1_four_36 (fun h H locs hf hI => ?_)
      refine lv_iinc (v := (x2 + (-8 : Int32))) (lv' := [(2, .int (x2 + (-8 : Int32))), (0, .ref a0), (1, .int x1)]) hx hb dX1_four_39 hl (k := 2) rfl rfl (by decide) rfl (fun ls hl => ?_)
      refine lv_goto (tgt := 3) hx hb dX1_four_42 (by decide) ?_
      exact ih _ _ _ _ _ _ _ _ _ hf hI (lv_sub hl [1, 2, 0] rfl)
def f_X1_four (a0 : Nat) (x1 : Int32) : gM Unit :=
    f_X1_four_3 gN a0 x1 (24 : Int32)
set_option maxHeartbeats 4000000 in
set_option maxRecDepth 100000 in
theorem m_X1_four {G : gG} {l : Launch} (hfl : l.stackTraces = false) {a0 : Nat} {x1 : Int32} {h h' : g_H} {r : Unit} (hf : (f_X1_four a0 x1).1 h = some (r, h')) : gMet G l yX1_four (Cond.code yX1_four cX1_four 3 none) 1 20 [.ref a0, .int x1] h (.inl (g_wU r)) h' := by
  refine g_head hfl ((f_X1_four a0 x1).2 h r h' hf) (plainFor_of_name (by decide)) (Nat.le_of_ble_eq_true rfl) (fun p e s m below meth c H locs cells slots ls X hI hl9 => ?_)
  have hl : lv_has ls 3 [(0, .ref a0), (1, .int x1)] := hl9
  have hx := X.1
  have hb := X.2.1
  have hown := X.2.2.2.1
  have hts := X.2.2.2.2.1
  unfold f_X1_four at hf
  refine lv_bipush (v := (24 : Int32)) hx hb dX1_four_0 (by decide) ?_
  refine lv_istore_n (lv' := [(2, .int (24 : Int32)), (0, .ref a0), (1, .int x1)]) hx hb dX1_four_2 rfl hl (by decide) rfl (fun ls hl => ?_)
  exact b_X1_four_3 X gN _ _ _ _ _ _ _ _ _ hf hI (lv_sub hl [1, 2, 0] rfl)
/-! X1_feed -/
def f_X1_feed (a0 : Nat) (x1 : Int32) (x2 : Int32) (x3 : Int32) (x4 : Int32) (x5 : Int32) : gM Int32 :=
    gB (gFR a0 0 0) fun v1 =>
    gB (gFI v1 1 6) fun v2 =>
    gIf ((v2 + (20 : Int32)) ≤ (400 : Int32))
    (gB (gCk a0 0) fun _ =>
    gB (f_X1_four a0 x1) fun _ =>
    gB (gCk a0 0) fun _ =>
    gB (f_X1_four a0 x2) fun _ =>
    gB (gCk a0 0) fun _ =>
    gB (f_X1_four a0 x3) fun _ =>
    gB (gCk a0 0) fun _ =>
    gB (f_X1_four a0 x4) fun _ =>
    gB (gCk a0 0) fun _ =>
    gB (f_X1_four a0 x5) fun _ =>
    gB (gFR a0 0 0) fun v8 =>
    gB (gFI v8 1 6) fun v9 =>
    (gRet v9))
    ((gRet (-1 : Int32)))
set_option maxHeartbeats 4000000 in
set_option maxRecDepth 100000 in
theorem m_X1_feed {G : gG} {l : Launch} (hfl : l.stackTraces = false) {a0 : Nat} {x1 : Int32} {x2 : Int32} {x3 : Int32} {x4 : Int32} {x5 : Int32} {h h' : g_H} {r : Int32} (hf : (f_X1_feed a0 x1 x2 x3 x4 x5).1 h = some (r, h')) : gMet G l yX1_feed (Cond.code yX1_feed cX1_feed 6 (some .int)) 2 42 [.ref a0, .int x1, .int x2, .int x3, .int x4, .int x5] h (.inl (g_wI r)) h' := by
  refine g_head hfl ((f_X1_feed a0 x1 x2 x3 x4 x5).2 h r h' hf) (plainFor_of_name (by decide)) (Nat.le_of_ble_eq_true rfl) (fun p e s m below meth c H locs cells slots ls X hI hl9 => ?_)
  have hl : lv_has ls 6 [(0, .ref a0), (1, .int x1), (2, .int x2), (3, .int x3), (4, .int x4), (5, .int x5)] := hl9
  have hx := X.1
  have hb := X.2.1
  have hown := X.2.2.2.1
  have hts := X.2.2.2.2.1
  unfold f_X1_feed at hf
  refine lv_aload_n hx hb dX1_feed_0 rfl (lv_at hl 0 rfl) ?_
  refine g_fr X hI hf fX1_0 q460 rfl rfl dX1_feed_1 (fun v1 hf => ?_)
  refine g_fiN X hI hf fX2_6 q403 rfl rfl dX1_feed_4 (fun v2 hf => ?_)
  refine lv_bipush (v := (20 : Int32)) hx hb dX1_feed_7 (by decide) ?_
  refine lv_iadd hx hb dX1_feed_9 ?_
  refine lv_sipush (v := (400 : Int32)) hx hb dX1_feed_10 (by decide) ?_
  refine lv_icmp_le (tgt := 18) hx hb dX1_feed_13 (by decide) (fun c13 => ?_) (fun c13 => ?_)
  · have hf := g_t c13 hf
    refine lv_aload_n hx hb dX1_feed_18 rfl (lv_at hl 0 rfl) ?_
    refine lv_iload_n hx hb dX1_feed_19 rfl (lv_at hl 1 rfl) ?_
    obtain ⟨hs, hf⟩ := gCk_b hf
    refine g_cBU hI hf (fun v9 h9 e9 l9 l9' => g_rV X hI l9 l9' ⟨Nat.le_refl _, Nat.le_refl _⟩ (As := [.int x1]) (m_X1_four X.2.2.2.2.2.2.2.2.2.2.1 e9) ydX1_four hs rfl rfl q524 q526 qs1 q121 q527 rfl (Nat.le_of_ble_eq_true rfl) (Nat.le_of_ble_eq_true rfl) hl.1 rfl (Nat.le_of_ble_eq_true rfl) dX1_feed_20) (fun r3 h H locs cells slots hf hI => ?_)
    refine lv_aload_n hx hb dX1_feed_23 rfl (lv_at hl 0 rfl) ?_
    refine lv_iload_n hx hb dX1_feed_24 rfl (lv_at hl 2 rfl) ?_
    obtain ⟨hs, hf⟩ := gCk_b hf
    refine g_cBU hI hf (fun v9 h9 e9 l9 l9' => g_rV X hI l9 l9' ⟨Nat.le_refl _, Nat.le_refl _⟩ (As := [.int x2]) (m_X1_four X.2.2.2.2.2.2.2.2.2.2.1 e9) ydX1_four hs rfl rfl q524 q526 qs1 q121 q527 rfl (Nat.le_of_ble_eq_true rfl) (Nat.le_of_ble_eq_true rfl) hl.1 rfl (Nat.le_of_ble_eq_true rfl) dX1_feed_25) (fun r4 h H locs cells slots hf hI => ?_)
    refine lv_aload_n hx hb dX1_feed_28 rfl (lv_at hl 0 rfl) ?_
    refine lv_iload_n hx hb dX1_feed_29 rfl (lv_at hl 3 rfl) ?_
    obtain ⟨hs, hf⟩ := gCk_b hf
    refine g_cBU hI hf (fun v9 h9 e9 l9 l9' => g_rV X hI l9 l9' ⟨Nat.le_refl _, Nat.le_refl _⟩ (As := [.int x3]) (m_X1_four X.2.2.2.2.2.2.2.2.2.2.1 e9) ydX1_four hs rfl rfl q524 q526 qs1 q121 q527 rfl (Nat.le_of_ble_eq_true rfl) (Nat.le_of_ble_eq_true rfl) hl.1 rfl (Nat.le_of_ble_eq_true rfl) dX1_feed_30) (fun r5 h H locs cells slots hf hI => ?_)
    refine lv_aload_n hx hb dX1_feed_33 rfl (lv_at hl 0 rfl) ?_
    refine lv_iload hx hb dX1_feed_34 (lv_at hl 4 rfl) ?_
    obtain ⟨hs, hf⟩ := gCk_b hf
    refine g_cBU hI hf (fun v9 h9 e9 l9 l9' => g_rV X hI l9 l9' ⟨Nat.le_refl _, Nat.le_refl _⟩ (As := [.int x4]) (m_X1_four X.2.2.2.2.2.2.2.2.2.2.1 e9) ydX1_four hs rfl rfl q524 q526 qs1 q121 q527 rfl (Nat.le_of_ble_eq_true rfl) (Nat.le_of_ble_eq_true rfl) hl.1 rfl (Nat.le_of_ble_eq_true rfl) dX1_feed_36) (fun r6 h H locs cells slots hf hI => ?_)
    refine lv_aload_n hx hb dX1_feed_39 rfl (lv_at hl 0 rfl) ?_
    refine lv_iload hx hb dX1_feed_40 (lv_at hl 5 rfl) ?_
    obtain ⟨hs, hf⟩ := gCk_b hf
    refine g_cBU hI hf (fun v9 h9 e9 l9 l9' => g_rV X hI l9 l9' ⟨Nat.le_refl _, Nat.le_refl _⟩ (As := [.int x5]) (m_X1_four X.2.2.2.2.2.2.2.2.2.2.1 e9) ydX1_four hs rfl rfl q524 q526 qs1 q121 q527 rfl (Nat.le_of_ble_eq_true rfl) (Nat.le_of_ble_eq_true rfl) hl.1 rfl (Nat.le_of_ble_eq_true rfl) dX1_feed_42) (fun r7 h H locs cells slots hf hI => ?_)
    refine lv_aload_n hx hb dX1_feed_45 rfl (lv_at hl 0 rfl) ?_
    refine g_fr X hI hf fX1_0 q460 rfl rfl dX1_feed_46 (fun v8 hf => ?_)
    refine g_fiN X hI hf fX2_6 q403 rfl rfl dX1_feed_49 (fun v9 hf => ?_)
    cases gRet_e hf
    exact g_retI X hI rfl dX1_feed_52
  · have hf := g_f c13 hf
    refine lv_iconst (v := (-1 : Int32)) hx hb dX1_feed_16 (by decide) ?_
    cases gRet_e hf
    exact g_retI X hI rfl dX1_feed_17
/-! X8_feed -/
abbrev w_X8_feed_106 (G : gG) (l : Launch) (p : Program) (e : Env) (s : State) (m : MethodId) (args : Array Value) (below : List Frame) (meth : Method) (c : Code) (h0 : g_H) (r : Int32) (h' : g_H) (k : Nat → gM Int32) : Prop := ∀ (a0 : Nat) (h : g_H) (H : Heap) (locs : List Loc) (cells slots : Nat) (ls : Array Slot), (k a0).1 h = some (r, h') → gI G h0 h H locs cells slots → lv_has ls 7 [(0, .ref a0)] → W p l e (g_rm 1 20 h0 h') s m args below meth c H locs cells slots (gQ G below args s h0 h' (.inl (g_wI r))) (F0 m 106 ls [])
abbrev w_X8_feed_60 (G : gG) (l : Launch) (p : Program) (e : Env) (s : State) (m : MethodId) (args : Array Value) (below : List Frame) (meth : Method) (c : Code) (h0 : g_H) (r : Int32) (h' : g_H) (k : Nat → Int32 → gM Int32) : Prop := ∀ (a0 : Nat) (x6 : Int32) (h : g_H) (H : Heap) (locs : List Loc) (cells slots : Nat) (ls : Array Slot), (k a0 x6).1 h = some (r, h') → gI G h0 h H locs cells slots → lv_has ls 7 [(0, .ref a0), (6, .int x6)] → W p l e (g_rm 1 20 h0 h') s m args below meth c H locs cells slots (gQ G below args s h0 h' (.inl (g_wI r))) (F0 m 60 ls [])
def f_X8_feed_106 (a0 : Nat) : gM Int32 :=
    gB (gFI a0 7 9) fun v101 =>
    gB (gPI a0 7 9 (v101 + (20 : Int32))) fun _ =>
    gB (gFI a0 7 9) fun v102 =>
    (gRet v102)
set_option maxHeartbeats 4000000 in
set_option maxRecDepth 100000 in
theorem b_X8_feed_106 {G : gG} {l : Launch} {p : Program} {e : Env} {s : State} {m : MethodId} {args : Array Value} {below : List Frame} {meth : Method} {c : Code} {h0 : g_H} {r : Int32} {h' : g_H} (X : gX G l yX8_feed.cls cX8_feed 7 (some .int) [] yX8_feed.name p s m args meth c) : w_X8_feed_106 G l p e s m args below meth c h0 r h' (f_X8_feed_106) := by
  have hx := X.1
  have hb := X.2.1
  have hown := X.2.2.2.1
  have hts := X.2.2.2.2.1
  intro a0 h H locs cells slots ls hf hI hl
  unfold f_X8_feed_106 at hf
  refine lv_aload_n hx hb dX8_feed_106 rfl (lv_at hl 0 rfl) ?_
  refine lv_dup hx hb dX8_feed_107 rfl ?_
  refine g_fi X hI hf fX8_9 q1453 rfl rfl dX8_feed_108 (fun v101 hf => ?_)
  refine lv_bipush (v := (20 : Int32)) hx hb dX8_feed_111 (by decide) ?_
  refine lv_iadd hx hb dX8_feed_113 ?_
  refine g_pi X hI hf fX8_9 q1453 rfl dX8_feed_114 (fun h H locs hf hI => ?_)
  refine lv_aload_n hx hb dX8_feed_117 rfl (lv_at hl 0 rfl) ?_
  refine g_fi X hI hf fX8_9 q1453 rfl rfl dX8_feed_118 (fun v102 hf => ?_)
  cases gRet_e hf
  exact g_retI X hI rfl dX8_feed_121
def f_X8_feed_60 : Nat → Nat → Int32 → gM Int32
  | 0, _, _ => gFail
  | n + 1, a0, x6 =>
    gIf ((20 : Int32) ≤ x6)
    (f_X8_feed_106 a0)
    (gB (gFR a0 7 8) fun v101 =>
    gB (gFI a0 7 9) fun v102 =>
    gB (gFR a0 7 15) fun v103 =>
    gB (gAI v103 0 (x6 / (4 : Int32))) fun v104 =>
    gB (gSI v101 1 (v102 + x6) (vp_nar .byte (((v104 >>> (((24 : Int32) - ((8 : Int32) * (x6 - x6 / (4 : Int32) * (4 : Int32)))) &&& 31))).toInt8.toInt32))) fun _ =>
    f_X8_feed_60 n a0 (x6 + (1 : Int32)))
set_option maxHeartbeats 4000000 in
set_option maxRecDepth 100000 in
theorem b_X8_feed_60 {G : gG} {l : Launch} {p : Program} {e : Env} {s : State} {m : MethodId} {args : Array Value} {below : List Frame} {meth : Method} {c : Code} {h0 : g_H} {r : Int32} {h' : g_H} (X : gX G l yX8_feed.cls cX8_feed 7 (some .int) [] yX8_feed.name p s m args meth c) : ∀ n : Nat, w_X8_feed_60 G l p e s m args below meth c h0 r h' (f_X8_feed_60 n) := by
  have hx := X.1
  have hb := X.2.1
  have hown := X.2.2.2.1
  have hts := X.2.2.2.2.1
  intro n
  induction n with
  | zero =>
    intro a0 x6 h H locs cells slots ls hf hI hl
    exact (gFail_f hf).elim
  | succ n ih =>
    intro a0 x6 h H locs cells slots ls hf hI hl
    rw [f_X8_feed_60] at hf
    refine lv_iload hx hb dX8_feed_60 (lv_at hl 1 rfl) ?_
    refine lv_bipush (v := (20 : Int32)) hx hb dX8_feed_62 (by decide) ?_
    refine lv_icmp_ge (tgt := 106) hx hb dX8_feed_64 (by decide) (fun c64 => ?_) (fun c64 => ?_)
    · have hf := g_t c64 hf
      exact b_X8_feed_106 X _ _ _ _ _ _ _ hf hI (lv_sub hl [0] rfl)
    · have hf := g_f c64 hf
      refine lv_aload_n hx hb dX8_feed_67 rfl (lv_at hl 0 rfl) ?_
      refine g_fr X hI hf fX8_8 q1452 rfl rfl dX8_feed_68 (fun v101 hf => ?_)
      refine lv_aload_n hx hb dX8_feed_71 rfl (lv_at hl 0 rfl) ?_
      refine g_fi X hI hf fX8_9 q1453 rfl rfl dX8_feed_72 (fun v102 hf => ?_)
      refine lv_iload hx hb dX8_feed_75 (lv_at hl 1 rfl) ?_
      refine lv_iadd hx hb dX8_feed_77 ?_
      refine lv_aload_n hx hb dX8_feed_78 rfl (lv_at hl 0 rfl) ?_
      refine g_fr X hI hf fX8_15 q1459 rfl rfl dX8_feed_79 (fun v103 hf => ?_)
      refine lv_iload hx hb dX8_feed_82 (lv_at hl 1 rfl) ?_
      refine lv_iconst (v := (4 : Int32)) hx hb dX8_feed_84 (by decide) ?_
      refine lv_idiv hx hb dX8_feed_85 (by decide) ?_
      refine g_ai0 X hI hf dX8_feed_86 (fun v104 hf => ?_)
      refine lv_bipush (v := (24 : Int32)) hx hb dX8_feed_87 (by decide) ?_
      refine lv_bipush (v := (8 : Int32)) hx hb dX8_feed_89 (by decide) ?_
      refine lv_iload hx hb dX8_feed_91 (lv_at hl 1 rfl) ?_
      refine lv_iconst (v := (4 : Int32)) hx hb dX8_feed_93 (by decide) ?_
      refine lv_irem hx hb dX8_feed_94 (by decide) ?_
      refine lv_imul hx hb dX8_feed_95 ?_
      refine lv_isub hx hb dX8_feed_96 ?_
      refine lv_ishr hx hb dX8_feed_97 ?_
      refine lv_i2b hx hb dX8_feed_98 rfl ?_
      refine g_si1 X hI hf dX8_feed_99 (fun h H locs hf hI => ?_)
      refine lv_iinc (v := (x6 + (1 : Int32))) (lv' := [(6, .int (x6 + (1 : Int32))), (0, .ref a0)]) hx hb dX8_feed_100 hl (k := 1) rfl rfl (by decide) rfl (fun ls hl => ?_)
      refine lv_goto (tgt := 60) hx hb dX8_feed_103 (by decide) ?_
      exact ih _ _ _ _ _ _ _ _ hf hI (lv_sub hl [1, 0] rfl)
def f_X8_feed (a0 : Nat) (x1 : Int32) (x2 : Int32) (x3 : Int32) (x4 : Int32) (x5 : Int32) : gM Int32 :=
    gB (gPI a0 7 0 (0 : Int32)) fun _ =>
    gB (gFI a0 7 9) fun v1 =>
    gIf ((v1 + (20 : Int32)) ≤ (400 : Int32))
    (gB (gFR a0 7 15) fun v2 =>
    gB (gSI v2 0 (0 : Int32) x1) fun _ =>
    gB (gFR a0 7 15) fun v3 =>
    gB (gSI v3 0 (1 : Int32) x2) fun _ =>
    gB (gFR a0 7 15) fun v4 =>
    gB (gSI v4 0 (2 : Int32) x3) fun _ =>
    gB (gFR a0 7 15) fun v5 =>
    gB (gSI v5 0 (3 : Int32) x4) fun _ =>
    gB (gFR a0 7 15) fun v6 =>
    gB (gSI v6 0 (4 : Int32) x5) fun _ =>
    f_X8_feed_60 gN a0 (0 : Int32))
    ((gRet (-1 : Int32)))
set_option maxHeartbeats 4000000 in
set_option maxRecDepth 100000 in
theorem m_X8_feed {G : gG} {l : Launch} (hfl : l.stackTraces = false) {a0 : Nat} {x1 : Int32} {x2 : Int32} {x3 : Int32} {x4 : Int32} {x5 : Int32} {h h' : g_H} {r : Int32} (hf : (f_X8_feed a0 x1 x2 x3 x4 x5).1 h = some (r, h')) : gMet G l yX8_feed (Cond.code yX8_feed cX8_feed 7 (some .int)) 1 20 [.ref a0, .int x1, .int x2, .int x3, .int x4, .int x5] h (.inl (g_wI r)) h' := by
  refine g_head hfl ((f_X8_feed a0 x1 x2 x3 x4 x5).2 h r h' hf) (plainFor_of_name (by decide)) (Nat.le_of_ble_eq_true rfl) (fun p e s m below meth c H locs cells slots ls X hI hl9 => ?_)
  have hl : lv_has ls 7 [(0, .ref a0), (1, .int x1), (2, .int x2), (3, .int x3), (4, .int x4), (5, .int x5)] := hl9
  have hx := X.1
  have hb := X.2.1
  have hown := X.2.2.2.1
  have hts := X.2.2.2.2.1
  unfold f_X8_feed at hf
  refine lv_aload_n hx hb dX8_feed_0 rfl (lv_at hl 0 rfl) ?_
  refine lv_iconst (v := (0 : Int32)) hx hb dX8_feed_1 (by decide) ?_
  refine g_pi X hI hf fX8_0 q1444 rfl dX8_feed_2 (fun h H locs hf hI => ?_)
  refine lv_aload_n hx hb dX8_feed_5 rfl (lv_at hl 0 rfl) ?_
  refine g_fi X hI hf fX8_9 q1453 rfl rfl dX8_feed_6 (fun v1 hf => ?_)
  refine lv_bipush (v := (20 : Int32)) hx hb dX8_feed_9 (by decide) ?_
  refine lv_iadd hx hb dX8_feed_11 ?_
  refine lv_sipush (v := (400 : Int32)) hx hb dX8_feed_12 (by decide) ?_
  refine lv_icmp_le (tgt := 20) hx hb dX8_feed_15 (by decide) (fun c15 => ?_) (fun c15 => ?_)
  · have hf := g_t c15 hf
    refine lv_aload_n hx hb dX8_feed_20 rfl (lv_at hl 0 rfl) ?_
    refine g_fr X hI hf fX8_15 q1459 rfl rfl dX8_feed_21 (fun v2 hf => ?_)
    refine lv_iconst (v := (0 : Int32)) hx hb dX8_feed_24 (by decide) ?_
    refine lv_iload_n hx hb dX8_feed_25 rfl (lv_at hl 1 rfl) ?_
    refine g_si0 X hI hf dX8_feed_26 (fun h H locs hf hI => ?_)
    refine lv_aload_n hx hb dX8_feed_27 rfl (lv_at hl 0 rfl) ?_
    refine g_fr X hI hf fX8_15 q1459 rfl rfl dX8_feed_28 (fun v3 hf => ?_)
    refine lv_iconst (v := (1 : Int32)) hx hb dX8_feed_31 (by decide) ?_
    refine lv_iload_n hx hb dX8_feed_32 rfl (lv_at hl 2 rfl) ?_
    refine g_si0 X hI hf dX8_feed_33 (fun h H locs hf hI => ?_)
    refine lv_aload_n hx hb dX8_feed_34 rfl (lv_at hl 0 rfl) ?_
    refine g_fr X hI hf fX8_15 q1459 rfl rfl dX8_feed_35 (fun v4 hf => ?_)
    refine lv_iconst (v := (2 : Int32)) hx hb dX8_feed_38 (by decide) ?_
    refine lv_iload_n hx hb dX8_feed_39 rfl (lv_at hl 3 rfl) ?_
    refine g_si0 X hI hf dX8_feed_40 (fun h H locs hf hI => ?_)
    refine lv_aload_n hx hb dX8_feed_41 rfl (lv_at hl 0 rfl) ?_
    refine g_fr X hI hf fX8_15 q1459 rfl rfl dX8_feed_42 (fun v5 hf => ?_)
    refine lv_iconst (v := (3 : Int32)) hx hb dX8_feed_45 (by decide) ?_
    refine lv_iload hx hb dX8_feed_46 (lv_at hl 4 rfl) ?_
    refine g_si0 X hI hf dX8_feed_48 (fun h H locs hf hI => ?_)
    refine lv_aload_n hx hb dX8_feed_49 rfl (lv_at hl 0 rfl) ?_
    refine g_fr X hI hf fX8_15 q1459 rfl rfl dX8_feed_50 (fun v6 hf => ?_)
    refine lv_iconst (v := (4 : Int32)) hx hb dX8_feed_53 (by decide) ?_
    refine lv_iload hx hb dX8_feed_54 (lv_at hl 5 rfl) ?_
    refine g_si0 X hI hf dX8_feed_56 (fun h H locs hf hI => ?_)
    refine lv_iconst (v := (0 : Int32)) hx hb dX8_feed_57 (by decide) ?_
    refine lv_istore (lv' := [(6, .int (0 : Int32)), (0, .ref a0), (1, .int x1), (2, .int x2), (3, .int x3), (4, .int x4), (5, .int x5)]) hx hb dX8_feed_58 hl (by decide) rfl (fun ls hl => ?_)
    exact b_X8_feed_60 X gN _ _ _ _ _ _ _ _ hf hI (lv_sub hl [1, 0] rfl)
  · have hf := g_f c15 hf
    refine lv_iconst (v := (-1 : Int32)) hx hb dX8_feed_18 (by decide) ?_
    cases gRet_e hf
    exact g_retI X hI rfl dX8_feed_19
end
