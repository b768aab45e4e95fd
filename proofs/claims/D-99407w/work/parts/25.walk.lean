noncomputable section
/-! X8_keepsAll -/
abbrev w_X8_keepsAll_2 (G : gG) (l : Launch) (p : Program) (e : Env) (s : State) (m : MethodId) (args : Array Value) (below : List Frame) (meth : Method) (c : Code) (h0 : g_H) (r : Unit) (h' : g_H) (k : Nat → Int32 → gM Unit) : Prop := ∀ (a0 : Nat) (x1 : Int32) (h : g_H) (H : Heap) (locs : List Loc) (cells slots : Nat) (ls : Array Slot), (k a0 x1).1 h = some (r, h') → gI G h0 h H locs cells slots → lv_has ls 2 [(0, .ref a0), (1, .int x1)] → W p l e (g_rm 1 20 h0 h') s m args below meth c H locs cells slots (gQ G below args s h0 h' (.inl (g_wU r))) (F0 m 2 ls [])
def f_X8_keepsAll_2 : Nat → Nat → Int32 → gM Unit
  | 0, _, _ => gFail
  | n + 1, a0, x1 =>
    gIf ((305 : Int32) ≤ x1)
    (gRet ())
    (gB (gFR a0 7 4) fun v101 =>
    gB (gFR a0 7 1) fun v102 =>
    gB (gAI v102 0 x1) fun v103 =>
    gB (gSI v101 0 x1 v103) fun _ =>
    f_X8_keepsAll_2 n a0 (x1 + (1 : Int32)))
set_option maxHeartbeats 4000000 in
set_option maxRecDepth 100000 in
theorem b_X8_keepsAll_2 {G : gG} {l : Launch} {p : Program} {e : Env} {s : State} {m : MethodId} {args : Array Value} {below : List Frame} {meth : Method} {c : Code} {h0 : g_H} {r : Unit} {h' : g_H} (X : gX G l yX8_keepsAll.cls cX8_keepsAll 2 none [] yX8_keepsAll.name p s m args meth c) : ∀ n : Nat, w_X8_keepsAll_2 G l p e s m args below meth c h0 r h' (f_X8_keepsAll_2 n) := by
  have hx := X.1
  have hb := X.2.1
  have hown := X.2.2.2.1
  have hts := X.2.2.2.2.1
  intro n
  induction n with
  | zero =>
    intro a0 x1 h H locs cells slots ls hf hI hl
    exact (gFail_f hf).elim
  | succ n ih =>
    intro a0 x1 h H locs cells slots ls hf hI hl
    rw [f_X8_keepsAll_2] at hf
    refine lv_iload_n hx hb dX8_keepsAll_2 rfl (lv_at hl 1 rfl) ?_
    refine lv_sipush (v := (305 : Int32)) hx hb dX8_keepsAll_3 (by decide) ?_
    refine lv_icmp_ge (tgt := 27) hx hb dX8_keepsAll_6 (by decide) (fun c6 => ?_) (fun c6 => ?_)
    · have hf := g_t c6 hf
      cases gRet_e hf
      exact g_retU X hI rfl dX8_keepsAll_27
    · have hf := g_f c6 hf
      refine lv_aload_n hx hb dX8_keepsAll_9 rfl (lv_at hl 0 rfl) ?_
      refine g_fr X hI hf fX8_4 q1448 rfl rfl dX8_keepsAll_10 (fun v101 hf => ?_)
      refine lv_iload_n hx hb dX8_keepsAll_13 rfl (lv_at hl 1 rfl) ?_
      refine lv_aload_n hx hb dX8_keepsAll_14 rfl (lv_at hl 0 rfl) ?_
      refine g_fr X hI hf fX8_1 q1445 rfl rfl dX8_keepsAll_15 (fun v102 hf => ?_)
      refine lv_iload_n hx hb dX8_keepsAll_18 rfl (lv_at hl 1 rfl) ?_
      refine g_ai0 X hI hf dX8_keepsAll_19 (fun v103 hf => ?_)
      refine g_si0 X hI hf dX8_keepsAll_20 (fun h H locs hf hI => ?_)
      refine lv_iinc (v := (x1 + (1 : Int32))) (lv' := [(1, .int (x1 + (1 : Int32))), (0, .ref a0)]) hx hb dX8_keepsAll_21 hl (k := 1) rfl rfl (by decide) rfl (fun ls hl => ?_)
      refine lv_goto (tgt := 2) hx hb dX8_keepsAll_24 (by decide) ?_
      exact ih _ _ _ _ _ _ _ _ hf hI (lv_sub hl [1, 0] rfl)
def f_X8_keepsAll (a0 : Nat) : gM Unit :=
    f_X8_keepsAll_2 gN a0 (0 : Int32)
set_option maxHeartbeats 4000000 in
set_option maxRecDepth 100000 in
theorem m_X8_keepsAll {G : gG} {l : Launch} (hfl : l.stackTraces = false) {a0 : Nat} {h h' : g_H} {r : Unit} (hf : (f_X8_keepsAll a0).1 h = some (r, h')) : gMet G l yX8_keepsAll (Cond.code yX8_keepsAll cX8_keepsAll 2 none) 1 20 [.ref a0] h (.inl (g_wU r)) h' := by
  refine g_head hfl ((f_X8_keepsAll a0).2 h r h' hf) (plainFor_of_name (by decide)) (Nat.le_of_ble_eq_true rfl) (fun p e s m below meth c H locs cells slots ls X hI hl9 => ?_)
  have hl : lv_has ls 2 [(0, .ref a0)] := hl9
  have hx := X.1
  have hb := X.2.1
  have hown := X.2.2.2.1
  have hts := X.2.2.2.2.1
  unfold f_X8_keepsAll at hf
  refine lv_iconst (v := (0 : Int32)) hx hb dX8_keepsAll_0 (by decide) ?_
  refine lv_istore_n (lv' := [(1, .int (0 : Int32)), (0, .ref a0)]) hx hb dX8_keepsAll_1 rfl hl (by decide) rfl (fun ls hl => ?_)
  exact b_X8_keepsAll_2 X gN _ _ _ _ _ _ _ _ hf hI (lv_sub hl [1, 0] rfl)
/-! X8_laysOn -/
abbrev w_X8_laysOn_66 (G : gG) (l : Launch) (p : Program) (e : Env) (s : State) (m : MethodId) (args : Array Value) (below : List Frame) (meth : Method) (c : Code) (h0 : g_H) (r : Unit) (h' : g_H) (k : Nat → Int32 → gM Unit) : Prop := ∀ (a0 : Nat) (x2 : Int32) (h : g_H) (H : Heap) (locs : List Loc) (cells slots : Nat) (ls : Array Slot), (k a0 x2).1 h = some (r, h') → gI G h0 h H locs cells slots → lv_has ls 3 [(0, .ref a0), (2, .int x2)] → W p l e (g_rm 3 63 h0 h') s m args below meth c H locs cells slots (gQ G below args s h0 h' (.inl (g_wU r))) (F0 m 66 ls [])
abbrev w_X8_laysOn_19 (G : gG) (l : Launch) (p : Program) (e : Env) (s : State) (m : MethodId) (args : Array Value) (below : List Frame) (meth : Method) (c : Code) (h0 : g_H) (r : Unit) (h' : g_H) (k : Nat → Int32 → gM Unit) : Prop := ∀ (a0 : Nat) (x2 : Int32) (h : g_H) (H : Heap) (locs : List Loc) (cells slots : Nat) (ls : Array Slot), (k a0 x2).1 h = some (r, h') → gI G h0 h H locs cells slots → lv_has ls 3 [(0, .ref a0), (2, .int x2)] → W p l e (g_rm 3 63 h0 h') s m args below meth c H locs cells slots (gQ G below args s h0 h' (.inl (g_wU r))) (F0 m 19 ls [])
def f_X8_laysOn_66 (k19 : Nat → Int32 → gM Unit) (a0 : Nat) (x2 : Int32) : gM Unit :=
    k19 a0 (x2 + (1 : Int32))
set_option maxHeartbeats 4000000 in
set_option maxRecDepth 100000 in
theorem b_X8_laysOn_66 {G : gG} {l : Launch} {p : Program} {e : Env} {s : State} {m : MethodId} {args : Array Value} {below : List Frame} {meth : Method} {c : Code} {h0 : g_H} {r : Unit} {h' : g_H} (X : gX G l yX8_laysOn.cls cX8_laysOn 3 none [] yX8_laysOn.name p s m args meth c) {k19 : Nat → Int32 → gM Unit} (K19 : w_X8_laysOn_19 G l p e s m args below meth c h0 r h' k19) : w_X8_laysOn_66 G l p e s m args below meth c h0 r h' (f_X8_laysOn_66 k19) := by
  have hx := X.1
  have hb := X.2.1
  have hown := X.2.2.2.1
  have hts := X.2.2.2.2.1
  intro a0 x2 h H locs cells slots ls hf hI hl
  unfold f_X8_laysOn_66 at hf
  refine lv_iinc (v := (x2 + (1 : Int32))) (lv' := [(2, .int (x2 + (1 : Int32))), (0, .ref a0)]) hx hb dX8_laysOn_66 hl (k := 1) rfl rfl (by decide) rfl (fun ls hl => ?_)
  refine lv_goto (tgt := 19) hx hb dX8_laysOn_69 (by decide) ?_
  exact K19 _ _ _ _ _ _ _ _ hf hI (lv_sub hl [1, 0] rfl)
def f_X8_laysOn_19 : Nat → Nat → Int32 → gM Unit
  | 0, _, _ => gFail
  | n + 1, a0, x2 =>
    gB (gCk a0 7) fun _ =>
    gB (f_X8_props a0) fun r101 =>
    gIf (r101 ≤ x2)
    (gRet ())
    (gB (gFI a0 7 29) fun v102 =>
    gB (f_X8_has v102 x2) fun r103 =>
    gIf (r103 = 0)
    (f_X8_laysOn_66 (f_X8_laysOn_19 n) a0 x2)
    (gB (gFR a0 7 1) fun v104 =>
    gB (f_X8_propAt x2 (2 : Int32)) fun r105 =>
    gB (gCk a0 7) fun _ =>
    gB (f_X8_ofProp a0 x2 (2 : Int32)) fun r106 =>
    gB (gFR a0 7 27) fun v107 =>
    gB (gAI v107 0 x2) fun v108 =>
    gB (f_J13_min (99 : Int32) (r106 + v108)) fun r109 =>
    gB (gSI v104 0 r105 r109) fun _ =>
    f_X8_laysOn_66 (f_X8_laysOn_19 n) a0 x2))
set_option maxHeartbeats 4000000 in
set_option maxRecDepth 100000 in
theorem b_X8_laysOn_19 {G : gG} {l : Launch} {p : Program} {e : Env} {s : State} {m : MethodId} {args : Array Value} {below : List Frame} {meth : Method} {c : Code} {h0 : g_H} {r : Unit} {h' : g_H} (X : gX G l yX8_laysOn.cls cX8_laysOn 3 none [] yX8_laysOn.name p s m args meth c) : ∀ n : Nat, w_X8_laysOn_19 G l p e s m args below meth c h0 r h' (f_X8_laysOn_19 n) := by
  have hx := X.1
  have hb := X.2.1
  have hown := X.2.2.2.1
  have hts := X.2.2.2.2.1
  intro n
  induction n with
  | zero =>
    intro a0 x2 h H locs cells slots ls hf hI hl
    exact (gFail_f hf).elim
  | succ n ih =>
    intro a0 x2 h H locs cells slots ls hf hI hl
    rw [f_X8_laysOn_19] at hf
    refine lv_iload_n hx hb dX8_laysOn_19 rfl (lv_at hl 1 rfl) ?_
    refine lv_aload_n hx hb dX8_laysOn_20 rfl (lv_at hl 0 rfl) ?_
    obtain ⟨hs, hf⟩ := gCk_b hf
    refine g_cBI hI hf (fun v9 h9 e9 l9 l9' => g_rV X hI l9 l9' ⟨Nat.le_refl _, Nat.le_refl _⟩ (As := []) (m_X8_props X.2.2.2.2.2.2.2.2.2.2.1 e9) ydX8_props hs rfl rfl q1626 q1628 qs53 q131 q1629 rfl (Nat.le_of_ble_eq_true rfl) (Nat.le_of_ble_eq_true rfl) hl.1 rfl (Nat.le_of_ble_eq_true rfl) dX8_laysOn_21) (fun r101 h H locs cells slots hf hI => ?_)
    refine lv_icmp_ge (tgt := 72) hx hb dX8_laysOn_24 (by decide) (fun c24 => ?_) (fun c24 => ?_)
    · have hf := g_t c24 hf
      cases gRet_e hf
      exact g_retU X hI rfl dX8_laysOn_72
    · have hf := g_f c24 hf
      refine lv_aload_n hx hb dX8_laysOn_27 rfl (lv_at hl 0 rfl) ?_
      refine g_fi X hI hf fX8_29 q1473 rfl rfl dX8_laysOn_28 (fun v102 hf => ?_)
      refine lv_iload_n hx hb dX8_laysOn_31 rfl (lv_at hl 1 rfl) ?_
      refine g_cBI hI hf (fun v9 h9 e9 l9 l9' => g_rS (b := 0) X hI l9 l9' ⟨Nat.le_refl _, Nat.le_refl _⟩ (As := [.int v102, .int x2]) (m_X8_has X.2.2.2.2.2.2.2.2.2.2.1 e9) ydX8_has q1637 q1638 q131 q1639 rfl (Nat.le_of_ble_eq_true rfl) (Nat.le_of_ble_eq_true rfl) hl.1 rfl (Nat.le_of_ble_eq_true rfl) dX8_laysOn_32) (fun r103 h H locs cells slots hf hI => ?_)
      refine lv_if_eq (tgt := 66) hx hb dX8_laysOn_35 (by decide) (fun c35 => ?_) (fun c35 => ?_)
      · have hf := g_t c35 hf
        exact b_X8_laysOn_66 X ih _ _ _ _ _ _ _ _ hf hI (lv_sub hl [0, 1] rfl)
      · have hf := g_f c35 hf
        refine lv_aload_n hx hb dX8_laysOn_38 rfl (lv_at hl 0 rfl) ?_
        refine g_fr X hI hf fX8_1 q1445 rfl rfl dX8_laysOn_39 (fun v104 hf => ?_)
        refine lv_iload_n hx hb dX8_laysOn_42 rfl (lv_at hl 1 rfl) ?_
        refine lv_iconst (v := (2 : Int32)) hx hb dX8_laysOn_43 (by decide) ?_
        refine g_cBI hI hf (fun v9 h9 e9 l9 l9' => g_rS (b := 0) X hI l9 l9' ⟨Nat.le_refl _, Nat.le_refl _⟩ (As := [.int x2, .int (2 : Int32)]) (m_X8_propAt X.2.2.2.2.2.2.2.2.2.2.1 e9) ydX8_propAt q1663 q1664 q131 q1665 rfl (Nat.le_of_ble_eq_true rfl) (Nat.le_of_ble_eq_true rfl) hl.1 rfl (Nat.le_of_ble_eq_true rfl) dX8_laysOn_44) (fun r105 h H locs cells slots hf hI => ?_)
        refine lv_bipush (v := (99 : Int32)) hx hb dX8_laysOn_47 (by decide) ?_
        refine lv_aload_n hx hb dX8_laysOn_49 rfl (lv_at hl 0 rfl) ?_
        refine lv_iload_n hx hb dX8_laysOn_50 rfl (lv_at hl 1 rfl) ?_
        refine lv_iconst (v := (2 : Int32)) hx hb dX8_laysOn_51 (by decide) ?_
        obtain ⟨hs, hf⟩ := gCk_b hf
        refine g_cBI hI hf (fun v9 h9 e9 l9 l9' => g_rV X hI l9 l9' ⟨Nat.le_refl _, Nat.le_refl _⟩ (As := [.int x2, .int (2 : Int32)]) (m_X8_ofProp X.2.2.2.2.2.2.2.2.2.2.1 e9) ydX8_ofProp hs rfl rfl q1659 q1661 qs59 q131 q1662 rfl (Nat.le_of_ble_eq_true rfl) (Nat.le_of_ble_eq_true rfl) hl.1 rfl (Nat.le_of_ble_eq_true rfl) dX8_laysOn_52) (fun r106 h H locs cells slots hf hI => ?_)
        refine lv_aload_n hx hb dX8_laysOn_55 rfl (lv_at hl 0 rfl) ?_
        refine g_fr X hI hf fX8_27 q1471 rfl rfl dX8_laysOn_56 (fun v107 hf => ?_)
        refine lv_iload_n hx hb dX8_laysOn_59 rfl (lv_at hl 1 rfl) ?_
        refine g_ai0 X hI hf dX8_laysOn_60 (fun v108 hf => ?_)
        refine lv_iadd hx hb dX8_laysOn_61 ?_
        refine g_cBI hI hf (fun v9 h9 e9 l9 l9' => g_rS (b := 0) X hI l9 l9' ⟨Nat.le_refl _, Nat.le_refl _⟩ (As := [.int (99 : Int32), .int (r106 + v108)]) (m_J13_min X.2.2.2.2.2.2.2.2.2.2.1 e9) ydJ13_min q1845 q740 q151 q741 rfl (Nat.le_of_ble_eq_true rfl) (Nat.le_of_ble_eq_true rfl) hl.1 rfl (Nat.le_of_ble_eq_true rfl) dX8_laysOn_62) (fun r109 h H locs cells slots hf hI => ?_)
        refine g_si0 X hI hf dX8_laysOn_65 (fun h H locs hf hI => ?_)
        exact b_X8_laysOn_66 X ih _ _ _ _ _ _ _ _ hf hI (lv_sub hl [0, 1] rfl)
def f_X8_laysOn (a0 : Nat) (x1 : Int32) : gM Unit :=
    gB (gFR a0 7 1) fun v1 =>
    gB (f_X8_oneAt x1 (2 : Int32)) fun r2 =>
    gB (gAI v1 0 r2) fun v3 =>
    gB (gFI a0 7 29) fun v4 =>
    gB (gSI v1 0 r2 (v3 ||| v4)) fun _ =>
    f_X8_laysOn_19 gN a0 (0 : Int32)
set_option maxHeartbeats 4000000 in
set_option maxRecDepth 100000 in
theorem m_X8_laysOn {G : gG} {l : Launch} (hfl : l.stackTraces = false) {a0 : Nat} {x1 : Int32} {h h' : g_H} {r : Unit} (hf : (f_X8_laysOn a0 x1).1 h = some (r, h')) : gMet G l yX8_laysOn (Cond.code yX8_laysOn cX8_laysOn 3 none) 3 63 [.ref a0, .int x1] h (.inl (g_wU r)) h' := by
  refine g_head hfl ((f_X8_laysOn a0 x1).2 h r h' hf) (plainFor_of_name (by decide)) (Nat.le_of_ble_eq_true rfl) (fun p e s m below meth c H locs cells slots ls X hI hl9 => ?_)
  have hl : lv_has ls 3 [(0, .ref a0), (1, .int x1)] := hl9
  have hx := X.1
  have hb := X.2.1
  have hown := X.2.2.2.1
  have hts := X.2.2.2.2.1
  unfold f_X8_laysOn at hf
  refine lv_aload_n hx hb dX8_laysOn_0 rfl (lv_at hl 0 rfl) ?_
  refine g_fr X hI hf fX8_1 q1445 rfl rfl dX8_laysOn_1 (fun v1 hf => ?_)
  refine lv_iload_n hx hb dX8_laysOn_4 rfl (lv_at hl 1 rfl) ?_
  refine lv_iconst (v := (2 : Int32)) hx hb dX8_laysOn_5 (by decide) ?_
  refine g_cBI hI hf (fun v9 h9 e9 l9 l9' => g_rS (b := 0) X hI l9 l9' ⟨Nat.le_refl _, Nat.le_refl _⟩ (As := [.int x1, .int (2 : Int32)]) (m_X8_oneAt X.2.2.2.2.2.2.2.2.2.2.1 e9) ydX8_oneAt q1680 q1681 q131 q1682 rfl (Nat.le_of_ble_eq_true rfl) (Nat.le_of_ble_eq_true rfl) hl.1 rfl (Nat.le_of_ble_eq_true rfl) dX8_laysOn_6) (fun r2 h H locs cells slots hf hI => ?_)
  refine lv_dup2_11 hx hb dX8_laysOn_9 rfl rfl ?_
  refine g_ai0 X hI hf dX8_laysOn_10 (fun v3 hf => ?_)
  refine lv_aload_n hx hb dX8_laysOn_11 rfl (lv_at hl 0 rfl) ?_
  refine g_fi X hI hf fX8_29 q1473 rfl rfl dX8_laysOn_12 (fun v4 hf => ?_)
  refine lv_ior hx hb dX8_laysOn_15 ?_
  refine g_si0 X hI hf dX8_laysOn_16 (fun h H locs hf hI => ?_)
  refine lv_iconst (v := (0 : Int32)) hx hb dX8_laysOn_17 (by decide) ?_
  refine lv_istore_n (lv' := [(2, .int (0 : Int32)), (0, .ref a0), (1, .int x1)]) hx hb dX8_laysOn_18 rfl hl (by decide) rfl (fun ls hl => ?_)
  exact b_X8_laysOn_19 X gN _ _ _ _ _ _ _ _ hf hI (lv_sub hl [1, 0] rfl)
/-! X8_bringsBack -/
abbrev w_X8_bringsBack_2 (G : gG) (l : Launch) (p : Program) (e : Env) (s : State) (m : MethodId) (args : Array Value) (below : List Frame) (meth : Method) (c : Code) (h0 : g_H) (r : Unit) (h' : g_H) (k : Nat → Int32 → gM Unit) : Prop := ∀ (a0 : Nat) (x1 : Int32) (h : g_H) (H : Heap) (locs : List Loc) (cells slots : Nat) (ls : Array Slot), (k a0 x1).1 h = some (r, h') → gI G h0 h H locs cells slots → lv_has ls 2 [(0, .ref a0), (1, .int x1)] → W p l e (g_rm 1 20 h0 h') s m args below meth c H locs cells slots (gQ G below args s h0 h' (.inl (g_wU r))) (F0 m 2 ls [])
def f_X8_bringsBack_2 : Nat → Nat → Int32 → gM Unit
  | 0, _, _ => gFail
  | n + 1, a0, x1 =>
    gIf ((305 : Int32) ≤ x1)
    (gRet ())
    (gB (gFR a0 7 1) fun v101 =>
    gB (gFR a0 7 4) fun v102 =>
    gB (gAI v102 0 x1) fun v103 =>
    gB (gSI v101 0 x1 v103) fun _ =>
    f_X8_bringsBack_2 n a0 (x1 + (1 : Int32)))
set_option maxHeartbeats 4000000 in
set_option maxRecDepth 100000 in
theorem b_X8_bringsBack_2 {G : gG} {l : Launch} {p : Program} {e : Env} {s : State} {m : MethodId} {args : Array Value} {below : List Frame} {meth : Method} {c : Code} {h0 : g_H} {r : Unit} {h' : g_H} (X : gX G l yX8_bringsBack.cls cX8_bringsBack 2 none [] yX8_bringsBack.name p s m args meth c) : ∀ n : Nat, w_X8_bringsBack_2 G l p e s m args below meth c h0 r h' (f_X8_bringsBack_2 n) := by
  have hx := X.1
  have hb := X.2.1
  have hown := X.2.2.2.1
  have hts := X.2.2.2.2.1
  intro n
  induction n with
  | zero =>
    intro a0 x1 h H locs cells slots ls hf hI hl
    exact (gFail_f hf).elim
  | succ n ih =>
    intro a0 x1 h H locs cells slots ls hf hI hl
    rw [f_X8_bringsBack_2] at hf
    refine lv_iload_n hx hb dX8_bringsBack_2 rfl (lv_at hl 1 rfl) ?_
    refine lv_sipush (v := (305 : Int32)) hx hb dX8_bringsBack_3 (by decide) ?_
    refine lv_icmp_ge (tgt := 27) hx hb dX8_bringsBack_6 (by decide) (fun c6 => ?_) (fun c6 => ?_)
    · have hf := g_t c6 hf
      cases gRet_e hf
      exact g_retU X hI rfl dX8_bringsBack_27
    · have hf := g_f c6 hf
      refine lv_aload_n hx hb dX8_bringsBack_9 rfl (lv_at hl 0 rfl) ?_
      refine g_fr X hI hf fX8_1 q1445 rfl rfl dX8_bringsBack_10 (fun v101 hf => ?_)
      refine lv_iload_n hx hb dX8_bringsBack_13 rfl (lv_at hl 1 rfl) ?_
      refine lv_aload_n hx hb dX8_bringsBack_14 rfl (lv_at hl 0 rfl) ?_
      refine g_fr X hI hf fX8_4 q1448 rfl rfl dX8_bringsBack_15 (fun v102 hf => ?_)
      refine lv_iload_n hx hb dX8_bringsBack_18 rfl (lv_at hl 1 rfl) ?_
      refine g_ai0 X hI hf dX8_bringsBack_19 (fun v103 hf => ?_)
      refine g_si0 X hI hf dX8_bringsBack_20 (fun h H locs hf hI => ?_)
      refine lv_iinc (v := (x1 + (1 : Int32))) (lv' := [(1, .int (x1 + (1 : Int32))), (0, .ref a0)]) hx hb dX8_bringsBack_21 hl (k := 1) rfl rfl (by decide) rfl (fun ls hl => ?_)
      refine lv_goto (tgt := 2) hx hb dX8_bringsBack_24 (by decide) ?_
      exact ih _ _ _ _ _ _ _ _ hf hI (lv_sub hl [1, 0] rfl)
def f_X8_bringsBack (a0 : Nat) : gM Unit :=
    f_X8_bringsBack_2 gN a0 (0 : Int32)
set_option maxHeartbeats 4000000 in
set_option maxRecDepth 100000 in
theorem m_X8_bringsBack {G : gG} {l : Launch} (hfl : l.stackTraces = false) {a0 : Nat} {h h' : g_H} {r : Unit} (hf : (f_X8_bringsBack a0).1 h = some (r, h')) : gMet G l yX8_bringsBack (Cond.code yX8_bringsBack cX8_bringsBack 2 none) 1 20 [.ref a0] h (.inl (g_wU r)) h' := by
  refine g_head hfl ((f_X8_bringsBack a0).2 h r h' hf) (plainFor_of_name (by decide)) (Nat.le_of_ble_eq_true rfl) (fun p e s m below meth c H locs cells slots ls X hI hl9 => ?_)
  have hl : lv_has ls 2 [(0, .ref a0)] := hl9
  have hx := X.1
  have hb := X.2.1
  have hown := X.2.2.2.1
  have hts := X.2.2.2.2.1
  unfold f_X8_bringsBack at hf
  refine lv_iconst (v := (0 : Int32)) hx hb dX8_bringsBack_0 (by decide) ?_
  refine lv_istore_n (lv' := [(1, .int (0 : Int32)), (0, .ref a0)]) hx hb dX8_bringsBack_1 rfl hl (by decide) rfl (fun ls hl => ?_)
  exact b_X8_bringsBack_2 X gN _ _ _ _ _ _ _ _ hf hI (lv_sub hl [1, 0] rfl)
/-! X8_screamers -/
abbrev w_X8_screamers_55 (G : gG) (l : Launch) (p : Program) (e : Env) (s : State) (m : MethodId) (args : Array Value) (below : List Frame) (meth : Method) (c : Code) (h0 : g_H) (r : Int32) (h' : g_H) (k : Nat → Int32 → Int32 → Int32 → gM Int32) : Prop := ∀ (a0 : Nat) (x1 : Int32) (x2 : Int32) (x3 : Int32) (h : g_H) (H : Heap) (locs : List Loc) (cells slots : Nat) (ls : Array Slot), (k a0 x1 x2 x3).1 h = some (r, h') → gI G h0 h H locs cells slots → lv_has ls 4 [(0, .ref a0), (1, .int x1), (2, .int x2), (3, .int x3)] → W p l e (g_rm 11 249 h0 h') s m args below meth c H locs cells slots (gQ G below args s h0 h' (.inl (g_wI r))) (F0 m 55 ls [])
abbrev w_X8_screamers_44 (G : gG) (l : Launch) (p : Program) (e : Env) (s : State) (m : MethodId) (args : Array Value) (below : List Frame) (meth : Method) (c : Code) (h0 : g_H) (r : Int32) (h' : g_H) (k : Nat → Int32 → Int32 → Int32 → Int32 → gM Int32) : Prop := ∀ (a0 : Nat) (x1 : Int32) (x3 : Int32) (u0 : Int32) (u1 : Int32) (h : g_H) (H : Heap) (locs : List Loc) (cells slots : Nat) (ls : Array Slot), (k a0 x1 x3 u0 u1).1 h = some (r, h') → gI G h0 h H locs cells slots → lv_has ls 4 [(0, .ref a0), (1, .int x1), (3, .int x3)] → W p l e (g_rm 11 249 h0 h') s m args below meth c H locs cells slots (gQ G below args s h0 h' (.inl (g_wI r))) (F0 m 44 ls [.int u1, .int u0])
abbrev w_X8_screamers_61 (G : gG) (l : Launch) (p : Program) (e : Env) (s : State) (m : MethodId) (args : Array Value) (below : List Frame) (meth : Method) (c : Code) (h0 : g_H) (r : Int32) (h' : g_H) (k : Nat → Int32 → gM Int32) : Prop := ∀ (a0 : Nat) (x2 : Int32) (h : g_H) (H : Heap) (locs : List Loc) (cells slots : Nat) (ls : Array Slot), (k a0 x2).1 h = some (r, h') → gI G h0 h H locs cells slots → lv_has ls 4 [(0, .ref a0), (2, .int x2)] → W p l e (g_rm 11 249 h0 h') s m args below meth c H locs cells slots (gQ G below args s h0 h' (.inl (g_wI r))) (F0 m 61 ls [])
abbrev w_X8_screamers_8 (G : gG) (l : Launch) (p : Program) (e : Env) (s : State) (m : MethodId) (args : Array Value) (below : List Frame) (meth : Method) (c : Code) (h0 : g_H) (r : Int32) (h' : g_H) (k : Nat → Int32 → Int32 → Int32 → gM Int32) : Prop := ∀ (a0 : Nat) (x1 : Int32) (x2 : Int32) (x3 : Int32) (h : g_H) (H : Heap) (locs : List Loc) (cells slots : Nat) (ls : Array Slot), (k a0 x1 x2 x3).1 h = some (r, h') → gI G h0 h H locs cells slots → lv_has ls 4 [(0, .ref a0), (1, .int x1), (2, .int x2), (3, .int x3)] → W p l e (g_rm 11 249 h0 h') s m args below meth c H locs cells slots (gQ G below args s h0 h' (.inl (g_wI r))) (F0 m 8 ls [])
def f_X8_screamers_55 (k8 : Nat → Int32 → Int32 → Int32 → gM Int32) (a0 : Nat) (x1 : Int32) (x2 : Int32) (x3 : Int32) : gM Int32 :=
    k8 a0 x1 x2 (x3 + (1 : Int32))
set_option maxHeartbeats 4000000 in
set_option maxRecDepth 100000 in
theorem b_X8_screamers_55 {G : gG} {l : Launch} {p : Program} {e : Env} {s : State} {m : MethodId} {args : Array Value} {below : List Frame} {meth : Method} {c : Code} {h0 : g_H} {r : Int32} {h' : g_H} (X : gX G l yX8_screamers.cls cX8_screamers 4 (some .int) [] yX8_screamers.name p s m args meth c) {k8 : Nat → Int32 → Int32 → Int32 → gM Int32} (K8 : w_X8_screamers_8 G l p e s m args below meth c h0 r h' k8) : w_X8_screamers_55 G l p e s m args below meth c h0 r h' (f_X8_screamers_55 k8) := by
  have hx := X.1
  have hb := X.2.1
  have hown := X.2.2.2.1
  have hts := X.2.2.2.2.1
  intro a0 x1 x2 x3 h H locs cells slots ls hf hI hl
  unfold f_X8_screamers_55 at hf
  refine lv_iinc (v := (x3 + (1 : Int32))) (lv' := [(3, .int (x3 + (1 : Int32))), (0, .ref a0), (1, .int x1), (2, .int x2)]) hx hb dX8_screamers_55 hl (k := 3) rfl rfl (by decide) rfl (fun ls hl => ?_)
  refine lv_goto (tgt := 8) hx hb dX8_screamers_58 (by decide) ?_
  exact K8 _ _ _ _ _ _ _ _ _ _ hf hI (lv_sub hl [1, 2, 3, 0] rfl)
def f_X8_screamers_44 (k8 : Nat → Int32 → Int32 → Int32 → gM Int32) (a0 : Nat) (x1 : Int32) (x3 : Int32) (u0 : Int32) (u1 : Int32) : gM Int32 :=
    gIf (x1 = 0)
    (f_X8_screamers_55 k8 a0 x1 (u0 ||| u1) x3)
    (gB (gCk a0 7) fun _ =>
    gB (f_X8_laysOn a0 x3) fun _ =>
    f_X8_screamers_55 k8 a0 x1 (u0 ||| u1) x3)
set_option maxHeartbeats 4000000 in
set_option maxRecDepth 100000 in
theorem b_X8_screamers_44 {G : gG} {l : Launch} {p : Program} {e : Env} {s : State} {m : MethodId} {args : Array Value} {below : List Frame} {meth : Method} {c : Code} {h0 : g_H} {r : Int32} {h' : g_H} (X : gX G l yX8_screamers.cls cX8_screamers 4 (some .int) [] yX8_screamers.name p s m args meth c) {k8 : Nat → Int32 → Int32 → Int32 → gM Int32} (K8 : w_X8_screamers_8 G l p e s m args below meth c h0 r h' k8) : w_X8_screamers_44 G l p e s m args below meth c h0 r h' (f_X8_screamers_44 k8) := by
  have hx := X.1
  have hb := X.2.1
  have hown := X.2.2.2.1
  have hts := X.2.2.2.2.1
  intro a0 x1 x3 u0 u1 h H locs cells slots ls hf hI hl
  unfold f_X8_screamers_44 at hf
  refine lv_ior hx hb dX8_screamers_44 ?_
  refine lv_istore_n (lv' := [(2, .int (u0 ||| u1)), (0, .ref a0), (1, .int x1), (3, .int x3)]) hx hb dX8_screamers_45 rfl hl (by decide) rfl (fun ls hl => ?_)
  refine lv_iload_n hx hb dX8_screamers_46 rfl (lv_at hl 2 rfl) ?_
  refine lv_if_eq (tgt := 55) hx hb dX8_screamers_47 (by decide) (fun c47 => ?_) (fun c47 => ?_)
  · have hf := g_t c47 hf
    exact b_X8_screamers_55 X K8 _ _ _ _ _ _ _ _ _ _ hf hI (lv_sub hl [1, 2, 0, 3] rfl)
  · have hf := g_f c47 hf
    refine lv_aload_n hx hb dX8_screamers_50 rfl (lv_at hl 1 rfl) ?_
    refine lv_iload_n hx hb dX8_screamers_51 rfl (lv_at hl 3 rfl) ?_
    obtain ⟨hs, hf⟩ := gCk_b hf
    refine g_cBU hI hf (fun v9 h9 e9 l9 l9' => g_rV X hI l9 l9' ⟨Nat.le_refl _, Nat.le_refl _⟩ (As := [.int x3]) (m_X8_laysOn X.2.2.2.2.2.2.2.2.2.2.1 e9) ydX8_laysOn hs rfl rfl q1841 q1843 qs91 q131 q1844 rfl (Nat.le_of_ble_eq_true rfl) (Nat.le_of_ble_eq_true rfl) hl.1 rfl (Nat.le_of_ble_eq_true rfl) dX8_screamers_52) (fun r101 h H locs cells slots hf hI => ?_)
    exact b_X8_screamers_55 X K8 _ _ _ _ _ _ _ _ _ _ hf hI (lv_sub hl [1, 2, 0, 3] rfl)
def f_X8_screamers_61 (a0 : Nat) (x2 : Int32) : gM Int32 :=
    gB (gCk a0 7) fun _ =>
    gB (f_X8_bringsBack a0) fun _ =>
    (gRet x2)
set_option maxHeartbeats 4000000 in
set_option maxRecDepth 100000 in
theorem b_X8_screamers_61 {G : gG} {l : Launch} {p : Program} {e : Env} {s : State} {m : MethodId} {args : Array Value} {below : List Frame} {meth : Method} {c : Code} {h0 : g_H} {r : Int32} {h' : g_H} (X : gX G l yX8_screamers.cls cX8_screamers 4 (some .int) [] yX8_screamers.name p s m args meth c) : w_X8_screamers_61 G l p e s m args below meth c h0 r h' (f_X8_screamers_61) := by
  have hx := X.1
  have hb := X.2.1
  have hown := X.2.2.2.1
  have hts := X.2.2.2.2.1
  intro a0 x2 h H locs cells slots ls hf hI hl
  unfold f_X8_screamers_61 at hf
  refine lv_aload_n hx hb dX8_screamers_61 rfl (lv_at hl 0 rfl) ?_
  obtain ⟨hs, hf⟩ := gCk_b hf
  refine g_cBU hI hf (fun v9 h9 e9 l9 l9' => g_rV X hI l9 l9' ⟨Nat.le_refl _, Nat.le_refl _⟩ (As := []) (m_X8_bringsBack X.2.2.2.2.2.2.2.2.2.2.1 e9) ydX8_bringsBack hs rfl rfl q1914 q1916 qs97 q131 q1917 rfl (Nat.le_of_ble_eq_true rfl) (Nat.le_of_ble_eq_true rfl) hl.1 rfl (Nat.le_of_ble_eq_true rfl) dX8_screamers_62) (fun r101 h H locs cells slots hf hI => ?_)
  refine lv_iload_n hx hb dX8_screamers_65 rfl (lv_at hl 1 rfl) ?_
  cases gRet_e hf
  exact g_retI X hI rfl dX8_screamers_66
def f_X8_screamers_8 : Nat → Nat → Int32 → Int32 → Int32 → gM Int32
  | 0, _, _, _, _ => gFail
  | n + 1, a0, x1, x2, x3 =>
    gB (gCk a0 7) fun _ =>
    gB (f_X8_oneCount a0) fun r101 =>
    gIf (r101 ≤ x3)
    (f_X8_screamers_61 a0 x2)
    (gB (gCk a0 7) fun _ =>
    gB (f_X8_waits a0 x3) fun r102 =>
    gIf (r102 = 0)
    (f_X8_screamers_55 (f_X8_screamers_8 n) a0 x1 x2 x3)
    (gB (gCk a0 7) fun _ =>
    gB (f_X8_ridesStraight a0 x3) fun r103 =>
    gIf (r103 = (-1 : Int32))
    (f_X8_screamers_44 (f_X8_screamers_8 n) a0 x1 x3 x2 (0 : Int32))
    (f_X8_screamers_44 (f_X8_screamers_8 n) a0 x1 x3 x2 ((1 : Int32) <<< (x3 &&& 31)))))
set_option maxHeartbeats 4000000 in
set_option maxRecDepth 100000 in
theorem b_X8_screamers_8 {G : gG} {l : Launch} {p : Program} {e : Env} {s : State} {m : MethodId} {args : Array Value} {below : List Frame} {meth : Method} {c : Code} {h0 : g_H} {r : Int32} {h' : g_H} (X : gX G l yX8_screamers.cls cX8_screamers 4 (some .int) [] yX8_screamers.name p s m args meth c) : ∀ n : Nat, w_X8_screamers_8 G l p e s m args below meth c h0 r h' (f_X8_screamers_8 n) := by
  have hx := X.1
  have hb := X.2.1
  have hown := X.2.2.2.1
  have hts := X.2.2.2.2.1
  intro n
  induction n with
  | zero =>
    intro a0 x1 x2 x3 h H locs cells slots ls hf hI hl
    exact (gFail_f hf).elim
  | succ n ih =>
    intro a0 x1 x2 x3 h H locs cells slots ls hf hI hl
    rw [f_X8_screamers_8] at hf
    refine lv_iload_n hx hb dX8_screamers_8 rfl (lv_at hl 3 rfl) ?_
    refine lv_aload_n hx hb dX8_screamers_9 rfl (lv_at hl 0 rfl) ?_
    obtain ⟨hs, hf⟩ := gCk_b hf
    refine g_cBI hI hf (fun v9 h9 e9 l9 l9' => g_rV X hI l9 l9' ⟨Nat.le_refl _, Nat.le_refl _⟩ (As := []) (m_X8_oneCount X.2.2.2.2.2.2.2.2.2.2.1 e9) ydX8_oneCount hs rfl rfl q1673 q1675 qs61 q131 q1676 rfl (Nat.le_of_ble_eq_true rfl) (Nat.le_of_ble_eq_true rfl) hl.1 rfl (Nat.le_of_ble_eq_true rfl) dX8_screamers_10) (fun r101 h H locs cells slots hf hI => ?_)
    refine lv_icmp_ge (tgt := 61) hx hb dX8_screamers_13 (by decide) (fun c13 => ?_) (fun c13 => ?_)
    · have hf := g_t c13 hf
      exact b_X8_screamers_61 X _ _ _ _ _ _ _ _ hf hI (lv_sub hl [0, 2] rfl)
    · have hf := g_f c13 hf
      refine lv_aload_n hx hb dX8_screamers_16 rfl (lv_at hl 0 rfl) ?_
      refine lv_iload_n hx hb dX8_screamers_17 rfl (lv_at hl 3 rfl) ?_
      obtain ⟨hs, hf⟩ := gCk_b hf
      refine g_cBI hI hf (fun v9 h9 e9 l9 l9' => g_rV X hI l9 l9' ⟨Nat.le_refl _, Nat.le_refl _⟩ (As := [.int x3]) (m_X8_waits X.2.2.2.2.2.2.2.2.2.2.1 e9) ydX8_waits hs rfl rfl q1804 q1806 qs82 q131 q1807 rfl (Nat.le_of_ble_eq_true rfl) (Nat.le_of_ble_eq_true rfl) hl.1 rfl (Nat.le_of_ble_eq_true rfl) dX8_screamers_18) (fun r102 h H locs cells slots hf hI => ?_)
      refine lv_if_ne (tgt := 27) hx hb dX8_screamers_21 (by decide) (fun c21 => ?_) (fun c21 => ?_)
      · have hf := g_f c21 hf
        refine lv_iload_n hx hb dX8_screamers_27 rfl (lv_at hl 2 rfl) ?_
        refine lv_aload_n hx hb dX8_screamers_28 rfl (lv_at hl 0 rfl) ?_
        refine lv_iload_n hx hb dX8_screamers_29 rfl (lv_at hl 3 rfl) ?_
        obtain ⟨hs, hf⟩ := gCk_b hf
        refine g_cBI hI hf (fun v9 h9 e9 l9 l9' => g_rV X hI l9 l9' ⟨Nat.le_refl _, Nat.le_refl _⟩ (As := [.int x3]) (m_X8_ridesStraight X.2.2.2.2.2.2.2.2.2.2.1 e9) ydX8_ridesStraight hs rfl rfl q1886 q1888 qs94 q131 q1889 rfl (Nat.le_of_ble_eq_true rfl) (Nat.le_of_ble_eq_true rfl) hl.1 rfl (Nat.le_of_ble_eq_true rfl) dX8_screamers_30) (fun r103 h H locs cells slots hf hI => ?_)
        refine lv_iconst (v := (-1 : Int32)) hx hb dX8_screamers_33 (by decide) ?_
        refine lv_icmp_eq (tgt := 43) hx hb dX8_screamers_34 (by decide) (fun c34 => ?_) (fun c34 => ?_)
        · have hf := g_t c34 hf
          refine lv_iconst (v := (0 : Int32)) hx hb dX8_screamers_43 (by decide) ?_
          exact b_X8_screamers_44 X ih _ _ _ _ _ _ _ _ _ _ _ hf hI (lv_sub hl [0, 1, 3] rfl)
        · have hf := g_f c34 hf
          refine lv_iconst (v := (1 : Int32)) hx hb dX8_screamers_37 (by decide) ?_
          refine lv_iload_n hx hb dX8_screamers_38 rfl (lv_at hl 3 rfl) ?_
          refine lv_ishl hx hb dX8_screamers_39 ?_
          refine lv_goto (tgt := 44) hx hb dX8_screamers_40 (by decide) ?_
          exact b_X8_screamers_44 X ih _ _ _ _ _ _ _ _ _ _ _ hf hI (lv_sub hl [0, 1, 3] rfl)
      · have hf := g_t c21 hf
        refine lv_goto (tgt := 55) hx hb dX8_screamers_24 (by decide) ?_
        exact b_X8_screamers_55 X ih _ _ _ _ _ _ _ _ _ _ hf hI (lv_sub hl [0, 1, 2, 3] rfl)
def f_X8_screamers (a0 : Nat) (x1 : Int32) : gM Int32 :=
    gB (gCk a0 7) fun _ =>
    gB (f_X8_keepsAll a0) fun _ =>
    f_X8_screamers_8 gN a0 x1 (0 : Int32) (0 : Int32)
set_option maxHeartbeats 4000000 in
set_option maxRecDepth 100000 in
theorem m_X8_screamers {G : gG} {l : Launch} (hfl : l.stackTraces = false) {a0 : Nat} {x1 : Int32} {h h' : g_H} {r : Int32} (hf : (f_X8_screamers a0 x1).1 h = some (r, h')) : gMet G l yX8_screamers (Cond.code yX8_screamers cX8_screamers 4 (some .int)) 11 249 [.ref a0, .int x1] h (.inl (g_wI r)) h' := by
  refine g_head hfl ((f_X8_screamers a0 x1).2 h r h' hf) (plainFor_of_name (by decide)) (Nat.le_of_ble_eq_true rfl) (fun p e s m below meth c H locs cells slots ls X hI hl9 => ?_)
  have hl : lv_has ls 4 [(0, .ref a0), (1, .int x1)] := hl9
  have hx := X.1
  have hb := X.2.1
  have hown := X.2.2.2.1
  have hts := X.2.2.2.2.1
  unfold f_X8_screamers at hf
  refine lv_iconst (v := (0 : Int32)) hx hb dX8_screamers_0 (by decide) ?_
  refine lv_istore_n (lv' := [(2, .int (0 : Int32)), (0, .ref a0), (1, .int x1)]) hx hb dX8_screamers_1 rfl hl (by decide) rfl (fun ls hl => ?_)
  refine lv_aload_n hx hb dX8_screamers_2 rfl (lv_at hl 1 rfl) ?_
  obtain ⟨hs, hf⟩ := gCk_b hf
  refine g_cBU hI hf (fun v9 h9 e9 l9 l9' => g_rV X hI l9 l9' ⟨Nat.le_refl _, Nat.le_refl _⟩ (As := []) (m_X8_keepsAll X.2.2.2.2.2.2.2.2.2.2.1 e9) ydX8_keepsAll hs rfl rfl q1910 q1912 qs96 q131 q1913 rfl (Nat.le_of_ble_eq_true rfl) (Nat.le_of_ble_eq_true rfl) hl.1 rfl (Nat.le_of_ble_eq_true rfl) dX8_screamers_3) (fun r1 h H locs cells slots hf hI => ?_)
  refine lv_iconst (v := (0 : Int32)) hx hb dX8_screamers_6 (by decide) ?_
  refine lv_istore_n (lv' := [(3, .int (0 : Int32)), (2, .int (0 : Int32)), (0, .ref a0), (1, .int x1)]) hx hb dX8_screamers_7 rfl hl (by decide) rfl (fun ls hl => ?_)
  exact b_X8_screamers_8 X gN _ _ _ _ _ _ _ _ _ _ hf hI (lv_sub hl [2, 3, 1, 0] rfl)
/-! X8_all -/
def f_X8_all (a0 : Nat) (x1 : Int32) : gM Int32 :=
    gB (gPI a0 7 0 (0 : Int32)) fun _ =>
    gB (gCk a0 7) fun _ =>
    gB (f_X8_screamers a0 x1) fun r1 =>
    (gRet r1)
set_option maxHeartbeats 4000000 in
set_option maxRecDepth 100000 in
theorem m_X8_all {G : gG} {l : Launch} (hfl : l.stackTraces = false) {a0 : Nat} {x1 : Int32} {h h' : g_H} {r : Int32} (hf : (f_X8_all a0 x1).1 h = some (r, h')) : gMet G l yX8_all (Cond.code yX8_all cX8_all 2 (some .int)) 12 272 [.ref a0, .int x1] h (.inl (g_wI r)) h' := by
  refine g_head hfl ((f_X8_all a0 x1).2 h r h' hf) (plainFor_of_name (by decide)) (Nat.le_of_ble_eq_true rfl) (fun p e s m below meth c H locs cells slots ls X hI hl9 => ?_)
  have hl : lv_has ls 2 [(0, .ref a0), (1, .int x1)] := hl9
  have hx := X.1
  have hb := X.2.1
  have hown := X.2.2.2.1
  have hts := X.2.2.2.2.1
  unfold f_X8_all at hf
  refine lv_aload_n hx hb dX8_all_0 rfl (lv_at hl 0 rfl) ?_
  refine lv_iconst (v := (0 : Int32)) hx hb dX8_all_1 (by decide) ?_
  refine g_pi X hI hf fX8_0 q1444 rfl dX8_all_2 (fun h H locs hf hI => ?_)
  refine lv_aload_n hx hb dX8_all_5 rfl (lv_at hl 0 rfl) ?_
  refine lv_iload_n hx hb dX8_all_6 rfl (lv_at hl 1 rfl) ?_
  obtain ⟨hs, hf⟩ := gCk_b hf
  refine g_cBI hI hf (fun v9 h9 e9 l9 l9' => g_rV X hI l9 l9' ⟨Nat.le_refl _, Nat.le_refl _⟩ (As := [.int x1]) (m_X8_screamers X.2.2.2.2.2.2.2.2.2.2.1 e9) ydX8_screamers hs rfl rfl q1906 q1908 qs95 q131 q1909 rfl (Nat.le_of_ble_eq_true rfl) (Nat.le_of_ble_eq_true rfl) hl.1 rfl (Nat.le_of_ble_eq_true rfl) dX8_all_7) (fun r1 h H locs cells slots hf hI => ?_)
  cases gRet_e hf
  exact g_retI X hI rfl dX8_all_10
/-! X1_lasts -/
abbrev w_X1_lasts_63 (G : gG) (l : Launch) (p : Program) (e : Env) (s : State) (m : MethodId) (args : Array Value) (below : List Frame) (meth : Method) (c : Code) (h0 : g_H) (r : (Int32 ⊕ gE)) (h' : g_H) (k : Nat → Int32 → Nat → Int32 → Int32 → gM (Int32 ⊕ gE)) : Prop := ∀ (a0 : Nat) (x1 : Int32) (a3 : Nat) (x4 : Int32) (x5 : Int32) (h : g_H) (H : Heap) (locs : List Loc) (cells slots : Nat) (ls : Array Slot), (k a0 x1 a3 x4 x5).1 h = some (r, h') → gI G h0 h H locs cells slots → lv_has ls 6 [(0, .ref a0), (1, .int x1), (3, .ref a3), (4, .int x4), (5, .int x5)] → W p l e (g_rm 102 1892 h0 h') s m args below meth c H locs cells slots (gQ G below args s h0 h' (g_w g_wI r)) (F0 m 63 ls [])
abbrev w_X1_lasts_92 (G : gG) (l : Launch) (p : Program) (e : Env) (s : State) (m : MethodId) (args : Array Value) (below : List Frame) (meth : Method) (c : Code) (h0 : g_H) (r : (Int32 ⊕ gE)) (h' : g_H) (k : Nat → Int32 → gM (Int32 ⊕ gE)) : Prop := ∀ (a0 : Nat) (x4 : Int32) (h : g_H) (H : Heap) (locs : List Loc) (cells slots : Nat) (ls : Array Slot), (k a0 x4).1 h = some (r, h') → gI G h0 h H locs cells slots → lv_has ls 6 [(0, .ref a0), (4, .int x4)] → W p l e (g_rm 102 1892 h0 h') s m args below meth c H locs cells slots (gQ G below args s h0 h' (g_w g_wI r)) (F0 m 92 ls [])
abbrev w_X1_lasts_29 (G : gG) (l : Launch) (p : Program) (e : Env) (s : State) (m : MethodId) (args : Array Value) (below : List Frame) (meth : Method) (c : Code) (h0 : g_H) (r : (Int32 ⊕ gE)) (h' : g_H) (k : Nat → Int32 → Nat → Int32 → Int32 → gM (Int32 ⊕ gE)) : Prop := ∀ (a0 : Nat) (x1 : Int32) (a3 : Nat) (x4 : Int32) (x5 : Int32) (h : g_H) (H : Heap) (locs : List Loc) (cells slots : Nat) (ls : Array Slot), (k a0 x1 a3 x4 x5).1 h = some (r, h') → gI G h0 h H locs cells slots → lv_has ls 6 [(0, .ref a0), (1, .int x1), (3, .ref a3), (4, .int x4), (5, .int x5)] → W p l e (g_rm 102 1892 h0 h') s m args below meth c H locs cells slots (gQ G below args s h0 h' (g_w g_wI r)) (F0 m 29 ls [])
def f_X1_lasts_63 (k29 : Nat → Int32 → Nat → Int32 → Int32 → gM (Int32 ⊕ gE)) (a0 : Nat) (x1 : Int32) (a3 : Nat) (x4 : Int32) (x5 : Int32) : gM (Int32 ⊕ gE) :=
    gB (gCk a0 0) fun _ =>
    gB (f_X1_rides a0 a3 (0 : Int32)) fun _ =>
    gB (gCk a0 0) fun _ =>
    gB (f_X1_wearsOut a0) fun _ =>
    gB (gFI a3 4 2) fun v103 =>
    gB (gFI a0 0 16) fun v104 =>
    gB (gPI a3 4 2 (v103 ||| v104)) fun _ =>
    k29 a0 x1 a3 x4 (x5 + (1 : Int32))
set_option maxHeartbeats 4000000 in
set_option maxRecDepth 100000 in
theorem b_X1_lasts_63 {G : gG} {l : Launch} {p : Program} {e : Env} {s : State} {m : MethodId} {args : Array Value} {below : List Frame} {meth : Method} {c : Code} {h0 : g_H} {r : (Int32 ⊕ gE)} {h' : g_H} (X : gX G l yX1_lasts.cls cX1_lasts 6 (some .int) [] yX1_lasts.name p s m args meth c) {k29 : Nat → Int32 → Nat → Int32 → Int32 → gM (Int32 ⊕ gE)} (K29 : w_X1_lasts_29 G l p e s m args below meth c h0 r h' k29) : w_X1_lasts_63 G l p e s m args below meth c h0 r h' (f_X1_lasts_63 k29) := by
  have hx := X.1
  have hb := X.2.1
  have hown := X.2.2.2.1
  have hts := X.2.2.2.2.1
  intro a0 x1 a3 x4 x5 h H locs cells slots ls hf hI hl
  unfold f_X1_lasts_63 at hf
  refine lv_aload_n hx hb dX1_lasts_63 rfl (lv_at hl 0 rfl) ?_
  refine lv_aload_n hx hb dX1_lasts_64 rfl (lv_at hl 2 rfl) ?_
  refine lv_iconst (v := (0 : Int32)) hx hb dX1_lasts_65 (by decide) ?_
  obtain ⟨hs, hf⟩ := gCk_b hf
  refine g_cBU hI hf (fun v9 h9 e9 l9 l9' => g_rV X hI l9 l9' ⟨Nat.le_refl _, Nat.le_refl _⟩ (As := [.ref a3, .int (0 : Int32)]) (m_X1_rides X.2.2.2.2.2.2.2.2.2.2.1 e9) ydX1_rides hs rfl rfl q693 q695 qs9 q121 q696 rfl (Nat.le_of_ble_eq_true rfl) (Nat.le_of_ble_eq_true rfl) hl.1 rfl (Nat.le_of_ble_eq_true rfl) dX1_lasts_66) (fun r101 h H locs cells slots hf hI => ?_)
  refine lv_aload_n hx hb dX1_lasts_69 rfl (lv_at hl 0 rfl) ?_
  obtain ⟨hs, hf⟩ := gCk_b hf
  refine g_cBU hI hf (fun v9 h9 e9 l9 l9' => g_rV X hI l9 l9' ⟨Nat.le_refl _, Nat.le_refl _⟩ (As := []) (m_X1_wearsOut X.2.2.2.2.2.2.2.2.2.2.1 e9) ydX1_wearsOut hs rfl rfl q735 q737 qs11 q121 q738 rfl (Nat.le_of_ble_eq_true rfl) (Nat.le_of_ble_eq_true rfl) hl.1 rfl (Nat.le_of_ble_eq_true rfl) dX1_lasts_70) (fun r102 h H locs cells slots hf hI => ?_)
  refine lv_aload_n hx hb dX1_lasts_73 rfl (lv_at hl 2 rfl) ?_
  refine lv_dup hx hb dX1_lasts_74 rfl ?_
  refine g_fiN X hI hf fX5_2 q239 rfl rfl dX1_lasts_75 (fun v103 hf => ?_)
  refine lv_aload_n hx hb dX1_lasts_78 rfl (lv_at hl 0 rfl) ?_
  refine g_fi X hI hf fX1_16 q477 rfl rfl dX1_lasts_79 (fun v104 hf => ?_)
  refine lv_ior hx hb dX1_lasts_82 ?_
  refine g_piN X hI hf fX5_2 q239 rfl dX1_lasts_83 (fun h H locs hf hI => ?_)
  refine lv_iinc (v := (x5 + (1 : Int32))) (lv' := [(5, .int (x5 + (1 : Int32))), (0, .ref a0), (1, .int x1), (3, .ref a3), (4, .int x4)]) hx hb dX1_lasts_86 hl (k := 4) rfl rfl (by decide) rfl (fun ls hl => ?_)
  refine lv_goto (tgt := 29) hx hb dX1_lasts_89 (by decide) ?_
  exact K29 _ _ _ _ _ _ _ _ _ _ _ hf hI (lv_sub hl [1, 2, 3, 4, 0] rfl)
def f_X1_lasts_92 (a0 : Nat) (x4 : Int32) : gM (Int32 ⊕ gE) :=
    gB (gFR a0 0 1) fun v101 =>
    gB (gFR a0 0 3) fun v102 =>
    gB (gCk v101 2) fun _ =>
    gB (f_X3_be v101 v102) fun _ =>
    (gRet (.inl x4))
set_option maxHeartbeats 4000000 in
set_option maxRecDepth 100000 in
theorem b_X1_lasts_92 {G : gG} {l : Launch} {p : Program} {e : Env} {s : State} {m : MethodId} {args : Array Value} {below : List Frame} {meth : Method} {c : Code} {h0 : g_H} {r : (Int32 ⊕ gE)} {h' : g_H} (X : gX G l yX1_lasts.cls cX1_lasts 6 (some .int) [] yX1_lasts.name p s m args meth c) : w_X1_lasts_92 G l p e s m args below meth c h0 r h' (f_X1_lasts_92) := by
  have hx := X.1
  have hb := X.2.1
  have hown := X.2.2.2.1
  have hts := X.2.2.2.2.1
  intro a0 x4 h H locs cells slots ls hf hI hl
  unfold f_X1_lasts_92 at hf
  refine lv_aload_n hx hb dX1_lasts_92 rfl (lv_at hl 0 rfl) ?_
  refine g_fr X hI hf fX1_1 q461 rfl rfl dX1_lasts_93 (fun v101 hf => ?_)
  refine lv_aload_n hx hb dX1_lasts_96 rfl (lv_at hl 0 rfl) ?_
  refine g_fr X hI hf fX1_3 q464 rfl rfl dX1_lasts_97 (fun v102 hf => ?_)
  obtain ⟨hs, hf⟩ := gCk_b hf
  refine g_cBU hI hf (fun v9 h9 e9 l9 l9' => g_rV X hI l9 l9' ⟨Nat.le_refl _, Nat.le_refl _⟩ (As := [.ref v102]) (m_X3_be X.2.2.2.2.2.2.2.2.2.2.1 e9) ydX3_be hs rfl rfl q672 q673 q674 q123 q675 rfl (Nat.le_of_ble_eq_true rfl) (Nat.le_of_ble_eq_true rfl) hl.1 rfl (Nat.le_of_ble_eq_true rfl) dX1_lasts_100) (fun r103 h H locs cells slots hf hI => ?_)
  refine lv_iload hx hb dX1_lasts_103 (lv_at hl 1 rfl) ?_
  cases gRet_e hf
  exact g_retI X hI rfl dX1_lasts_105
def f_X1_lasts_29 : Nat → Nat → Int32 → Nat → Int32 → Int32 → gM (Int32 ⊕ gE)
  | 0, _, _, _, _, _ => gFail
  | n + 1, a0, x1, a3, x4, x5 =>
    gIf ((60 : Int32) < x5)
    (f_X1_lasts_92 a0 x4)
    (gIf (x4 = (-1 : Int32))
    (gB (gFR a0 0 1) fun v101 =>
    gB (gFR v101 2 0) fun v102 =>
    gB (gAR v102 4 x1) fun v103 =>
    gB (gFI v103 3 2) fun v104 =>
    gIf (v104 < (50 : Int32))
    (f_X1_lasts_63 (f_X1_lasts_29 n) a0 x1 a3 x4 x5)
    (f_X1_lasts_63 (f_X1_lasts_29 n) a0 x1 a3 x5 x5))
    (f_X1_lasts_92 a0 x4))
set_option maxHeartbeats 4000000 in
set_option maxRecDepth 100000 in
theorem b_X1_lasts_29 {G : gG} {l : Launch} {p : Program} {e : Env} {s : State} {m : MethodId} {args : Array Value} {below : List Frame} {meth : Method} {c : Code} {h0 : g_H} {r : (Int32 ⊕ gE)} {h' : g_H} (X : gX G l yX1_lasts.cls cX1_lasts 6 (some .int) [] yX1_lasts.name p s m args meth c) : ∀ n : Nat, w_X1_lasts_29 G l p e s m args below meth c h0 r h' (f_X1_lasts_29 n) := by
  have hx := X.1
  have hb := X.2.1
  have hown := X.2.2.2.1
  have hts := X.2.2.2.2.1
  intro n
  induction n with
  | zero =>
    intro a0 x1 a3 x4 x5 h H locs cells slots ls hf hI hl
    exact (gFail_f hf).elim
  | succ n ih =>
    intro a0 x1 a3 x4 x5 h H locs cells slots ls hf hI hl
    rw [f_X1_lasts_29] at hf
    refine lv_iload hx hb dX1_lasts_29 (lv_at hl 4 rfl) ?_
    refine lv_bipush (v := (60 : Int32)) hx hb dX1_lasts_31 (by decide) ?_
    refine lv_icmp_gt (tgt := 92) hx hb dX1_lasts_33 (by decide) (fun c33 => ?_) (fun c33 => ?_)
    · have hf := g_t c33 hf
      exact b_X1_lasts_92 X _ _ _ _ _ _ _ _ hf hI (lv_sub hl [0, 3] rfl)
    · have hf := g_f c33 hf
      refine lv_iload hx hb dX1_lasts_36 (lv_at hl 3 rfl) ?_
      refine lv_iconst (v := (-1 : Int32)) hx hb dX1_lasts_38 (by decide) ?_
      refine lv_icmp_ne (tgt := 92) hx hb dX1_lasts_39 (by decide) (fun c39 => ?_) (fun c39 => ?_)
      · have hf := g_f c39 hf
        exact b_X1_lasts_92 X _ _ _ _ _ _ _ _ hf hI (lv_sub hl [0, 3] rfl)
      · have hf := g_t c39 hf
        refine lv_aload_n hx hb dX1_lasts_42 rfl (lv_at hl 0 rfl) ?_
        refine g_fr X hI hf fX1_1 q461 rfl rfl dX1_lasts_43 (fun v101 hf => ?_)
        refine g_frN X hI hf fX3_0 q254 rfl rfl dX1_lasts_46 (fun v102 hf => ?_)
        refine lv_iload_n hx hb dX1_lasts_49 rfl (lv_at hl 1 rfl) ?_
        refine g_ar4 X hI hf dX1_lasts_50 (fun v103 hf => ?_)
        refine g_fiN X hI hf fX4_2 q206 rfl rfl dX1_lasts_51 (fun v104 hf => ?_)
        refine lv_bipush (v := (50 : Int32)) hx hb dX1_lasts_54 (by decide) ?_
        refine lv_icmp_lt (tgt := 63) hx hb dX1_lasts_56 (by decide) (fun c56 => ?_) (fun c56 => ?_)
        · have hf := g_t c56 hf
          exact b_X1_lasts_63 X ih _ _ _ _ _ _ _ _ _ _ _ hf hI (lv_sub hl [0, 1, 2, 3, 4] rfl)
        · have hf := g_f c56 hf
          refine lv_iload hx hb dX1_lasts_59 (lv_at hl 4 rfl) ?_
          refine lv_istore (lv' := [(4, .int x5), (0, .ref a0), (1, .int x1), (3, .ref a3), (5, .int x5)]) hx hb dX1_lasts_61 hl (by decide) rfl (fun ls hl => ?_)
          exact b_X1_lasts_63 X ih _ _ _ _ _ _ _ _ _ _ _ hf hI (lv_sub hl [1, 2, 3, 0, 4] rfl)
def f_X1_lasts (a0 : Nat) (x1 : Int32) (x2 : Int32) : gM (Int32 ⊕ gE) :=
    gB (gCk a0 0) fun _ =>
    gT (f_X1_propAt a0 x1) fun r1 =>
    gB (gCk a0 0) fun _ =>
    gT (f_X1_oneAt a0 x2) fun r2 =>
    gB (gFR a0 0 3) fun v3 =>
    gB (gFR a0 0 1) fun v4 =>
    gB (gCk v3 2) fun _ =>
    gB (f_X3_be v3 v4) fun _ =>
    f_X1_lasts_29 gN a0 x1 r2 (-1 : Int32) (0 : Int32)
set_option maxHeartbeats 4000000 in
set_option maxRecDepth 100000 in
theorem m_X1_lasts {G : gG} {l : Launch} (hfl : l.stackTraces = false) {a0 : Nat} {x1 : Int32} {x2 : Int32} {h h' : g_H} {r : (Int32 ⊕ gE)} (hf : (f_X1_lasts a0 x1 x2).1 h = some (r, h')) : gMet G l yX1_lasts (Cond.code yX1_lasts cX1_lasts 6 (some .int)) 102 1892 [.ref a0, .int x1, .int x2] h (g_w g_wI r) h' := by
  refine g_head hfl ((f_X1_lasts a0 x1 x2).2 h r h' hf) (plainFor_of_name (by decide)) (Nat.le_of_ble_eq_true rfl) (fun p e s m below meth c H locs cells slots ls X hI hl9 => ?_)
  have hl : lv_has ls 6 [(0, .ref a0), (1, .int x1), (2, .int x2)] := hl9
  have hx := X.1
  have hb := X.2.1
  have hown := X.2.2.2.1
  have hts := X.2.2.2.2.1
  unfold f_X1_lasts at hf
  refine lv_aload_n hx hb dX1_lasts_0 rfl (lv_at hl 0 rfl) ?_
  refine lv_iload_n hx hb dX1_lasts_1 rfl (lv_at hl 1 rfl) ?_
  obtain ⟨hs, hf⟩ := gCk_b hf
  refine g_cTR X hI (by decide) hf (fun v9 h9 e9 l9 l9' => g_rV X hI l9 l9' ⟨Nat.le_refl _, Nat.le_refl _⟩ (As := [.int x1]) (m_X1_propAt X.2.2.2.2.2.2.2.2.2.2.1 e9) ydX1_propAt hs rfl rfl q1135 q1137 qs36 q121 q1138 rfl (Nat.le_of_ble_eq_true rfl) (Nat.le_of_ble_eq_true rfl) hl.1 rfl (Nat.le_of_ble_eq_true rfl) dX1_lasts_2) (fun r1 h H locs cells slots hf hI => ?_)
  refine lv_pop hx hb dX1_lasts_5 rfl ?_
  refine lv_aload_n hx hb dX1_lasts_6 rfl (lv_at hl 0 rfl) ?_
  refine lv_iload_n hx hb dX1_lasts_7 rfl (lv_at hl 2 rfl) ?_
  obtain ⟨hs, hf⟩ := gCk_b hf
  refine g_cTR X hI (by decide) hf (fun v9 h9 e9 l9 l9' => g_rV X hI l9 l9' ⟨Nat.le_refl _, Nat.le_refl _⟩ (As := [.int x2]) (m_X1_oneAt X.2.2.2.2.2.2.2.2.2.2.1 e9) ydX1_oneAt hs rfl rfl q1189 q1191 qs37 q121 q1192 rfl (Nat.le_of_ble_eq_true rfl) (Nat.le_of_ble_eq_true rfl) hl.1 rfl (Nat.le_of_ble_eq_true rfl) dX1_lasts_8) (fun r2 h H locs cells slots hf hI => ?_)
  refine lv_astore_n (lv' := [(3, .ref r2), (0, .ref a0), (1, .int x1), (2, .int x2)]) hx hb dX1_lasts_11 rfl hl (by decide) rfl (fun ls hl => ?_)
  refine lv_aload_n hx hb dX1_lasts_12 rfl (lv_at hl 1 rfl) ?_
  refine g_fr X hI hf fX1_3 q464 rfl rfl dX1_lasts_13 (fun v3 hf => ?_)
  refine lv_aload_n hx hb dX1_lasts_16 rfl (lv_at hl 1 rfl) ?_
  refine g_fr X hI hf fX1_1 q461 rfl rfl dX1_lasts_17 (fun v4 hf => ?_)
  obtain ⟨hs, hf⟩ := gCk_b hf
  refine g_cBU hI hf (fun v9 h9 e9 l9 l9' => g_rV X hI l9 l9' ⟨Nat.le_refl _, Nat.le_refl _⟩ (As := [.ref v4]) (m_X3_be X.2.2.2.2.2.2.2.2.2.2.1 e9) ydX3_be hs rfl rfl q672 q673 q674 q123 q675 rfl (Nat.le_of_ble_eq_true rfl) (Nat.le_of_ble_eq_true rfl) hl.1 rfl (Nat.le_of_ble_eq_true rfl) dX1_lasts_20) (fun r5 h H locs cells slots hf hI => ?_)
  refine lv_iconst (v := (-1 : Int32)) hx hb dX1_lasts_23 (by decide) ?_
  refine lv_istore (lv' := [(4, .int (-1 : Int32)), (3, .ref r2), (0, .ref a0), (1, .int x1), (2, .int x2)]) hx hb dX1_lasts_24 hl (by decide) rfl (fun ls hl => ?_)
  refine lv_iconst (v := (0 : Int32)) hx hb dX1_lasts_26 (by decide) ?_
  refine lv_istore (lv' := [(5, .int (0 : Int32)), (4, .int (-1 : Int32)), (3, .ref r2), (0, .ref a0), (1, .int x1), (2, .int x2)]) hx hb dX1_lasts_27 hl (by decide) rfl (fun ls hl => ?_)
  exact b_X1_lasts_29 X gN _ _ _ _ _ _ _ _ _ _ _ hf hI (lv_sub hl [3, 4, 2, 1, 0] rfl)
/-! X0_lasts -/
def f_X0_lasts (a0 : Nat) (x1 : Int32) (x2 : Int32) (a3 : Nat) : gM Int32 :=
    gB (gCk a0 0) fun _ =>
    gB (f_X1_lasts a0 x1 x2) fun r9 => match r9 with
    | .inl r1 => (gB (gSI a3 2 (0 : Int32) (r1)) fun _ =>
    (gRet (0 : Int32)))
    | .inr x9 => (gIf (x9.1 = 19)
    ((gRet (1 : Int32)))
    (gFail))
set_option maxHeartbeats 4000000 in
set_option maxRecDepth 100000 in
theorem m_X0_lasts {G : gG} {l : Launch} (hfl : l.stackTraces = false) {a0 : Nat} {x1 : Int32} {x2 : Int32} {a3 : Nat} {h h' : g_H} {r : Int32} (hf : (f_X0_lasts a0 x1 x2 a3).1 h = some (r, h')) : gMet G l yX0_lasts (Cond.codeWith yX0_lasts cX0_lasts 5 (some .int) [(0, 10, 13, 24)]) 103 1917 [.ref a0, .int x1, .int x2, .ref a3] h (.inl (g_wI r)) h' := by
  refine g_headW hfl ((f_X0_lasts a0 x1 x2 a3).2 h r h' hf) (plainFor_of_name (by decide)) (Nat.le_of_ble_eq_true rfl) (fun p e s m below meth c H locs cells slots ls X hI hl9 => ?_)
  have hl : lv_has ls 5 [(0, .ref a0), (1, .int x1), (2, .int x2), (3, .ref a3)] := hl9
  have hx := X.1
  have hb := X.2.1
  have hown := X.2.2.2.1
  have hts := X.2.2.2.2.1
  unfold f_X0_lasts at hf
  refine lv_aload_n hx hb dX0_lasts_0 rfl (lv_at hl 3 rfl) ?_
  refine lv_iconst (v := (0 : Int32)) hx hb dX0_lasts_1 (by decide) ?_
  refine lv_aload_n hx hb dX0_lasts_2 rfl (lv_at hl 0 rfl) ?_
  refine lv_iload_n hx hb dX0_lasts_3 rfl (lv_at hl 1 rfl) ?_
  refine lv_iload_n hx hb dX0_lasts_4 rfl (lv_at hl 2 rfl) ?_
  obtain ⟨hs, hf⟩ := gCk_b hf
  refine g_cHI hI hf (fun v9 h9 e9 l9 l9' => g_rV X hI l9 l9' ⟨Nat.le_refl _, Nat.le_refl _⟩ (As := [.int x1, .int x2]) (m_X1_lasts X.2.2.2.2.2.2.2.2.2.2.1 e9) ydX1_lasts hs rfl rfl q1378 q1379 q1380 q121 q1381 rfl (Nat.le_of_ble_eq_true rfl) (Nat.le_of_ble_eq_true rfl) hl.1 rfl (Nat.le_of_ble_eq_true rfl) dX0_lasts_5) (fun r1 h H locs cells slots hf hI => ?_) ?_
  · refine lv_i2l hx hb dX0_lasts_8 rfl ?_
    refine g_si2 X hI hf dX0_lasts_9 (fun h H locs hf hI => ?_)
    refine lv_goto (tgt := 17) hx hb dX0_lasts_10 (by decide) ?_
    refine lv_iconst (v := (0 : Int32)) hx hb dX0_lasts_17 (by decide) ?_
    cases gRet_e hf
    exact g_retI X hI rfl dX0_lasts_18
  · intro ci9 x9 h H locs cells slots r9 ce9 hf hr9 hI hce hcv hcl
    by_cases k0 : ci9 = 19
    · subst k0
      cases hr9
      have hf := g_t rfl hf
      refine g_catch0 X hI (name := "java/lang/IndexOutOfBoundsException") rfl (by rfl) (by decide) (by decide) q1098 q1144 hce hcv hcl ?_
      refine lv_astore (lv' := [(4, .ref x9), (0, .ref a0), (1, .int x1), (2, .int x2), (3, .ref a3)]) hx hb dX0_lasts_13 hl (by decide) rfl (fun ls hl => ?_)
      refine lv_iconst (v := (1 : Int32)) hx hb dX0_lasts_15 (by decide) ?_
      cases gRet_e hf
      exact g_retI X hI rfl dX0_lasts_16
    have hf := g_f k0 hf
    exact (gFail_f hf).elim
/-! X8_lasts -/
abbrev w_X8_lasts_74 (G : gG) (l : Launch) (p : Program) (e : Env) (s : State) (m : MethodId) (args : Array Value) (below : List Frame) (meth : Method) (c : Code) (h0 : g_H) (r : Int32) (h' : g_H) (k : Nat → Int32 → Int32 → Int32 → Int32 → gM Int32) : Prop := ∀ (a0 : Nat) (x1 : Int32) (x2 : Int32) (x4 : Int32) (u0 : Int32) (h : g_H) (H : Heap) (locs : List Loc) (cells slots : Nat) (ls : Array Slot), (k a0 x1 x2 x4 u0).1 h = some (r, h') → gI G h0 h H locs cells slots → lv_has ls 5 [(0, .ref a0), (1, .int x1), (2, .int x2), (4, .int x4)] → W p l e (g_rm 11 249 h0 h') s m args below meth c H locs cells slots (gQ G below args s h0 h' (.inl (g_wI r))) (F0 m 74 ls [.int u0])
abbrev w_X8_lasts_92 (G : gG) (l : Launch) (p : Program) (e : Env) (s : State) (m : MethodId) (args : Array Value) (below : List Frame) (meth : Method) (c : Code) (h0 : g_H) (r : Int32) (h' : g_H) (k : Nat → Int32 → gM Int32) : Prop := ∀ (a0 : Nat) (x3 : Int32) (h : g_H) (H : Heap) (locs : List Loc) (cells slots : Nat) (ls : Array Slot), (k a0 x3).1 h = some (r, h') → gI G h0 h H locs cells slots → lv_has ls 5 [(0, .ref a0), (3, .int x3)] → W p l e (g_rm 11 249 h0 h') s m args below meth c H locs cells slots (gQ G below args s h0 h' (.inl (g_wI r))) (F0 m 92 ls [])
abbrev w_X8_lasts_45 (G : gG) (l : Launch) (p : Program) (e : Env) (s : State) (m : MethodId) (args : Array Value) (below : List Frame) (meth : Method) (c : Code) (h0 : g_H) (r : Int32) (h' : g_H) (k : Nat → Int32 → Int32 → Int32 → Int32 → gM Int32) : Prop := ∀ (a0 : Nat) (x1 : Int32) (x2 : Int32) (x3 : Int32) (x4 : Int32) (h : g_H) (H : Heap) (locs : List Loc) (cells slots : Nat) (ls : Array Slot), (k a0 x1 x2 x3 x4).1 h = some (r, h') → gI G h0 h H locs cells slots → lv_has ls 5 [(0, .ref a0), (1, .int x1), (2, .int x2), (3, .int x3), (4, .int x4)] → W p l e (g_rm 11 249 h0 h') s m args below meth c H locs cells slots (gQ G below args s h0 h' (.inl (g_wI r))) (F0 m 45 ls [])
abbrev w_X8_lasts_27 (G : gG) (l : Launch) (p : Program) (e : Env) (s : State) (m : MethodId) (args : Array Value) (below : List Frame) (meth : Method) (c : Code) (h0 : g_H) (r : Int32) (h' : g_H) (k : Nat → Int32 → Int32 → Nat → Int32 → gM Int32) : Prop := ∀ (a0 : Nat) (x1 : Int32) (x2 : Int32) (b0 : Nat) (u1 : Int32) (h : g_H) (H : Heap) (locs : List Loc) (cells slots : Nat) (ls : Array Slot), (k a0 x1 x2 b0 u1).1 h = some (r, h') → gI G h0 h H locs cells slots → lv_has ls 5 [(0, .ref a0), (1, .int x1), (2, .int x2)] → W p l e (g_rm 11 249 h0 h') s m args below meth c H locs cells slots (gQ G below args s h0 h' (.inl (g_wI r))) (F0 m 27 ls [.int u1, .ref b0])
abbrev w_X8_lasts_22 (G : gG) (l : Launch) (p : Program) (e : Env) (s : State) (m : MethodId) (args : Array Value) (below : List Frame) (meth : Method) (c : Code) (h0 : g_H) (r : Int32) (h' : g_H) (k : Nat → Int32 → Int32 → Nat → gM Int32) : Prop := ∀ (a0 : Nat) (x1 : Int32) (x2 : Int32) (b0 : Nat) (h : g_H) (H : Heap) (locs : List Loc) (cells slots : Nat) (ls : Array Slot), (k a0 x1 x2 b0).1 h = some (r, h') → gI G h0 h H locs cells slots → lv_has ls 5 [(0, .ref a0), (1, .int x1), (2, .int x2)] → W p l e (g_rm 11 249 h0 h') s m args below meth c H locs cells slots (gQ G below args s h0 h' (.inl (g_wI r))) (F0 m 22 ls [.ref b0])
def f_X8_lasts_74 (k45 : Nat → Int32 → Int32 → Int32 → Int32 → gM Int32) (a0 : Nat) (x1 : Int32) (x2 : Int32) (x4 : Int32) (u0 : Int32) : gM Int32 :=
    gB (gCk a0 7) fun _ =>
    gB (f_X8_ridesStraight a0 x2) fun r101 =>
    gB (gCk a0 7) fun _ =>
    gB (f_X8_laysOn a0 x2) fun _ =>
    k45 a0 x1 x2 u0 (x4 + (1 : Int32))
set_option maxHeartbeats 4000000 in
set_option maxRecDepth 100000 in
theorem b_X8_lasts_74 {G : gG} {l : Launch} {p : Program} {e : Env} {s : State} {m : MethodId} {args : Array Value} {below : List Frame} {meth : Method} {c : Code} {h0 : g_H} {r : Int32} {h' : g_H} (X : gX G l yX8_lasts.cls cX8_lasts 5 (some .int) [] yX8_lasts.name p s m args meth c) {k45 : Nat → Int32 → Int32 → Int32 → Int32 → gM Int32} (K45 : w_X8_lasts_45 G l p e s m args below meth c h0 r h' k45) : w_X8_lasts_74 G l p e s m args below meth c h0 r h' (f_X8_lasts_74 k45) := by
  have hx := X.1
  have hb := X.2.1
  have hown := X.2.2.2.1
  have hts := X.2.2.2.2.1
  intro a0 x1 x2 x4 u0 h H locs cells slots ls hf hI hl
  unfold f_X8_lasts_74 at hf
  refine lv_istore_n (lv' := [(3, .int u0), (0, .ref a0), (1, .int x1), (2, .int x2), (4, .int x4)]) hx hb dX8_lasts_74 rfl hl (by decide) rfl (fun ls hl => ?_)
  refine lv_aload_n hx hb dX8_lasts_75 rfl (lv_at hl 1 rfl) ?_
  refine lv_iload_n hx hb dX8_lasts_76 rfl (lv_at hl 3 rfl) ?_
  obtain ⟨hs, hf⟩ := gCk_b hf
  refine g_cBI hI hf (fun v9 h9 e9 l9 l9' => g_rV X hI l9 l9' ⟨Nat.le_refl _, Nat.le_refl _⟩ (As := [.int x2]) (m_X8_ridesStraight X.2.2.2.2.2.2.2.2.2.2.1 e9) ydX8_ridesStraight hs rfl rfl q1886 q1888 qs94 q131 q1889 rfl (Nat.le_of_ble_eq_true rfl) (Nat.le_of_ble_eq_true rfl) hl.1 rfl (Nat.le_of_ble_eq_true rfl) dX8_lasts_77) (fun r101 h H locs cells slots hf hI => ?_)
  refine lv_pop hx hb dX8_lasts_80 rfl ?_
  refine lv_aload_n hx hb dX8_lasts_81 rfl (lv_at hl 1 rfl) ?_
  refine lv_iload_n hx hb dX8_lasts_82 rfl (lv_at hl 3 rfl) ?_
  obtain ⟨hs, hf⟩ := gCk_b hf
  refine g_cBU hI hf (fun v9 h9 e9 l9 l9' => g_rV X hI l9 l9' ⟨Nat.le_refl _, Nat.le_refl _⟩ (As := [.int x2]) (m_X8_laysOn X.2.2.2.2.2.2.2.2.2.2.1 e9) ydX8_laysOn hs rfl rfl q1841 q1843 qs91 q131 q1844 rfl (Nat.le_of_ble_eq_true rfl) (Nat.le_of_ble_eq_true rfl) hl.1 rfl (Nat.le_of_ble_eq_true rfl) dX8_lasts_83) (fun r102 h H locs cells slots hf hI => ?_)
  refine lv_iinc (v := (x4 + (1 : Int32))) (lv' := [(4, .int (x4 + (1 : Int32))), (3, .int u0), (0, .ref a0), (1, .int x1), (2, .int x2)]) hx hb dX8_lasts_86 hl (k := 4) rfl rfl (by decide) rfl (fun ls hl => ?_)
  refine lv_goto (tgt := 45) hx hb dX8_lasts_89 (by decide) ?_
  exact K45 _ _ _ _ _ _ _ _ _ _ _ hf hI (lv_sub hl [2, 3, 4, 1, 0] rfl)
def f_X8_lasts_92 (a0 : Nat) (x3 : Int32) : gM Int32 :=
    gB (gCk a0 7) fun _ =>
    gB (f_X8_bringsBack a0) fun _ =>
    (gRet x3)
set_option maxHeartbeats 4000000 in
set_option maxRecDepth 100000 in
theorem b_X8_lasts_92 {G : gG} {l : Launch} {p : Program} {e : Env} {s : State} {m : MethodId} {args : Array Value} {below : List Frame} {meth : Method} {c : Code} {h0 : g_H} {r : Int32} {h' : g_H} (X : gX G l yX8_lasts.cls cX8_lasts 5 (some .int) [] yX8_lasts.name p s m args meth c) : w_X8_lasts_92 G l p e s m args below meth c h0 r h' (f_X8_lasts_92) := by
  have hx := X.1
  have hb := X.2.1
  have hown := X.2.2.2.1
  have hts := X.2.2.2.2.1
  intro a0 x3 h H locs cells slots ls hf hI hl
  unfold f_X8_lasts_92 at hf
  refine lv_aload_n hx hb dX8_lasts_92 rfl (lv_at hl 0 rfl) ?_
  obtain ⟨hs, hf⟩ := gCk_b hf
  refine g_cBU hI hf (fun v9 h9 e9 l9 l9' => g_rV X hI l9 l9' ⟨Nat.le_refl _, Nat.le_refl _⟩ (As := []) (m_X8_bringsBack X.2.2.2.2.2.2.2.2.2.2.1 e9) ydX8_bringsBack hs rfl rfl q1914 q1916 qs97 q131 q1917 rfl (Nat.le_of_ble_eq_true rfl) (Nat.le_of_ble_eq_true rfl) hl.1 rfl (Nat.le_of_ble_eq_true rfl) dX8_lasts_93) (fun r101 h H locs cells slots hf hI => ?_)
  refine lv_iload_n hx hb dX8_lasts_96 rfl (lv_at hl 1 rfl) ?_
  cases gRet_e hf
  exact g_retI X hI rfl dX8_lasts_97
def f_X8_lasts_45 : Nat → Nat → Int32 → Int32 → Int32 → Int32 → gM Int32
  | 0, _, _, _, _, _ => gFail
  | n + 1, a0, x1, x2, x3, x4 =>
    gIf ((60 : Int32) < x4)
    (f_X8_lasts_92 a0 x3)
    (gIf (x3 = (-1 : Int32))
    (gB (gCk a0 7) fun _ =>
    gB (f_X8_ofProp a0 x1 (2 : Int32)) fun r101 =>
    gIf (r101 < (50 : Int32))
    (f_X8_lasts_74 (f_X8_lasts_45 n) a0 x1 x2 x4 (-1 : Int32))
    (f_X8_lasts_74 (f_X8_lasts_45 n) a0 x1 x2 x4 x4))
    (f_X8_lasts_92 a0 x3))
set_option maxHeartbeats 4000000 in
set_option maxRecDepth 100000 in
theorem b_X8_lasts_45 {G : gG} {l : Launch} {p : Program} {e : Env} {s : State} {m : MethodId} {args : Array Value} {below : List Frame} {meth : Method} {c : Code} {h0 : g_H} {r : Int32} {h' : g_H} (X : gX G l yX8_lasts.cls cX8_lasts 5 (some .int) [] yX8_lasts.name p s m args meth c) : ∀ n : Nat, w_X8_lasts_45 G l p e s m args below meth c h0 r h' (f_X8_lasts_45 n) := by
  have hx := X.1
  have hb := X.2.1
  have hown := X.2.2.2.1
  have hts := X.2.2.2.2.1
  intro n
  induction n with
  | zero =>
    intro a0 x1 x2 x3 x4 h H locs cells slots ls hf hI hl
    exact (gFail_f hf).elim
  | succ n ih =>
    intro a0 x1 x2 x3 x4 h H locs cells slots ls hf hI hl
    rw [f_X8_lasts_45] at hf
    refine lv_iload hx hb dX8_lasts_45 (lv_at hl 4 rfl) ?_
    refine lv_bipush (v := (60 : Int32)) hx hb dX8_lasts_47 (by decide) ?_
    refine lv_icmp_gt (tgt := 92) hx hb dX8_lasts_49 (by decide) (fun c49 => ?_) (fun c49 => ?_)
    · have hf := g_t c49 hf
      exact b_X8_lasts_92 X _ _ _ _ _ _ _ _ hf hI (lv_sub hl [0, 3] rfl)
    · have hf := g_f c49 hf
      refine lv_iload_n hx hb dX8_lasts_52 rfl (lv_at hl 3 rfl) ?_
      refine lv_iconst (v := (-1 : Int32)) hx hb dX8_lasts_53 (by decide) ?_
      refine lv_icmp_ne (tgt := 92) hx hb dX8_lasts_54 (by decide) (fun c54 => ?_) (fun c54 => ?_)
      · have hf := g_f c54 hf
        exact b_X8_lasts_92 X _ _ _ _ _ _ _ _ hf hI (lv_sub hl [0, 3] rfl)
      · have hf := g_t c54 hf
        refine lv_aload_n hx hb dX8_lasts_57 rfl (lv_at hl 0 rfl) ?_
        refine lv_iload_n hx hb dX8_lasts_58 rfl (lv_at hl 1 rfl) ?_
        refine lv_iconst (v := (2 : Int32)) hx hb dX8_lasts_59 (by decide) ?_
        obtain ⟨hs, hf⟩ := gCk_b hf
        refine g_cBI hI hf (fun v9 h9 e9 l9 l9' => g_rV X hI l9 l9' ⟨Nat.le_refl _, Nat.le_refl _⟩ (As := [.int x1, .int (2 : Int32)]) (m_X8_ofProp X.2.2.2.2.2.2.2.2.2.2.1 e9) ydX8_ofProp hs rfl rfl q1659 q1661 qs59 q131 q1662 rfl (Nat.le_of_ble_eq_true rfl) (Nat.le_of_ble_eq_true rfl) hl.1 rfl (Nat.le_of_ble_eq_true rfl) dX8_lasts_60) (fun r101 h H locs cells slots hf hI => ?_)
        refine lv_bipush (v := (50 : Int32)) hx hb dX8_lasts_63 (by decide) ?_
        refine lv_icmp_lt (tgt := 73) hx hb dX8_lasts_65 (by decide) (fun c65 => ?_) (fun c65 => ?_)
        · have hf := g_t c65 hf
          refine lv_iconst (v := (-1 : Int32)) hx hb dX8_lasts_73 (by decide) ?_
          exact b_X8_lasts_74 X ih _ _ _ _ _ _ _ _ _ _ _ hf hI (lv_sub hl [0, 1, 2, 4] rfl)
        · have hf := g_f c65 hf
          refine lv_iload hx hb dX8_lasts_68 (lv_at hl 4 rfl) ?_
          refine lv_goto (tgt := 74) hx hb dX8_lasts_70 (by decide) ?_
          exact b_X8_lasts_74 X ih _ _ _ _ _ _ _ _ _ _ _ hf hI (lv_sub hl [0, 1, 2, 4] rfl)
def f_X8_lasts_27 (a0 : Nat) (x1 : Int32) (x2 : Int32) (b0 : Nat) (u1 : Int32) : gM Int32 :=
    gB (gCk b0 7) fun _ =>
    gB (f_X8_throwsIf b0 u1 (1 : Int32)) fun r101 =>
    gIf (r101 = 0)
    (gB (gCk a0 7) fun _ =>
    gB (f_X8_keepsAll a0) fun _ =>
    f_X8_lasts_45 gN a0 x1 x2 (-1 : Int32) (0 : Int32))
    ((gRet (0 : Int32)))
set_option maxHeartbeats 4000000 in
set_option maxRecDepth 100000 in
theorem b_X8_lasts_27 {G : gG} {l : Launch} {p : Program} {e : Env} {s : State} {m : MethodId} {args : Array Value} {below : List Frame} {meth : Method} {c : Code} {h0 : g_H} {r : Int32} {h' : g_H} (X : gX G l yX8_lasts.cls cX8_lasts 5 (some .int) [] yX8_lasts.name p s m args meth c) : w_X8_lasts_27 G l p e s m args below meth c h0 r h' (f_X8_lasts_27) := by
  have hx := X.1
  have hb := X.2.1
  have hown := X.2.2.2.1
  have hts := X.2.2.2.2.1
  intro a0 x1 x2 b0 u1 h H locs cells slots ls hf hI hl
  unfold f_X8_lasts_27 at hf
  refine lv_iconst (v := (1 : Int32)) hx hb dX8_lasts_27 (by decide) ?_
  obtain ⟨hs, hf⟩ := gCk_b hf
  refine g_cBI hI hf (fun v9 h9 e9 l9 l9' => g_rV X hI l9 l9' ⟨Nat.le_refl _, Nat.le_refl _⟩ (As := [.int u1, .int (1 : Int32)]) (m_X8_throwsIf X.2.2.2.2.2.2.2.2.2.2.1 e9) ydX8_throwsIf hs rfl rfl q1736 q1738 qs72 q131 q1739 rfl (Nat.le_of_ble_eq_true rfl) (Nat.le_of_ble_eq_true rfl) hl.1 rfl (Nat.le_of_ble_eq_true rfl) dX8_lasts_28) (fun r101 h H locs cells slots hf hI => ?_)
  refine lv_if_eq (tgt := 36) hx hb dX8_lasts_31 (by decide) (fun c31 => ?_) (fun c31 => ?_)
  · have hf := g_t c31 hf
    refine lv_iconst (v := (-1 : Int32)) hx hb dX8_lasts_36 (by decide) ?_
    refine lv_istore_n (lv' := [(3, .int (-1 : Int32)), (0, .ref a0), (1, .int x1), (2, .int x2)]) hx hb dX8_lasts_37 rfl hl (by decide) rfl (fun ls hl => ?_)
    refine lv_aload_n hx hb dX8_lasts_38 rfl (lv_at hl 1 rfl) ?_
    obtain ⟨hs, hf⟩ := gCk_b hf
    refine g_cBU hI hf (fun v9 h9 e9 l9 l9' => g_rV X hI l9 l9' ⟨Nat.le_refl _, Nat.le_refl _⟩ (As := []) (m_X8_keepsAll X.2.2.2.2.2.2.2.2.2.2.1 e9) ydX8_keepsAll hs rfl rfl q1910 q1912 qs96 q131 q1913 rfl (Nat.le_of_ble_eq_true rfl) (Nat.le_of_ble_eq_true rfl) hl.1 rfl (Nat.le_of_ble_eq_true rfl) dX8_lasts_39) (fun r102 h H locs cells slots hf hI => ?_)
    refine lv_iconst (v := (0 : Int32)) hx hb dX8_lasts_42 (by decide) ?_
    refine lv_istore (lv' := [(4, .int (0 : Int32)), (3, .int (-1 : Int32)), (0, .ref a0), (1, .int x1), (2, .int x2)]) hx hb dX8_lasts_43 hl (by decide) rfl (fun ls hl => ?_)
    exact b_X8_lasts_45 X gN _ _ _ _ _ _ _ _ _ _ _ hf hI (lv_sub hl [2, 3, 4, 1, 0] rfl)
  · have hf := g_f c31 hf
    refine lv_iconst (v := (0 : Int32)) hx hb dX8_lasts_34 (by decide) ?_
    cases gRet_e hf
    exact g_retI X hI rfl dX8_lasts_35
def f_X8_lasts_22 (a0 : Nat) (x1 : Int32) (x2 : Int32) (b0 : Nat) : gM Int32 :=
    f_X8_lasts_27 a0 x1 x2 b0 (1 : Int32)
set_option maxHeartbeats 4000000 in
set_option maxRecDepth 100000 in
theorem b_X8_lasts_22 {G : gG} {l : Launch} {p : Program} {e : Env} {s : State} {m : MethodId} {args : Array Value} {below : List Frame} {meth : Method} {c : Code} {h0 : g_H} {r : Int32} {h' : g_H} (X : gX G l yX8_lasts.cls cX8_lasts 5 (some .int) [] yX8_lasts.name p s m args meth c) : w_X8_lasts_22 G l p e s m args below meth c h0 r h' (f_X8_lasts_22) := by
  have hx := X.1
  have hb := X.2.1
  have hown := X.2.2.2.1
  have hts := X.2.2.2.2.1
  intro a0 x1 x2 b0 h H locs cells slots ls hf hI hl
  unfold f_X8_lasts_22 at hf
  refine lv_iconst (v := (1 : Int32)) hx hb dX8_lasts_22 (by decide) ?_
  refine lv_goto (tgt := 27) hx hb dX8_lasts_23 (by decide) ?_
  exact b_X8_lasts_27 X _ _ _ _ _ _ _ _ _ _ _ hf hI (lv_sub hl [0, 1, 2] rfl)
def f_X8_lasts (a0 : Nat) (x1 : Int32) (x2 : Int32) : gM Int32 :=
    gB (gPI a0 7 0 (0 : Int32)) fun _ =>
    gB (gCk a0 7) fun _ =>
    gB (f_X8_noProp a0 x1) fun r1 =>
    gIf (r1 = 0)
    (gB (gCk a0 7) fun _ =>
    gB (f_X8_noOne a0 x2) fun r2 =>
    gIf (r2 = 0)
    (f_X8_lasts_27 a0 x1 x2 a0 (0 : Int32))
    (f_X8_lasts_22 a0 x1 x2 a0))
    (f_X8_lasts_22 a0 x1 x2 a0)
set_option maxHeartbeats 4000000 in
set_option maxRecDepth 100000 in
theorem m_X8_lasts {G : gG} {l : Launch} (hfl : l.stackTraces = false) {a0 : Nat} {x1 : Int32} {x2 : Int32} {h h' : g_H} {r : Int32} (hf : (f_X8_lasts a0 x1 x2).1 h = some (r, h')) : gMet G l yX8_lasts (Cond.code yX8_lasts cX8_lasts 5 (some .int)) 11 249 [.ref a0, .int x1, .int x2] h (.inl (g_wI r)) h' := by
  refine g_head hfl ((f_X8_lasts a0 x1 x2).2 h r h' hf) (plainFor_of_name (by decide)) (Nat.le_of_ble_eq_true rfl) (fun p e s m below meth c H locs cells slots ls X hI hl9 => ?_)
  have hl : lv_has ls 5 [(0, .ref a0), (1, .int x1), (2, .int x2)] := hl9
  have hx := X.1
  have hb := X.2.1
  have hown := X.2.2.2.1
  have hts := X.2.2.2.2.1
  unfold f_X8_lasts at hf
  refine lv_aload_n hx hb dX8_lasts_0 rfl (lv_at hl 0 rfl) ?_
  refine lv_iconst (v := (0 : Int32)) hx hb dX8_lasts_1 (by decide) ?_
  refine g_pi X hI hf fX8_0 q1444 rfl dX8_lasts_2 (fun h H locs hf hI => ?_)
  refine lv_aload_n hx hb dX8_lasts_5 rfl (lv_at hl 0 rfl) ?_
  refine lv_aload_n hx hb dX8_lasts_6 rfl (lv_at hl 0 rfl) ?_
  refine lv_iload_n hx hb dX8_lasts_7 rfl (lv_at hl 1 rfl) ?_
  obtain ⟨hs, hf⟩ := gCk_b hf
  refine g_cBI hI hf (fun v9 h9 e9 l9 l9' => g_rV X hI l9 l9' ⟨Nat.le_refl _, Nat.le_refl _⟩ (As := [.int x1]) (m_X8_noProp X.2.2.2.2.2.2.2.2.2.2.1 e9) ydX8_noProp hs rfl rfl q1748 q1750 qs73 q131 q1751 rfl (Nat.le_of_ble_eq_true rfl) (Nat.le_of_ble_eq_true rfl) hl.1 rfl (Nat.le_of_ble_eq_true rfl) dX8_lasts_8) (fun r1 h H locs cells slots hf hI => ?_)
  refine lv_if_ne (tgt := 22) hx hb dX8_lasts_11 (by decide) (fun c11 => ?_) (fun c11 => ?_)
  · have hf := g_f c11 hf
    exact b_X8_lasts_22 X _ _ _ _ _ _ _ _ _ _ hf hI (lv_sub hl [0, 1, 2] rfl)
  · have hf := g_t c11 hf
    refine lv_aload_n hx hb dX8_lasts_14 rfl (lv_at hl 0 rfl) ?_
    refine lv_iload_n hx hb dX8_lasts_15 rfl (lv_at hl 2 rfl) ?_
    obtain ⟨hs, hf⟩ := gCk_b hf
    refine g_cBI hI hf (fun v9 h9 e9 l9 l9' => g_rV X hI l9 l9' ⟨Nat.le_refl _, Nat.le_refl _⟩ (As := [.int x2]) (m_X8_noOne X.2.2.2.2.2.2.2.2.2.2.1 e9) ydX8_noOne hs rfl rfl q1763 q1765 qs74 q131 q1766 rfl (Nat.le_of_ble_eq_true rfl) (Nat.le_of_ble_eq_true rfl) hl.1 rfl (Nat.le_of_ble_eq_true rfl) dX8_lasts_16) (fun r2 h H locs cells slots hf hI => ?_)
    refine lv_if_eq (tgt := 26) hx hb dX8_lasts_19 (by decide) (fun c19 => ?_) (fun c19 => ?_)
    · have hf := g_t c19 hf
      refine lv_iconst (v := (0 : Int32)) hx hb dX8_lasts_26 (by decide) ?_
      exact b_X8_lasts_27 X _ _ _ _ _ _ _ _ _ _ _ hf hI (lv_sub hl [0, 1, 2] rfl)
    · have hf := g_f c19 hf
      exact b_X8_lasts_22 X _ _ _ _ _ _ _ _ _ _ hf hI (lv_sub hl [0, 1, 2] rfl)
/-! X1_isChoice -/
abbrev w_X1_isChoice_32 (G : gG) (l : Launch) (p : Program) (e : Env) (s : State) (m : MethodId) (args : Array Value) (below : List Frame) (meth : Method) (c : Code) (h0 : g_H) (r : Int32) (h' : g_H) (k : Int32 → gM Int32) : Prop := ∀ (u0 : Int32) (h : g_H) (H : Heap) (locs : List Loc) (cells slots : Nat) (ls : Array Slot), (k u0).1 h = some (r, h') → gI G h0 h H locs cells slots → lv_has ls 2 [] → W p l e (g_rm 1 20 h0 h') s m args below meth c H locs cells slots (gQ G below args s h0 h' (.inl (g_wI r))) (F0 m 32 ls [.int u0])
abbrev w_X1_isChoice_27 (G : gG) (l : Launch) (p : Program) (e : Env) (s : State) (m : MethodId) (args : Array Value) (below : List Frame) (meth : Method) (c : Code) (h0 : g_H) (r : Int32) (h' : g_H) (k : gM Int32) : Prop := ∀ (h : g_H) (H : Heap) (locs : List Loc) (cells slots : Nat) (ls : Array Slot), (k).1 h = some (r, h') → gI G h0 h H locs cells slots → lv_has ls 2 [] → W p l e (g_rm 1 20 h0 h') s m args below meth c H locs cells slots (gQ G below args s h0 h' (.inl (g_wI r))) (F0 m 27 ls [])
def f_X1_isChoice_32 (u0 : Int32) : gM Int32 :=
    gB (gGd (u0 = 0 ∨ u0 = 1)) fun _ =>
    (gRet u0)
set_option maxHeartbeats 4000000 in
set_option maxRecDepth 100000 in
theorem b_X1_isChoice_32 {G : gG} {l : Launch} {p : Program} {e : Env} {s : State} {m : MethodId} {args : Array Value} {below : List Frame} {meth : Method} {c : Code} {h0 : g_H} {r : Int32} {h' : g_H} (X : gX G l yX1_isChoice.cls cX1_isChoice 2 (some .boolean) [] yX1_isChoice.name p s m args meth c) : w_X1_isChoice_32 G l p e s m args below meth c h0 r h' (f_X1_isChoice_32) := by
  have hx := X.1
  have hb := X.2.1
  have hown := X.2.2.2.1
  have hts := X.2.2.2.2.1
  intro u0 h H locs cells slots ls hf hI hl
  unfold f_X1_isChoice_32 at hf
  obtain ⟨hz, hf⟩ := gB_gd hf
  cases gRet_e hf
  exact g_retZ X hI hz rfl dX1_isChoice_32
def f_X1_isChoice_27 : gM Int32 :=
    f_X1_isChoice_32 (1 : Int32)
set_option maxHeartbeats 4000000 in
set_option maxRecDepth 100000 in
theorem b_X1_isChoice_27 {G : gG} {l : Launch} {p : Program} {e : Env} {s : State} {m : MethodId} {args : Array Value} {below : List Frame} {meth : Method} {c : Code} {h0 : g_H} {r : Int32} {h' : g_H} (X : gX G l yX1_isChoice.cls cX1_isChoice 2 (some .boolean) [] yX1_isChoice.name p s m args meth c) : w_X1_isChoice_27 G l p e s m args below meth c h0 r h' (f_X1_isChoice_27) := by
  have hx := X.1
  have hb := X.2.1
  have hown := X.2.2.2.1
  have hts := X.2.2.2.2.1
  intro h H locs cells slots ls hf hI hl
  unfold f_X1_isChoice_27 at hf
  refine lv_iconst (v := (1 : Int32)) hx hb dX1_isChoice_27 (by decide) ?_
  refine lv_goto (tgt := 32) hx hb dX1_isChoice_28 (by decide) ?_
  exact b_X1_isChoice_32 X _ _ _ _ _ _ _ hf hI (lv_sub hl [] rfl)
def f_X1_isChoice (a0 : Nat) (x1 : Int32) : gM Int32 :=
    gB (gFR a0 0 1) fun v1 =>
    gB (gFI v1 2 6) fun v2 =>
    gIf (x1 = v2)
    (f_X1_isChoice_27)
    (gB (gFR a0 0 1) fun v3 =>
    gB (gFR v3 2 0) fun v4 =>
    gB (gAR v4 4 x1) fun v5 =>
    gB (gFI v5 3 3) fun v6 =>
    gIf (v6 = (-1 : Int32))
    (f_X1_isChoice_32 (0 : Int32))
    (f_X1_isChoice_27))
set_option maxHeartbeats 4000000 in
set_option maxRecDepth 100000 in
theorem m_X1_isChoice {G : gG} {l : Launch} (hfl : l.stackTraces = false) {a0 : Nat} {x1 : Int32} {h h' : g_H} {r : Int32} (hf : (f_X1_isChoice a0 x1).1 h = some (r, h')) : gMet G l yX1_isChoice (Cond.code yX1_isChoice cX1_isChoice 2 (some .boolean)) 1 20 [.ref a0, .int x1] h (.inl (g_wI r)) h' := by
  refine g_head hfl ((f_X1_isChoice a0 x1).2 h r h' hf) (plainFor_of_name (by decide)) (Nat.le_of_ble_eq_true rfl) (fun p e s m below meth c H locs cells slots ls X hI hl9 => ?_)
  have hl : lv_has ls 2 [(0, .ref a0), (1, .int x1)] := hl9
  have hx := X.1
  have hb := X.2.1
  have hown := X.2.2.2.1
  have hts := X.2.2.2.2.1
  unfold f_X1_isChoice at hf
  refine lv_iload_n hx hb dX1_isChoice_0 rfl (lv_at hl 1 rfl) ?_
  refine lv_aload_n hx hb dX1_isChoice_1 rfl (lv_at hl 0 rfl) ?_
  refine g_fr X hI hf fX1_1 q461 rfl rfl dX1_isChoice_2 (fun v1 hf => ?_)
  refine g_fiN X hI hf fX3_6 q268 rfl rfl dX1_isChoice_5 (fun v2 hf => ?_)
  refine lv_icmp_eq (tgt := 27) hx hb dX1_isChoice_8 (by decide) (fun c8 => ?_) (fun c8 => ?_)
  · have hf := g_t c8 hf
    exact b_X1_isChoice_27 X _ _ _ _ _ _ hf hI (lv_sub hl [] rfl)
  · have hf := g_f c8 hf
    refine lv_aload_n hx hb dX1_isChoice_11 rfl (lv_at hl 0 rfl) ?_
    refine g_fr X hI hf fX1_1 q461 rfl rfl dX1_isChoice_12 (fun v3 hf => ?_)
    refine g_frN X hI hf fX3_0 q254 rfl rfl dX1_isChoice_15 (fun v4 hf => ?_)
    refine lv_iload_n hx hb dX1_isChoice_18 rfl (lv_at hl 1 rfl) ?_
    refine g_ar4 X hI hf dX1_isChoice_19 (fun v5 hf => ?_)
    refine g_fiN X hI hf fX4_3 q210 rfl rfl dX1_isChoice_20 (fun v6 hf => ?_)
    refine lv_iconst (v := (-1 : Int32)) hx hb dX1_isChoice_23 (by decide) ?_
    refine lv_icmp_eq (tgt := 31) hx hb dX1_isChoice_24 (by decide) (fun c24 => ?_) (fun c24 => ?_)
    · have hf := g_t c24 hf
      refine lv_iconst (v := (0 : Int32)) hx hb dX1_isChoice_31 (by decide) ?_
      exact b_X1_isChoice_32 X _ _ _ _ _ _ _ hf hI (lv_sub hl [] rfl)
    · have hf := g_f c24 hf
      exact b_X1_isChoice_27 X _ _ _ _ _ _ hf hI (lv_sub hl [] rfl)
/-! X1_screamsBy -/
abbrev w_X1_screamsBy_107 (G : gG) (l : Launch) (p : Program) (e : Env) (s : State) (m : MethodId) (args : Array Value) (below : List Frame) (meth : Method) (c : Code) (h0 : g_H) (r : Int32) (h' : g_H) (k : Int32 → gM Int32) : Prop := ∀ (u0 : Int32) (h : g_H) (H : Heap) (locs : List Loc) (cells slots : Nat) (ls : Array Slot), (k u0).1 h = some (r, h') → gI G h0 h H locs cells slots → lv_has ls 5 [] → W p l e (g_rm 102 1892 h0 h') s m args below meth c H locs cells slots (gQ G below args s h0 h' (.inl (g_wI r))) (F0 m 107 ls [.int u0])
abbrev w_X1_screamsBy_94 (G : gG) (l : Launch) (p : Program) (e : Env) (s : State) (m : MethodId) (args : Array Value) (below : List Frame) (meth : Method) (c : Code) (h0 : g_H) (r : Int32) (h' : g_H) (k : Nat → gM Int32) : Prop := ∀ (a0 : Nat) (h : g_H) (H : Heap) (locs : List Loc) (cells slots : Nat) (ls : Array Slot), (k a0).1 h = some (r, h') → gI G h0 h H locs cells slots → lv_has ls 5 [(0, .ref a0)] → W p l e (g_rm 102 1892 h0 h') s m args below meth c H locs cells slots (gQ G below args s h0 h' (.inl (g_wI r))) (F0 m 94 ls [])
abbrev w_X1_screamsBy_63 (G : gG) (l : Launch) (p : Program) (e : Env) (s : State) (m : MethodId) (args : Array Value) (below : List Frame) (meth : Method) (c : Code) (h0 : g_H) (r : Int32) (h' : g_H) (k : Nat → Nat → Int32 → Int32 → Nat → Int32 → gM Int32) : Prop := ∀ (a0 : Nat) (a1 : Nat) (x2 : Int32) (x4 : Int32) (b0 : Nat) (u1 : Int32) (h : g_H) (H : Heap) (locs : List Loc) (cells slots : Nat) (ls : Array Slot), (k a0 a1 x2 x4 b0 u1).1 h = some (r, h') → gI G h0 h H locs cells slots → lv_has ls 5 [(0, .ref a0), (1, .ref a1), (2, .int x2), (4, .int x4)] → W p l e (g_rm 102 1892 h0 h') s m args below meth c H locs cells slots (gQ G below args s h0 h' (.inl (g_wI r))) (F0 m 63 ls [.int u1, .ref b0])
abbrev w_X1_screamsBy_46 (G : gG) (l : Launch) (p : Program) (e : Env) (s : State) (m : MethodId) (args : Array Value) (below : List Frame) (meth : Method) (c : Code) (h0 : g_H) (r : Int32) (h' : g_H) (k : Nat → Nat → Int32 → Int32 → Int32 → gM Int32) : Prop := ∀ (a0 : Nat) (a1 : Nat) (x2 : Int32) (x3 : Int32) (x4 : Int32) (h : g_H) (H : Heap) (locs : List Loc) (cells slots : Nat) (ls : Array Slot), (k a0 a1 x2 x3 x4).1 h = some (r, h') → gI G h0 h H locs cells slots → lv_has ls 5 [(0, .ref a0), (1, .ref a1), (2, .int x2), (3, .int x3), (4, .int x4)] → W p l e (g_rm 102 1892 h0 h') s m args below meth c H locs cells slots (gQ G below args s h0 h' (.inl (g_wI r))) (F0 m 46 ls [])
abbrev w_X1_screamsBy_27 (G : gG) (l : Launch) (p : Program) (e : Env) (s : State) (m : MethodId) (args : Array Value) (below : List Frame) (meth : Method) (c : Code) (h0 : g_H) (r : Int32) (h' : g_H) (k : Nat → Nat → Int32 → Int32 → Int32 → gM Int32) : Prop := ∀ (a0 : Nat) (a1 : Nat) (x2 : Int32) (x3 : Int32) (u0 : Int32) (h : g_H) (H : Heap) (locs : List Loc) (cells slots : Nat) (ls : Array Slot), (k a0 a1 x2 x3 u0).1 h = some (r, h') → gI G h0 h H locs cells slots → lv_has ls 5 [(0, .ref a0), (1, .ref a1), (2, .int x2), (3, .int x3)] → W p l e (g_rm 102 1892 h0 h') s m args below meth c H locs cells slots (gQ G below args s h0 h' (.inl (g_wI r))) (F0 m 27 ls [.int u0])
def f_X1_screamsBy_107 (u0 : Int32) : gM Int32 :=
    gB (gGd (u0 = 0 ∨ u0 = 1)) fun _ =>
    (gRet u0)
set_option maxHeartbeats 4000000 in
set_option maxRecDepth 100000 in
theorem b_X1_screamsBy_107 {G : gG} {l : Launch} {p : Program} {e : Env} {s : State} {m : MethodId} {args : Array Value} {below : List Frame} {meth : Method} {c : Code} {h0 : g_H} {r : Int32} {h' : g_H} (X : gX G l yX1_screamsBy.cls cX1_screamsBy 5 (some .boolean) [] yX1_screamsBy.name p s m args meth c) : w_X1_screamsBy_107 G l p e s m args below meth c h0 r h' (f_X1_screamsBy_107) := by
  have hx := X.1
  have hb := X.2.1
  have hown := X.2.2.2.1
  have hts := X.2.2.2.2.1
  intro u0 h H locs cells slots ls hf hI hl
  unfold f_X1_screamsBy_107 at hf
  obtain ⟨hz, hf⟩ := gB_gd hf
  cases gRet_e hf
  exact g_retZ X hI hz rfl dX1_screamsBy_107
def f_X1_screamsBy_94 (a0 : Nat) : gM Int32 :=
    gB (gFI a0 0 14) fun v101 =>
    gIf (v101 = (-1 : Int32))
    (f_X1_screamsBy_107 (0 : Int32))
    (f_X1_screamsBy_107 (1 : Int32))
set_option maxHeartbeats 4000000 in
set_option maxRecDepth 100000 in
theorem b_X1_screamsBy_94 {G : gG} {l : Launch} {p : Program} {e : Env} {s : State} {m : MethodId} {args : Array Value} {below : List Frame} {meth : Method} {c : Code} {h0 : g_H} {r : Int32} {h' : g_H} (X : gX G l yX1_screamsBy.cls cX1_screamsBy 5 (some .boolean) [] yX1_screamsBy.name p s m args meth c) : w_X1_screamsBy_94 G l p e s m args below meth c h0 r h' (f_X1_screamsBy_94) := by
  have hx := X.1
  have hb := X.2.1
  have hown := X.2.2.2.1
  have hts := X.2.2.2.2.1
  intro a0 h H locs cells slots ls hf hI hl
  unfold f_X1_screamsBy_94 at hf
  refine lv_aload_n hx hb dX1_screamsBy_94 rfl (lv_at hl 0 rfl) ?_
  refine g_fi X hI hf fX1_14 q475 rfl rfl dX1_screamsBy_95 (fun v101 hf => ?_)
  refine lv_iconst (v := (-1 : Int32)) hx hb dX1_screamsBy_98 (by decide) ?_
  refine lv_icmp_eq (tgt := 106) hx hb dX1_screamsBy_99 (by decide) (fun c99 => ?_) (fun c99 => ?_)
  · have hf := g_t c99 hf
    refine lv_iconst (v := (0 : Int32)) hx hb dX1_screamsBy_106 (by decide) ?_
    exact b_X1_screamsBy_107 X _ _ _ _ _ _ _ hf hI (lv_sub hl [] rfl)
  · have hf := g_f c99 hf
    refine lv_iconst (v := (1 : Int32)) hx hb dX1_screamsBy_102 (by decide) ?_
    refine lv_goto (tgt := 107) hx hb dX1_screamsBy_103 (by decide) ?_
    exact b_X1_screamsBy_107 X _ _ _ _ _ _ _ hf hI (lv_sub hl [] rfl)
def f_X1_screamsBy_63 (a0 : Nat) (a1 : Nat) (x2 : Int32) (x4 : Int32) (b0 : Nat) (u1 : Int32) : gM Int32 :=
    gB (gPI b0 0 17 u1) fun _ =>
    gB (gCk a0 0) fun _ =>
    gB (f_X1_rides a0 a1 (0 : Int32)) fun _ =>
    gB (gPI a0 0 17 (-1 : Int32)) fun _ =>
    gIf (x4 = (-1 : Int32))
    (f_X1_screamsBy_94 a0)
    (gB (gFR a0 0 1) fun v102 =>
    gB (gFR v102 2 3) fun v103 =>
    gB (gSI v103 0 x4 x2) fun _ =>
    f_X1_screamsBy_94 a0)
set_option maxHeartbeats 4000000 in
set_option maxRecDepth 100000 in
theorem b_X1_screamsBy_63 {G : gG} {l : Launch} {p : Program} {e : Env} {s : State} {m : MethodId} {args : Array Value} {below : List Frame} {meth : Method} {c : Code} {h0 : g_H} {r : Int32} {h' : g_H} (X : gX G l yX1_screamsBy.cls cX1_screamsBy 5 (some .boolean) [] yX1_screamsBy.name p s m args meth c) : w_X1_screamsBy_63 G l p e s m args below meth c h0 r h' (f_X1_screamsBy_63) := by
  have hx := X.1
  have hb := X.2.1
  have hown := X.2.2.2.1
  have hts := X.2.2.2.2.1
  intro a0 a1 x2 x4 b0 u1 h H locs cells slots ls hf hI hl
  unfold f_X1_screamsBy_63 at hf
  refine g_pi X hI hf fX1_17 q478 rfl dX1_screamsBy_63 (fun h H locs hf hI => ?_)
  refine lv_aload_n hx hb dX1_screamsBy_66 rfl (lv_at hl 0 rfl) ?_
  refine lv_aload_n hx hb dX1_screamsBy_67 rfl (lv_at hl 1 rfl) ?_
  refine lv_iconst (v := (0 : Int32)) hx hb dX1_screamsBy_68 (by decide) ?_
  obtain ⟨hs, hf⟩ := gCk_b hf
  refine g_cBU hI hf (fun v9 h9 e9 l9 l9' => g_rV X hI l9 l9' ⟨Nat.le_refl _, Nat.le_refl _⟩ (As := [.ref a1, .int (0 : Int32)]) (m_X1_rides X.2.2.2.2.2.2.2.2.2.2.1 e9) ydX1_rides hs rfl rfl q693 q695 qs9 q121 q696 rfl (Nat.le_of_ble_eq_true rfl) (Nat.le_of_ble_eq_true rfl) hl.1 rfl (Nat.le_of_ble_eq_true rfl) dX1_screamsBy_69) (fun r101 h H locs cells slots hf hI => ?_)
  refine lv_aload_n hx hb dX1_screamsBy_72 rfl (lv_at hl 0 rfl) ?_
  refine lv_iconst (v := (-1 : Int32)) hx hb dX1_screamsBy_73 (by decide) ?_
  refine g_pi X hI hf fX1_17 q478 rfl dX1_screamsBy_74 (fun h H locs hf hI => ?_)
  refine lv_iload hx hb dX1_screamsBy_77 (lv_at hl 3 rfl) ?_
  refine lv_iconst (v := (-1 : Int32)) hx hb dX1_screamsBy_79 (by decide) ?_
  refine lv_icmp_eq (tgt := 94) hx hb dX1_screamsBy_80 (by decide) (fun c80 => ?_) (fun c80 => ?_)
  · have hf := g_t c80 hf
    exact b_X1_screamsBy_94 X _ _ _ _ _ _ _ hf hI (lv_sub hl [0] rfl)
  · have hf := g_f c80 hf
    refine lv_aload_n hx hb dX1_screamsBy_83 rfl (lv_at hl 0 rfl) ?_
    refine g_fr X hI hf fX1_1 q461 rfl rfl dX1_screamsBy_84 (fun v102 hf => ?_)
    refine g_frN X hI hf fX3_3 q264 rfl rfl dX1_screamsBy_87 (fun v103 hf => ?_)
    refine lv_iload hx hb dX1_screamsBy_90 (lv_at hl 3 rfl) ?_
    refine lv_iload_n hx hb dX1_screamsBy_92 rfl (lv_at hl 2 rfl) ?_
    refine g_si0 X hI hf dX1_screamsBy_93 (fun h H locs hf hI => ?_)
    exact b_X1_screamsBy_94 X _ _ _ _ _ _ _ hf hI (lv_sub hl [0] rfl)
def f_X1_screamsBy_46 (a0 : Nat) (a1 : Nat) (x2 : Int32) (x3 : Int32) (x4 : Int32) : gM Int32 :=
    gB (gFR a0 0 1) fun v101 =>
    gB (gFI v101 2 6) fun v102 =>
    gIf (x3 = v102)
    (f_X1_screamsBy_63 a0 a1 x2 x4 a0 (-1 : Int32))
    (f_X1_screamsBy_63 a0 a1 x2 x4 a0 x3)
set_option maxHeartbeats 4000000 in
set_option maxRecDepth 100000 in
theorem b_X1_screamsBy_46 {G : gG} {l : Launch} {p : Program} {e : Env} {s : State} {m : MethodId} {args : Array Value} {below : List Frame} {meth : Method} {c : Code} {h0 : g_H} {r : Int32} {h' : g_H} (X : gX G l yX1_screamsBy.cls cX1_screamsBy 5 (some .boolean) [] yX1_screamsBy.name p s m args meth c) : w_X1_screamsBy_46 G l p e s m args below meth c h0 r h' (f_X1_screamsBy_46) := by
  have hx := X.1
  have hb := X.2.1
  have hown := X.2.2.2.1
  have hts := X.2.2.2.2.1
  intro a0 a1 x2 x3 x4 h H locs cells slots ls hf hI hl
  unfold f_X1_screamsBy_46 at hf
  refine lv_aload_n hx hb dX1_screamsBy_46 rfl (lv_at hl 0 rfl) ?_
  refine lv_iload_n hx hb dX1_screamsBy_47 rfl (lv_at hl 3 rfl) ?_
  refine lv_aload_n hx hb dX1_screamsBy_48 rfl (lv_at hl 0 rfl) ?_
  refine g_fr X hI hf fX1_1 q461 rfl rfl dX1_screamsBy_49 (fun v101 hf => ?_)
  refine g_fiN X hI hf fX3_6 q268 rfl rfl dX1_screamsBy_52 (fun v102 hf => ?_)
  refine lv_icmp_ne (tgt := 62) hx hb dX1_screamsBy_55 (by decide) (fun c55 => ?_) (fun c55 => ?_)
  · have hf := g_f c55 hf
    refine lv_iload_n hx hb dX1_screamsBy_62 rfl (lv_at hl 3 rfl) ?_
    exact b_X1_screamsBy_63 X _ _ _ _ _ _ _ _ _ _ _ _ hf hI (lv_sub hl [0, 1, 2, 4] rfl)
  · have hf := g_t c55 hf
    refine lv_iconst (v := (-1 : Int32)) hx hb dX1_screamsBy_58 (by decide) ?_
    refine lv_goto (tgt := 63) hx hb dX1_screamsBy_59 (by decide) ?_
    exact b_X1_screamsBy_63 X _ _ _ _ _ _ _ _ _ _ _ _ hf hI (lv_sub hl [0, 1, 2, 4] rfl)
def f_X1_screamsBy_27 (a0 : Nat) (a1 : Nat) (x2 : Int32) (x3 : Int32) (u0 : Int32) : gM Int32 :=
    gIf (u0 = (-1 : Int32))
    (f_X1_screamsBy_46 a0 a1 x2 x3 u0)
    (gB (gFR a0 0 1) fun v101 =>
    gB (gFR v101 2 3) fun v102 =>
    gB (gSI v102 0 u0 (-1 : Int32)) fun _ =>
    f_X1_screamsBy_46 a0 a1 x2 x3 u0)
set_option maxHeartbeats 4000000 in
set_option maxRecDepth 100000 in
theorem b_X1_screamsBy_27 {G : gG} {l : Launch} {p : Program} {e : Env} {s : State} {m : MethodId} {args : Array Value} {below : List Frame} {meth : Method} {c : Code} {h0 : g_H} {r : Int32} {h' : g_H} (X : gX G l yX1_screamsBy.cls cX1_screamsBy 5 (some .boolean) [] yX1_screamsBy.name p s m args meth c) : w_X1_screamsBy_27 G l p e s m args below meth c h0 r h' (f_X1_screamsBy_27) := by
  have hx := X.1
  have hb := X.2.1
  have hown := X.2.2.2.1
  have hts := X.2.2.2.2.1
  intro a0 a1 x2 x3 u0 h H locs cells slots ls hf hI hl
  unfold f_X1_screamsBy_27 at hf
  refine lv_istore (lv' := [(4, .int u0), (0, .ref a0), (1, .ref a1), (2, .int x2), (3, .int x3)]) hx hb dX1_screamsBy_27 hl (by decide) rfl (fun ls hl => ?_)
  refine lv_iload hx hb dX1_screamsBy_29 (lv_at hl 0 rfl) ?_
  refine lv_iconst (v := (-1 : Int32)) hx hb dX1_screamsBy_31 (by decide) ?_
  refine lv_icmp_eq (tgt := 46) hx hb dX1_screamsBy_32 (by decide) (fun c32 => ?_) (fun c32 => ?_)
  · have hf := g_t c32 hf
    exact b_X1_screamsBy_46 X _ _ _ _ _ _ _ _ _ _ _ hf hI (lv_sub hl [1, 2, 3, 4, 0] rfl)
  · have hf := g_f c32 hf
    refine lv_aload_n hx hb dX1_screamsBy_35 rfl (lv_at hl 1 rfl) ?_
    refine g_fr X hI hf fX1_1 q461 rfl rfl dX1_screamsBy_36 (fun v101 hf => ?_)
    refine g_frN X hI hf fX3_3 q264 rfl rfl dX1_screamsBy_39 (fun v102 hf => ?_)
    refine lv_iload hx hb dX1_screamsBy_42 (lv_at hl 0 rfl) ?_
    refine lv_iconst (v := (-1 : Int32)) hx hb dX1_screamsBy_44 (by decide) ?_
    refine g_si0 X hI hf dX1_screamsBy_45 (fun h H locs hf hI => ?_)
    exact b_X1_screamsBy_46 X _ _ _ _ _ _ _ _ _ _ _ hf hI (lv_sub hl [1, 2, 3, 4, 0] rfl)
def f_X1_screamsBy (a0 : Nat) (a1 : Nat) (x2 : Int32) (x3 : Int32) : gM Int32 :=
    gB (gFR a0 0 1) fun v1 =>
    gB (gFI v1 2 6) fun v2 =>
    gIf (x2 = v2)
    (f_X1_screamsBy_27 a0 a1 x2 x3 (-1 : Int32))
    (gB (gFR a0 0 1) fun v3 =>
    gB (gFR v3 2 0) fun v4 =>
    gB (gAR v4 4 x2) fun v5 =>
    gB (gFI v5 3 3) fun v6 =>
    f_X1_screamsBy_27 a0 a1 x2 x3 v6)
set_option maxHeartbeats 4000000 in
set_option maxRecDepth 100000 in
theorem m_X1_screamsBy {G : gG} {l : Launch} (hfl : l.stackTraces = false) {a0 : Nat} {a1 : Nat} {x2 : Int32} {x3 : Int32} {h h' : g_H} {r : Int32} (hf : (f_X1_screamsBy a0 a1 x2 x3).1 h = some (r, h')) : gMet G l yX1_screamsBy (Cond.code yX1_screamsBy cX1_screamsBy 5 (some .boolean)) 102 1892 [.ref a0, .ref a1, .int x2, .int x3] h (.inl (g_wI r)) h' := by
  refine g_head hfl ((f_X1_screamsBy a0 a1 x2 x3).2 h r h' hf) (plainFor_of_name (by decide)) (Nat.le_of_ble_eq_true rfl) (fun p e s m below meth c H locs cells slots ls X hI hl9 => ?_)
  have hl : lv_has ls 5 [(0, .ref a0), (1, .ref a1), (2, .int x2), (3, .int x3)] := hl9
  have hx := X.1
  have hb := X.2.1
  have hown := X.2.2.2.1
  have hts := X.2.2.2.2.1
  unfold f_X1_screamsBy at hf
  refine lv_iload_n hx hb dX1_screamsBy_0 rfl (lv_at hl 2 rfl) ?_
  refine lv_aload_n hx hb dX1_screamsBy_1 rfl (lv_at hl 0 rfl) ?_
  refine g_fr X hI hf fX1_1 q461 rfl rfl dX1_screamsBy_2 (fun v1 hf => ?_)
  refine g_fiN X hI hf fX3_6 q268 rfl rfl dX1_screamsBy_5 (fun v2 hf => ?_)
  refine lv_icmp_ne (tgt := 15) hx hb dX1_screamsBy_8 (by decide) (fun c8 => ?_) (fun c8 => ?_)
  · have hf := g_f c8 hf
    refine lv_aload_n hx hb dX1_screamsBy_15 rfl (lv_at hl 0 rfl) ?_
    refine g_fr X hI hf fX1_1 q461 rfl rfl dX1_screamsBy_16 (fun v3 hf => ?_)
    refine g_frN X hI hf fX3_0 q254 rfl rfl dX1_screamsBy_19 (fun v4 hf => ?_)
    refine lv_iload_n hx hb dX1_screamsBy_22 rfl (lv_at hl 2 rfl) ?_
    refine g_ar4 X hI hf dX1_screamsBy_23 (fun v5 hf => ?_)
    refine g_fiN X hI hf fX4_3 q210 rfl rfl dX1_screamsBy_24 (fun v6 hf => ?_)
    exact b_X1_screamsBy_27 X _ _ _ _ _ _ _ _ _ _ _ hf hI (lv_sub hl [0, 1, 2, 3] rfl)
  · have hf := g_t c8 hf
    refine lv_iconst (v := (-1 : Int32)) hx hb dX1_screamsBy_11 (by decide) ?_
    refine lv_goto (tgt := 27) hx hb dX1_screamsBy_12 (by decide) ?_
    exact b_X1_screamsBy_27 X _ _ _ _ _ _ _ _ _ _ _ hf hI (lv_sub hl [0, 1, 2, 3] rfl)
/-! X1_usher -/
abbrev w_X1_usher_160 (G : gG) (l : Launch) (p : Program) (e : Env) (s : State) (m : MethodId) (args : Array Value) (below : List Frame) (meth : Method) (c : Code) (h0 : g_H) (r : (Int32 ⊕ gE)) (h' : g_H) (k : Nat → Nat → Int32 → Int32 → Int32 → gM (Int32 ⊕ gE)) : Prop := ∀ (a0 : Nat) (a2 : Nat) (x3 : Int32) (x4 : Int32) (x5 : Int32) (h : g_H) (H : Heap) (locs : List Loc) (cells slots : Nat) (ls : Array Slot), (k a0 a2 x3 x4 x5).1 h = some (r, h') → gI G h0 h H locs cells slots → lv_has ls 9 [(0, .ref a0), (2, .ref a2), (3, .int x3), (4, .int x4), (5, .int x5)] → W p l e (g_rm 103 1916 h0 h') s m args below meth c H locs cells slots (gQ G below args s h0 h' (g_w g_wI r)) (F0 m 160 ls [])
abbrev w_X1_usher_139 (G : gG) (l : Launch) (p : Program) (e : Env) (s : State) (m : MethodId) (args : Array Value) (below : List Frame) (meth : Method) (c : Code) (h0 : g_H) (r : (Int32 ⊕ gE)) (h' : g_H) (k : Nat → Nat → Int32 → Int32 → Int32 → Int32 → Int32 → Int32 → gM (Int32 ⊕ gE)) : Prop := ∀ (a0 : Nat) (a2 : Nat) (x3 : Int32) (x4 : Int32) (x5 : Int32) (x6 : Int32) (x8 : Int32) (u0 : Int32) (h : g_H) (H : Heap) (locs : List Loc) (cells slots : Nat) (ls : Array Slot), (k a0 a2 x3 x4 x5 x6 x8 u0).1 h = some (r, h') → gI G h0 h H locs cells slots → lv_has ls 9 [(0, .ref a0), (2, .ref a2), (3, .int x3), (4, .int x4), (5, .int x5), (6, .int x6), (8, .int x8)] → W p l e (g_rm 103 1916 h0 h') s m args below meth c H locs cells slots (gQ G below args s h0 h' (g_w g_wI r)) (F0 m 139 ls [.int u0])
abbrev w_X1_usher_134 (G : gG) (l : Launch) (p : Program) (e : Env) (s : State) (m : MethodId) (args : Array Value) (below : List Frame) (meth : Method) (c : Code) (h0 : g_H) (r : (Int32 ⊕ gE)) (h' : g_H) (k : Nat → Nat → Int32 → Int32 → Int32 → Int32 → Int32 → gM (Int32 ⊕ gE)) : Prop := ∀ (a0 : Nat) (a2 : Nat) (x3 : Int32) (x4 : Int32) (x5 : Int32) (x6 : Int32) (x8 : Int32) (h : g_H) (H : Heap) (locs : List Loc) (cells slots : Nat) (ls : Array Slot), (k a0 a2 x3 x4 x5 x6 x8).1 h = some (r, h') → gI G h0 h H locs cells slots → lv_has ls 9 [(0, .ref a0), (2, .ref a2), (3, .int x3), (4, .int x4), (5, .int x5), (6, .int x6), (8, .int x8)] → W p l e (g_rm 103 1916 h0 h') s m args below meth c H locs cells slots (gQ G below args s h0 h' (g_w g_wI r)) (F0 m 134 ls [])
abbrev w_X1_usher_138 (G : gG) (l : Launch) (p : Program) (e : Env) (s : State) (m : MethodId) (args : Array Value) (below : List Frame) (meth : Method) (c : Code) (h0 : g_H) (r : (Int32 ⊕ gE)) (h' : g_H) (k : Nat → Nat → Int32 → Int32 → Int32 → Int32 → Int32 → gM (Int32 ⊕ gE)) : Prop := ∀ (a0 : Nat) (a2 : Nat) (x3 : Int32) (x4 : Int32) (x5 : Int32) (x6 : Int32) (x8 : Int32) (h : g_H) (H : Heap) (locs : List Loc) (cells slots : Nat) (ls : Array Slot), (k a0 a2 x3 x4 x5 x6 x8).1 h = some (r, h') → gI G h0 h H locs cells slots → lv_has ls 9 [(0, .ref a0), (2, .ref a2), (3, .int x3), (4, .int x4), (5, .int x5), (6, .int x6), (8, .int x8)] → W p l e (g_rm 103 1916 h0 h') s m args below meth c H locs cells slots (gQ G below args s h0 h' (g_w g_wI r)) (F0 m 138 ls [])
abbrev w_X1_usher_158 (G : gG) (l : Launch) (p : Program) (e : Env) (s : State) (m : MethodId) (args : Array Value) (below : List Frame) (meth : Method) (c : Code) (h0 : g_H) (r : (Int32 ⊕ gE)) (h' : g_H) (k : Nat → Nat → Int32 → Int32 → Int32 → Int32 → gM (Int32 ⊕ gE)) : Prop := ∀ (a0 : Nat) (a2 : Nat) (x4 : Int32) (x5 : Int32) (u0 : Int32) (u1 : Int32) (h : g_H) (H : Heap) (locs : List Loc) (cells slots : Nat) (ls : Array Slot), (k a0 a2 x4 x5 u0 u1).1 h = some (r, h') → gI G h0 h H locs cells slots → lv_has ls 9 [(0, .ref a0), (2, .ref a2), (4, .int x4), (5, .int x5)] → W p l e (g_rm 103 1916 h0 h') s m args below meth c H locs cells slots (gQ G below args s h0 h' (g_w g_wI r)) (F0 m 158 ls [.int u1, .int u0])
abbrev w_X1_usher_147 (G : gG) (l : Launch) (p : Program) (e : Env) (s : State) (m : MethodId) (args : Array Value) (below : List Frame) (meth : Method) (c : Code) (h0 : g_H) (r : (Int32 ⊕ gE)) (h' : g_H) (k : Nat → Nat → Int32 → Int32 → Int32 → Int32 → gM (Int32 ⊕ gE)) : Prop := ∀ (a0 : Nat) (a2 : Nat) (x3 : Int32) (x4 : Int32) (x5 : Int32) (x7 : Int32) (h : g_H) (H : Heap) (locs : List Loc) (cells slots : Nat) (ls : Array Slot), (k a0 a2 x3 x4 x5 x7).1 h = some (r, h') → gI G h0 h H locs cells slots → lv_has ls 9 [(0, .ref a0), (2, .ref a2), (3, .int x3), (4, .int x4), (5, .int x5), (7, .int x7)] → W p l e (g_rm 103 1916 h0 h') s m args below meth c H locs cells slots (gQ G below args s h0 h' (g_w g_wI r)) (F0 m 147 ls [])
abbrev w_X1_usher_76 (G : gG) (l : Launch) (p : Program) (e : Env) (s : State) (m : MethodId) (args : Array Value) (below : List Frame) (meth : Method) (c : Code) (h0 : g_H) (r : (Int32 ⊕ gE)) (h' : g_H) (k : Nat → Nat → Int32 → Int32 → Int32 → Int32 → Int32 → Int32 → gM (Int32 ⊕ gE)) : Prop := ∀ (a0 : Nat) (a2 : Nat) (x3 : Int32) (x4 : Int32) (x5 : Int32) (x6 : Int32) (x7 : Int32) (x8 : Int32) (h : g_H) (H : Heap) (locs : List Loc) (cells slots : Nat) (ls : Array Slot), (k a0 a2 x3 x4 x5 x6 x7 x8).1 h = some (r, h') → gI G h0 h H locs cells slots → lv_has ls 9 [(0, .ref a0), (2, .ref a2), (3, .int x3), (4, .int x4), (5, .int x5), (6, .int x6), (7, .int x7), (8, .int x8)] → W p l e (g_rm 103 1916 h0 h') s m args below meth c H locs cells slots (gQ G below args s h0 h' (g_w g_wI r)) (F0 m 76 ls [])
abbrev w_X1_usher_166 (G : gG) (l : Launch) (p : Program) (e : Env) (s : State) (m : MethodId) (args : Array Value) (below : List Frame) (meth : Method) (c : Code) (h0 : g_H) (r : (Int32 ⊕ gE)) (h' : g_H) (k : Nat → Nat → Int32 → Int32 → gM (Int32 ⊕ gE)) : Prop := ∀ (a0 : Nat) (a2 : Nat) (x3 : Int32) (x4 : Int32) (h : g_H) (H : Heap) (locs : List Loc) (cells slots : Nat) (ls : Array Slot), (k a0 a2 x3 x4).1 h = some (r, h') → gI G h0 h H locs cells slots → lv_has ls 9 [(0, .ref a0), (2, .ref a2), (3, .int x3), (4, .int x4)] → W p l e (g_rm 103 1916 h0 h') s m args below meth c H locs cells slots (gQ G below args s h0 h' (g_w g_wI r)) (F0 m 166 ls [])
abbrev w_X1_usher_26 (G : gG) (l : Launch) (p : Program) (e : Env) (s : State) (m : MethodId) (args : Array Value) (below : List Frame) (meth : Method) (c : Code) (h0 : g_H) (r : (Int32 ⊕ gE)) (h' : g_H) (k : Nat → Nat → Int32 → Int32 → Int32 → gM (Int32 ⊕ gE)) : Prop := ∀ (a0 : Nat) (a2 : Nat) (x3 : Int32) (x4 : Int32) (x5 : Int32) (h : g_H) (H : Heap) (locs : List Loc) (cells slots : Nat) (ls : Array Slot), (k a0 a2 x3 x4 x5).1 h = some (r, h') → gI G h0 h H locs cells slots → lv_has ls 9 [(0, .ref a0), (2, .ref a2), (3, .int x3), (4, .int x4), (5, .int x5)] → W p l e (g_rm 103 1916 h0 h') s m args below meth c H locs cells slots (gQ G below args s h0 h' (g_w g_wI r)) (F0 m 26 ls [])
abbrev w_X1_usher_172 (G : gG) (l : Launch) (p : Program) (e : Env) (s : State) (m : MethodId) (args : Array Value) (below : List Frame) (meth : Method) (c : Code) (h0 : g_H) (r : (Int32 ⊕ gE)) (h' : g_H) (k : Int32 → gM (Int32 ⊕ gE)) : Prop := ∀ (x3 : Int32) (h : g_H) (H : Heap) (locs : List Loc) (cells slots : Nat) (ls : Array Slot), (k x3).1 h = some (r, h') → gI G h0 h H locs cells slots → lv_has ls 9 [(3, .int x3)] → W p l e (g_rm 103 1916 h0 h') s m args below meth c H locs cells slots (gQ G below args s h0 h' (g_w g_wI r)) (F0 m 172 ls [])
abbrev w_X1_usher_11 (G : gG) (l : Launch) (p : Program) (e : Env) (s : State) (m : MethodId) (args : Array Value) (below : List Frame) (meth : Method) (c : Code) (h0 : g_H) (r : (Int32 ⊕ gE)) (h' : g_H) (k : Nat → Nat → Int32 → Int32 → gM (Int32 ⊕ gE)) : Prop := ∀ (a0 : Nat) (a2 : Nat) (x3 : Int32) (x4 : Int32) (h : g_H) (H : Heap) (locs : List Loc) (cells slots : Nat) (ls : Array Slot), (k a0 a2 x3 x4).1 h = some (r, h') → gI G h0 h H locs cells slots → lv_has ls 9 [(0, .ref a0), (2, .ref a2), (3, .int x3), (4, .int x4)] → W p l e (g_rm 103 1916 h0 h') s m args below meth c H locs cells slots (gQ G below args s h0 h' (g_w g_wI r)) (F0 m 11 ls [])
def f_X1_usher_160 (k26 : Nat → Nat → Int32 → Int32 → Int32 → gM (Int32 ⊕ gE)) (a0 : Nat) (a2 : Nat) (x3 : Int32) (x4 : Int32) (x5 : Int32) : gM (Int32 ⊕ gE) :=
    k26 a0 a2 x3 x4 (x5 + (1 : Int32))
set_option maxHeartbeats 4000000 in
set_option maxRecDepth 100000 in
theorem b_X1_usher_160 {G : gG} {l : Launch} {p : Program} {e : Env} {s : State} {m : MethodId} {args : Array Value} {below : List Frame} {meth : Method} {c : Code} {h0 : g_H} {r : (Int32 ⊕ gE)} {h' : g_H} (X : gX G l yX1_usher.cls cX1_usher 9 (some .int) [] yX1_usher.name p s m args meth c) {k26 : Nat → Nat → Int32 → Int32 → Int32 → gM (Int32 ⊕ gE)} (K26 : w_X1_usher_26 G l p e s m args below meth c h0 r h' k26) : w_X1_usher_160 G l p e s m args below meth c h0 r h' (f_X1_usher_160 k26) := by
  have hx := X.1
  have hb := X.2.1
  have hown := X.2.2.2.1
  have hts := X.2.2.2.2.1
  intro a0 a2 x3 x4 x5 h H locs cells slots ls hf hI hl
  unfold f_X1_usher_160 at hf
  refine lv_iinc (v := (x5 + (1 : Int32))) (lv' := [(5, .int (x5 + (1 : Int32))), (0, .ref a0), (2, .ref a2), (3, .int x3), (4, .int x4)]) hx hb dX1_usher_160 hl (k := 4) rfl rfl (by decide) rfl (fun ls hl => ?_)
  refine lv_goto (tgt := 26) hx hb dX1_usher_163 (by decide) ?_
  exact K26 _ _ _ _ _ _ _ _ _ _ _ hf hI (lv_sub hl [1, 2, 3, 4, 0] rfl)
def f_X1_usher_139 (k76 : Nat → Nat → Int32 → Int32 → Int32 → Int32 → Int32 → Int32 → gM (Int32 ⊕ gE)) (a0 : Nat) (a2 : Nat) (x3 : Int32) (x4 : Int32) (x5 : Int32) (x6 : Int32) (x8 : Int32) (u0 : Int32) : gM (Int32 ⊕ gE) :=
    k76 a0 a2 x3 x4 x5 x6 u0 (x8 + (1 : Int32))
set_option maxHeartbeats 4000000 in
set_option maxRecDepth 100000 in
theorem b_X1_usher_139 {G : gG} {l : Launch} {p : Program} {e : Env} {s : State} {m : MethodId} {args : Array Value} {below : List Frame} {meth : Method} {c : Code} {h0 : g_H} {r : (Int32 ⊕ gE)} {h' : g_H} (X : gX G l yX1_usher.cls cX1_usher 9 (some .int) [] yX1_usher.name p s m args meth c) {k76 : Nat → Nat → Int32 → Int32 → Int32 → Int32 → Int32 → Int32 → gM (Int32 ⊕ gE)} (K76 : w_X1_usher_76 G l p e s m args below meth c h0 r h' k76) : w_X1_usher_139 G l p e s m args below meth c h0 r h' (f_X1_usher_139 k76) := by
  have hx := X.1
  have hb := X.2.1
  have hown := X.2.2.2.1
  have hts := X.2.2.2.2.1
  intro a0 a2 x3 x4 x5 x6 x8 u0 h H locs cells slots ls hf hI hl
  unfold f_X1_usher_139 at hf
  refine lv_istore (lv' := [(7, .int u0), (0, .ref a0), (2, .ref a2), (3, .int x3), (4, .int x4), (5, .int x5), (6, .int x6), (8, .int x8)]) hx hb dX1_usher_139 hl (by decide) rfl (fun ls hl => ?_)
  refine lv_iinc (v := (x8 + (1 : Int32))) (lv' := [(8, .int (x8 + (1 : Int32))), (7, .int u0), (0, .ref a0), (2, .ref a2), (3, .int x3), (4, .int x4), (5, .int x5), (6, .int x6)]) hx hb dX1_usher_141 hl (k := 7) rfl rfl (by decide) rfl (fun ls hl => ?_)
  refine lv_goto (tgt := 76) hx hb dX1_usher_144 (by decide) ?_
  exact K76 _ _ _ _ _ _ _ _ _ _ _ _ _ _ hf hI (lv_sub hl [2, 3, 4, 5, 6, 7, 1, 0] rfl)
def f_X1_usher_134 (k76 : Nat → Nat → Int32 → Int32 → Int32 → Int32 → Int32 → Int32 → gM (Int32 ⊕ gE)) (a0 : Nat) (a2 : Nat) (x3 : Int32) (x4 : Int32) (x5 : Int32) (x6 : Int32) (x8 : Int32) : gM (Int32 ⊕ gE) :=
    f_X1_usher_139 k76 a0 a2 x3 x4 x5 x6 x8 (1 : Int32)
set_option maxHeartbeats 4000000 in
set_option maxRecDepth 100000 in
theorem b_X1_usher_134 {G : gG} {l : Launch} {p : Program} {e : Env} {s : State} {m : MethodId} {args : Array Value} {below : List Frame} {meth : Method} {c : Code} {h0 : g_H} {r : (Int32 ⊕ gE)} {h' : g_H} (X : gX G l yX1_usher.cls cX1_usher 9 (some .int) [] yX1_usher.name p s m args meth c) {k76 : Nat → Nat → Int32 → Int32 → Int32 → Int32 → Int32 → Int32 → gM (Int32 ⊕ gE)} (K76 : w_X1_usher_76 G l p e s m args below meth c h0 r h' k76) : w_X1_usher_134 G l p e s m args below meth c h0 r h' (f_X1_usher_134 k76) := by
  have hx := X.1
  have hb := X.2.1
  have hown := X.2.2.2.1
  have hts := X.2.2.2.2.1
  intro a0 a2 x3 x4 x5 x6 x8 h H locs cells slots ls hf hI hl
  unfold f_X1_usher_134 at hf
  refine lv_iconst (v := (1 : Int32)) hx hb dX1_usher_134 (by decide) ?_
  refine lv_goto (tgt := 139) hx hb dX1_usher_135 (by decide) ?_
  exact b_X1_usher_139 X K76 _ _ _ _ _ _ _ _ _ _ _ _ _ _ hf hI (lv_sub hl [0, 1, 2, 3, 4, 5, 6] rfl)
def f_X1_usher_138 (k76 : Nat → Nat → Int32 → Int32 → Int32 → Int32 → Int32 → Int32 → gM (Int32 ⊕ gE)) (a0 : Nat) (a2 : Nat) (x3 : Int32) (x4 : Int32) (x5 : Int32) (x6 : Int32) (x8 : Int32) : gM (Int32 ⊕ gE) :=
    f_X1_usher_139 k76 a0 a2 x3 x4 x5 x6 x8 (0 : Int32)
set_option maxHeartbeats 4000000 in
set_option maxRecDepth 100000 in
theorem b_X1_usher_138 {G : gG} {l : Launch} {p : Program} {e : Env} {s : State} {m : MethodId} {args : Array Value} {below : List Frame} {meth : Method} {c : Code} {h0 : g_H} {r : (Int32 ⊕ gE)} {h' : g_H} (X : gX G l yX1_usher.cls cX1_usher 9 (some .int) [] yX1_usher.name p s m args meth c) {k76 : Nat → Nat → Int32 → Int32 → Int32 → Int32 → Int32 → Int32 → gM (Int32 ⊕ gE)} (K76 : w_X1_usher_76 G l p e s m args below meth c h0 r h' k76) : w_X1_usher_138 G l p e s m args below meth c h0 r h' (f_X1_usher_138 k76) := by
  have hx := X.1
  have hb := X.2.1
  have hown := X.2.2.2.1
  have hts := X.2.2.2.2.1
  intro a0 a2 x3 x4 x5 x6 x8 h H locs cells slots ls hf hI hl
  unfold f_X1_usher_138 at hf
  refine lv_iconst (v := (0 : Int32)) hx hb dX1_usher_138 (by decide) ?_
  exact b_X1_usher_139 X K76 _ _ _ _ _ _ _ _ _ _ _ _ _ _ hf hI (lv_sub hl [0, 1, 2, 3, 4, 5, 6] rfl)
def f_X1_usher_158 (k26 : Nat → Nat → Int32 → Int32 → Int32 → gM (Int32 ⊕ gE)) (a0 : Nat) (a2 : Nat) (x4 : Int32) (x5 : Int32) (u0 : Int32) (u1 : Int32) : gM (Int32 ⊕ gE) :=
    f_X1_usher_160 k26 a0 a2 (u0 + u1) x4 x5
set_option maxHeartbeats 4000000 in
set_option maxRecDepth 100000 in
theorem b_X1_usher_158 {G : gG} {l : Launch} {p : Program} {e : Env} {s : State} {m : MethodId} {args : Array Value} {below : List Frame} {meth : Method} {c : Code} {h0 : g_H} {r : (Int32 ⊕ gE)} {h' : g_H} (X : gX G l yX1_usher.cls cX1_usher 9 (some .int) [] yX1_usher.name p s m args meth c) {k26 : Nat → Nat → Int32 → Int32 → Int32 → gM (Int32 ⊕ gE)} (K26 : w_X1_usher_26 G l p e s m args below meth c h0 r h' k26) : w_X1_usher_158 G l p e s m args below meth c h0 r h' (f_X1_usher_158 k26) := by
  have hx := X.1
  have hb := X.2.1
  have hown := X.2.2.2.1
  have hts := X.2.2.2.2.1
  intro a0 a2 x4 x5 u0 u1 h H locs cells slots ls hf hI hl
  unfold f_X1_usher_158 at hf
  refine lv_iadd hx hb dX1_usher_158 ?_
  refine lv_istore_n (lv' := [(3, .int (u0 + u1)), (0, .ref a0), (2, .ref a2), (4, .int x4), (5, .int x5)]) hx hb dX1_usher_159 rfl hl (by decide) rfl (fun ls hl => ?_)
  exact b_X1_usher_160 X K26 _ _ _ _ _ _ _ _ _ _ _ hf hI (lv_sub hl [1, 2, 0, 3, 4] rfl)
def f_X1_usher_147 (k26 : Nat → Nat → Int32 → Int32 → Int32 → gM (Int32 ⊕ gE)) (a0 : Nat) (a2 : Nat) (x3 : Int32) (x4 : Int32) (x5 : Int32) (x7 : Int32) : gM (Int32 ⊕ gE) :=
    gIf (x7 = 0)
    (f_X1_usher_158 k26 a0 a2 x4 x5 x3 (1 : Int32))
    (f_X1_usher_158 k26 a0 a2 x4 x5 x3 (0 : Int32))
set_option maxHeartbeats 4000000 in
set_option maxRecDepth 100000 in
theorem b_X1_usher_147 {G : gG} {l : Launch} {p : Program} {e : Env} {s : State} {m : MethodId} {args : Array Value} {below : List Frame} {meth : Method} {c : Code} {h0 : g_H} {r : (Int32 ⊕ gE)} {h' : g_H} (X : gX G l yX1_usher.cls cX1_usher 9 (some .int) [] yX1_usher.name p s m args meth c) {k26 : Nat → Nat → Int32 → Int32 → Int32 → gM (Int32 ⊕ gE)} (K26 : w_X1_usher_26 G l p e s m args below meth c h0 r h' k26) : w_X1_usher_147 G l p e s m args below meth c h0 r h' (f_X1_usher_147 k26) := by
  have hx := X.1
  have hb := X.2.1
  have hown := X.2.2.2.1
  have hts := X.2.2.2.2.1
  intro a0 a2 x3 x4 x5 x7 h H locs cells slots ls hf hI hl
  unfold f_X1_usher_147 at hf
  refine lv_iload_n hx hb dX1_usher_147 rfl (lv_at hl 2 rfl) ?_
  refine lv_iload hx hb dX1_usher_148 (lv_at hl 5 rfl) ?_
  refine lv_if_eq (tgt := 157) hx hb dX1_usher_150 (by decide) (fun c150 => ?_) (fun c150 => ?_)
  · have hf := g_t c150 hf
    refine lv_iconst (v := (1 : Int32)) hx hb dX1_usher_157 (by decide) ?_
    exact b_X1_usher_158 X K26 _ _ _ _ _ _ _ _ _ _ _ _ hf hI (lv_sub hl [0, 1, 3, 4] rfl)
  · have hf := g_f c150 hf
    refine lv_iconst (v := (0 : Int32)) hx hb dX1_usher_153 (by decide) ?_
    refine lv_goto (tgt := 158) hx hb dX1_usher_154 (by decide) ?_
    exact b_X1_usher_158 X K26 _ _ _ _ _ _ _ _ _ _ _ _ hf hI (lv_sub hl [0, 1, 3, 4] rfl)
def f_X1_usher_76 (k26 : Nat → Nat → Int32 → Int32 → Int32 → gM (Int32 ⊕ gE)) : Nat → Nat → Nat → Int32 → Int32 → Int32 → Int32 → Int32 → Int32 → gM (Int32 ⊕ gE)
  | 0, _, _, _, _, _, _, _, _ => gFail
  | n + 1, a0, a2, x3, x4, x5, x6, x7, x8 =>
    gB (gFR a0 0 1) fun v101 =>
    gB (gFI v101 2 6) fun v102 =>
    gIf (v102 < x8)
    (f_X1_usher_147 k26 a0 a2 x3 x4 x5 x7)
    (gIf (x7 = 0)
    (gB (gCk a0 0) fun _ =>
    gB (f_X1_isChoice a0 x8) fun r103 =>
    gIf (r103 = 0)
    (f_X1_usher_138 (f_X1_usher_76 k26 n) a0 a2 x3 x4 x5 x6 x8)
    (gIf (x6 = 0)
    (gB (gCk a0 0) fun _ =>
    gB (f_X1_screamsBy a0 a2 x8 x5) fun r104 =>
    gIf (r104 = 0)
    (f_X1_usher_138 (f_X1_usher_76 k26 n) a0 a2 x3 x4 x5 x6 x8)
    (f_X1_usher_134 (f_X1_usher_76 k26 n) a0 a2 x3 x4 x5 x6 x8))
    (gB (gCk a0 0) fun _ =>
    gB (f_X1_screamsBy a0 a2 x4 x8) fun r105 =>
    gIf (r105 = 0)
    (f_X1_usher_134 (f_X1_usher_76 k26 n) a0 a2 x3 x4 x5 x6 x8)
    (f_X1_usher_138 (f_X1_usher_76 k26 n) a0 a2 x3 x4 x5 x6 x8))))
    (f_X1_usher_147 k26 a0 a2 x3 x4 x5 x7))
set_option maxHeartbeats 4000000 in
set_option maxRecDepth 100000 in
theorem b_X1_usher_76 {G : gG} {l : Launch} {p : Program} {e : Env} {s : State} {m : MethodId} {args : Array Value} {below : List Frame} {meth : Method} {c : Code} {h0 : g_H} {r : (Int32 ⊕ gE)} {h' : g_H} (X : gX G l yX1_usher.cls cX1_usher 9 (some .int) [] yX1_usher.name p s m args meth c) {k26 : Nat → Nat → Int32 → Int32 → Int32 → gM (Int32 ⊕ gE)} (K26 : w_X1_usher_26 G l p e s m args below meth c h0 r h' k26) : ∀ n : Nat, w_X1_usher_76 G l p e s m args below meth c h0 r h' (f_X1_usher_76 k26 n) := by
  have hx := X.1
  have hb := X.2.1
  have hown := X.2.2.2.1
  have hts := X.2.2.2.2.1
  intro n
  induction n with
  | zero =>
    intro a0 a2 x3 x4 x5 x6 x7 x8 h H locs cells slots ls hf hI hl
    exact (gFail_f hf).elim
  | succ n ih =>
    intro a0 a2 x3 x4 x5 x6 x7 x8 h H locs cells slots ls hf hI hl
    rw [f_X1_usher_76] at hf
    refine lv_iload hx hb dX1_usher_76 (lv_at hl 7 rfl) ?_
    refine lv_aload_n hx hb dX1_usher_78 rfl (lv_at hl 0 rfl) ?_
    refine g_fr X hI hf fX1_1 q461 rfl rfl dX1_usher_79 (fun v101 hf => ?_)
    refine g_fiN X hI hf fX3_6 q268 rfl rfl dX1_usher_82 (fun v102 hf => ?_)
    refine lv_icmp_gt (tgt := 147) hx hb dX1_usher_85 (by decide) (fun c85 => ?_) (fun c85 => ?_)
    · have hf := g_t c85 hf
      exact b_X1_usher_147 X K26 _ _ _ _ _ _ _ _ _ _ _ _ hf hI (lv_sub hl [0, 1, 2, 3, 4, 6] rfl)
    · have hf := g_f c85 hf
      refine lv_iload hx hb dX1_usher_88 (lv_at hl 6 rfl) ?_
      refine lv_if_ne (tgt := 147) hx hb dX1_usher_90 (by decide) (fun c90 => ?_) (fun c90 => ?_)
      · have hf := g_f c90 hf
        exact b_X1_usher_147 X K26 _ _ _ _ _ _ _ _ _ _ _ _ hf hI (lv_sub hl [0, 1, 2, 3, 4, 6] rfl)
      · have hf := g_t c90 hf
        refine lv_aload_n hx hb dX1_usher_93 rfl (lv_at hl 0 rfl) ?_
        refine lv_iload hx hb dX1_usher_94 (lv_at hl 7 rfl) ?_
        obtain ⟨hs, hf⟩ := gCk_b hf
        refine g_cBI hI hf (fun v9 h9 e9 l9 l9' => g_rV X hI l9 l9' ⟨Nat.le_refl _, Nat.le_refl _⟩ (As := [.int x8]) (m_X1_isChoice X.2.2.2.2.2.2.2.2.2.2.1 e9) ydX1_isChoice hs rfl rfl q1367 q1369 qs41 q121 q1370 rfl (Nat.le_of_ble_eq_true rfl) (Nat.le_of_ble_eq_true rfl) hl.1 rfl (Nat.le_of_ble_eq_true rfl) dX1_usher_96) (fun r103 h H locs cells slots hf hI => ?_)
        refine lv_if_eq (tgt := 138) hx hb dX1_usher_99 (by decide) (fun c99 => ?_) (fun c99 => ?_)
        · have hf := g_t c99 hf
          exact b_X1_usher_138 X ih _ _ _ _ _ _ _ _ _ _ _ _ _ hf hI (lv_sub hl [0, 1, 2, 3, 4, 5, 7] rfl)
        · have hf := g_f c99 hf
          refine lv_iload hx hb dX1_usher_102 (lv_at hl 5 rfl) ?_
          refine lv_if_eq (tgt := 122) hx hb dX1_usher_104 (by decide) (fun c104 => ?_) (fun c104 => ?_)
          · have hf := g_t c104 hf
            refine lv_aload_n hx hb dX1_usher_122 rfl (lv_at hl 0 rfl) ?_
            refine lv_aload_n hx hb dX1_usher_123 rfl (lv_at hl 1 rfl) ?_
            refine lv_iload hx hb dX1_usher_124 (lv_at hl 7 rfl) ?_
            refine lv_iload hx hb dX1_usher_126 (lv_at hl 4 rfl) ?_
            obtain ⟨hs, hf⟩ := gCk_b hf
            refine g_cBI hI hf (fun v9 h9 e9 l9 l9' => g_rV X hI l9 l9' ⟨Nat.le_refl _, Nat.le_refl _⟩ (As := [.ref a2, .int x8, .int x5]) (m_X1_screamsBy X.2.2.2.2.2.2.2.2.2.2.1 e9) ydX1_screamsBy hs rfl rfl q1371 q1373 qs42 q121 q1374 rfl (Nat.le_of_ble_eq_true rfl) (Nat.le_of_ble_eq_true rfl) hl.1 rfl (Nat.le_of_ble_eq_true rfl) dX1_usher_128) (fun r104 h H locs cells slots hf hI => ?_)
            refine lv_if_eq (tgt := 138) hx hb dX1_usher_131 (by decide) (fun c131 => ?_) (fun c131 => ?_)
            · have hf := g_t c131 hf
              exact b_X1_usher_138 X ih _ _ _ _ _ _ _ _ _ _ _ _ _ hf hI (lv_sub hl [0, 1, 2, 3, 4, 5, 7] rfl)
            · have hf := g_f c131 hf
              exact b_X1_usher_134 X ih _ _ _ _ _ _ _ _ _ _ _ _ _ hf hI (lv_sub hl [0, 1, 2, 3, 4, 5, 7] rfl)
          · have hf := g_f c104 hf
            refine lv_aload_n hx hb dX1_usher_107 rfl (lv_at hl 0 rfl) ?_
            refine lv_aload_n hx hb dX1_usher_108 rfl (lv_at hl 1 rfl) ?_
            refine lv_iload hx hb dX1_usher_109 (lv_at hl 3 rfl) ?_
            refine lv_iload hx hb dX1_usher_111 (lv_at hl 7 rfl) ?_
            obtain ⟨hs, hf⟩ := gCk_b hf
            refine g_cBI hI hf (fun v9 h9 e9 l9 l9' => g_rV X hI l9 l9' ⟨Nat.le_refl _, Nat.le_refl _⟩ (As := [.ref a2, .int x4, .int x8]) (m_X1_screamsBy X.2.2.2.2.2.2.2.2.2.2.1 e9) ydX1_screamsBy hs rfl rfl q1371 q1373 qs42 q121 q1374 rfl (Nat.le_of_ble_eq_true rfl) (Nat.le_of_ble_eq_true rfl) hl.1 rfl (Nat.le_of_ble_eq_true rfl) dX1_usher_113) (fun r105 h H locs cells slots hf hI => ?_)
            refine lv_if_ne (tgt := 138) hx hb dX1_usher_116 (by decide) (fun c116 => ?_) (fun c116 => ?_)
            · have hf := g_f c116 hf
              exact b_X1_usher_138 X ih _ _ _ _ _ _ _ _ _ _ _ _ _ hf hI (lv_sub hl [0, 1, 2, 3, 4, 5, 7] rfl)
            · have hf := g_t c116 hf
              refine lv_goto (tgt := 134) hx hb dX1_usher_119 (by decide) ?_
              exact b_X1_usher_134 X ih _ _ _ _ _ _ _ _ _ _ _ _ _ hf hI (lv_sub hl [0, 1, 2, 3, 4, 5, 7] rfl)
def f_X1_usher_166 (k11 : Nat → Nat → Int32 → Int32 → gM (Int32 ⊕ gE)) (a0 : Nat) (a2 : Nat) (x3 : Int32) (x4 : Int32) : gM (Int32 ⊕ gE) :=
    k11 a0 a2 x3 (x4 + (1 : Int32))
set_option maxHeartbeats 4000000 in
set_option maxRecDepth 100000 in
theorem b_X1_usher_166 {G : gG} {l : Launch} {p : Program} {e : Env} {s : State} {m : MethodId} {args : Array Value} {below : List Frame} {meth : Method} {c : Code} {h0 : g_H} {r : (Int32 ⊕ gE)} {h' : g_H} (X : gX G l yX1_usher.cls cX1_usher 9 (some .int) [] yX1_usher.name p s m args meth c) {k11 : Nat → Nat → Int32 → Int32 → gM (Int32 ⊕ gE)} (K11 : w_X1_usher_11 G l p e s m args below meth c h0 r h' k11) : w_X1_usher_166 G l p e s m args below meth c h0 r h' (f_X1_usher_166 k11) := by
  have hx := X.1
  have hb := X.2.1
  have hown := X.2.2.2.1
  have hts := X.2.2.2.2.1
  intro a0 a2 x3 x4 h H locs cells slots ls hf hI hl
  unfold f_X1_usher_166 at hf
  refine lv_iinc (v := (x4 + (1 : Int32))) (lv' := [(4, .int (x4 + (1 : Int32))), (0, .ref a0), (2, .ref a2), (3, .int x3)]) hx hb dX1_usher_166 hl (k := 3) rfl rfl (by decide) rfl (fun ls hl => ?_)
  refine lv_goto (tgt := 11) hx hb dX1_usher_169 (by decide) ?_
  exact K11 _ _ _ _ _ _ _ _ _ _ hf hI (lv_sub hl [1, 2, 3, 0] rfl)
def f_X1_usher_26 (k11 : Nat → Nat → Int32 → Int32 → gM (Int32 ⊕ gE)) : Nat → Nat → Nat → Int32 → Int32 → Int32 → gM (Int32 ⊕ gE)
  | 0, _, _, _, _, _ => gFail
  | n + 1, a0, a2, x3, x4, x5 =>
    gB (gFR a0 0 1) fun v101 =>
    gB (gFI v101 2 6) fun v102 =>
    gIf (v102 < x5)
    (f_X1_usher_166 k11 a0 a2 x3 x4)
    (gB (gCk a0 0) fun _ =>
    gB (f_X1_isChoice a0 x4) fun r103 =>
    gIf (r103 = 0)
    (f_X1_usher_160 (f_X1_usher_26 k11 n) a0 a2 x3 x4 x5)
    (gB (gCk a0 0) fun _ =>
    gB (f_X1_isChoice a0 x5) fun r104 =>
    gIf (r104 = 0)
    (f_X1_usher_160 (f_X1_usher_26 k11 n) a0 a2 x3 x4 x5)
    (gB (gCk a0 0) fun _ =>
    gB (f_X1_screamsBy a0 a2 x4 x5) fun r105 =>
    f_X1_usher_76 (f_X1_usher_26 k11 n) gN a0 a2 x3 x4 x5 r105 (0 : Int32) (0 : Int32))))
set_option maxHeartbeats 4000000 in
set_option maxRecDepth 100000 in
theorem b_X1_usher_26 {G : gG} {l : Launch} {p : Program} {e : Env} {s : State} {m : MethodId} {args : Array Value} {below : List Frame} {meth : Method} {c : Code} {h0 : g_H} {r : (Int32 ⊕ gE)} {h' : g_H} (X : gX G l yX1_usher.cls cX1_usher 9 (some .int) [] yX1_usher.name p s m args meth c) {k11 : Nat → Nat → Int32 → Int32 → gM (Int32 ⊕ gE)} (K11 : w_X1_usher_11 G l p e s m args below meth c h0 r h' k11) : ∀ n : Nat, w_X1_usher_26 G l p e s m args below meth c h0 r h' (f_X1_usher_26 k11 n) := by
  have hx := X.1
  have hb := X.2.1
  have hown := X.2.2.2.1
  have hts := X.2.2.2.2.1
  intro n
  induction n with
  | zero =>
    intro a0 a2 x3 x4 x5 h H locs cells slots ls hf hI hl
    exact (gFail_f hf).elim
  | succ n ih =>
    intro a0 a2 x3 x4 x5 h H locs cells slots ls hf hI hl
    rw [f_X1_usher_26] at hf
    refine lv_iload hx hb dX1_usher_26 (lv_at hl 4 rfl) ?_
    refine lv_aload_n hx hb dX1_usher_28 rfl (lv_at hl 0 rfl) ?_
    refine g_fr X hI hf fX1_1 q461 rfl rfl dX1_usher_29 (fun v101 hf => ?_)
    refine g_fiN X hI hf fX3_6 q268 rfl rfl dX1_usher_32 (fun v102 hf => ?_)
    refine lv_icmp_gt (tgt := 166) hx hb dX1_usher_35 (by decide) (fun c35 => ?_) (fun c35 => ?_)
    · have hf := g_t c35 hf
      exact b_X1_usher_166 X K11 _ _ _ _ _ _ _ _ _ _ hf hI (lv_sub hl [0, 1, 2, 3] rfl)
    · have hf := g_f c35 hf
      refine lv_aload_n hx hb dX1_usher_38 rfl (lv_at hl 0 rfl) ?_
      refine lv_iload hx hb dX1_usher_39 (lv_at hl 3 rfl) ?_
      obtain ⟨hs, hf⟩ := gCk_b hf
      refine g_cBI hI hf (fun v9 h9 e9 l9 l9' => g_rV X hI l9 l9' ⟨Nat.le_refl _, Nat.le_refl _⟩ (As := [.int x4]) (m_X1_isChoice X.2.2.2.2.2.2.2.2.2.2.1 e9) ydX1_isChoice hs rfl rfl q1367 q1369 qs41 q121 q1370 rfl (Nat.le_of_ble_eq_true rfl) (Nat.le_of_ble_eq_true rfl) hl.1 rfl (Nat.le_of_ble_eq_true rfl) dX1_usher_41) (fun r103 h H locs cells slots hf hI => ?_)
      refine lv_if_eq (tgt := 160) hx hb dX1_usher_44 (by decide) (fun c44 => ?_) (fun c44 => ?_)
      · have hf := g_t c44 hf
        exact b_X1_usher_160 X ih _ _ _ _ _ _ _ _ _ _ _ hf hI (lv_sub hl [0, 1, 2, 3, 4] rfl)
      · have hf := g_f c44 hf
        refine lv_aload_n hx hb dX1_usher_47 rfl (lv_at hl 0 rfl) ?_
        refine lv_iload hx hb dX1_usher_48 (lv_at hl 4 rfl) ?_
        obtain ⟨hs, hf⟩ := gCk_b hf
        refine g_cBI hI hf (fun v9 h9 e9 l9 l9' => g_rV X hI l9 l9' ⟨Nat.le_refl _, Nat.le_refl _⟩ (As := [.int x5]) (m_X1_isChoice X.2.2.2.2.2.2.2.2.2.2.1 e9) ydX1_isChoice hs rfl rfl q1367 q1369 qs41 q121 q1370 rfl (Nat.le_of_ble_eq_true rfl) (Nat.le_of_ble_eq_true rfl) hl.1 rfl (Nat.le_of_ble_eq_true rfl) dX1_usher_50) (fun r104 h H locs cells slots hf hI => ?_)
        refine lv_if_ne (tgt := 59) hx hb dX1_usher_53 (by decide) (fun c53 => ?_) (fun c53 => ?_)
        · have hf := g_f c53 hf
          refine lv_aload_n hx hb dX1_usher_59 rfl (lv_at hl 0 rfl) ?_
          refine lv_aload_n hx hb dX1_usher_60 rfl (lv_at hl 1 rfl) ?_
          refine lv_iload hx hb dX1_usher_61 (lv_at hl 3 rfl) ?_
          refine lv_iload hx hb dX1_usher_63 (lv_at hl 4 rfl) ?_
          obtain ⟨hs, hf⟩ := gCk_b hf
          refine g_cBI hI hf (fun v9 h9 e9 l9 l9' => g_rV X hI l9 l9' ⟨Nat.le_refl _, Nat.le_refl _⟩ (As := [.ref a2, .int x4, .int x5]) (m_X1_screamsBy X.2.2.2.2.2.2.2.2.2.2.1 e9) ydX1_screamsBy hs rfl rfl q1371 q1373 qs42 q121 q1374 rfl (Nat.le_of_ble_eq_true rfl) (Nat.le_of_ble_eq_true rfl) hl.1 rfl (Nat.le_of_ble_eq_true rfl) dX1_usher_65) (fun r105 h H locs cells slots hf hI => ?_)
          refine lv_istore (lv' := [(6, .int r105), (0, .ref a0), (2, .ref a2), (3, .int x3), (4, .int x4), (5, .int x5)]) hx hb dX1_usher_68 hl (by decide) rfl (fun ls hl => ?_)
          refine lv_iconst (v := (0 : Int32)) hx hb dX1_usher_70 (by decide) ?_
          refine lv_istore (lv' := [(7, .int (0 : Int32)), (6, .int r105), (0, .ref a0), (2, .ref a2), (3, .int x3), (4, .int x4), (5, .int x5)]) hx hb dX1_usher_71 hl (by decide) rfl (fun ls hl => ?_)
          refine lv_iconst (v := (0 : Int32)) hx hb dX1_usher_73 (by decide) ?_
          refine lv_istore (lv' := [(8, .int (0 : Int32)), (7, .int (0 : Int32)), (6, .int r105), (0, .ref a0), (2, .ref a2), (3, .int x3), (4, .int x4), (5, .int x5)]) hx hb dX1_usher_74 hl (by decide) rfl (fun ls hl => ?_)
          exact b_X1_usher_76 X ih gN _ _ _ _ _ _ _ _ _ _ _ _ _ _ hf hI (lv_sub hl [3, 4, 5, 6, 7, 2, 1, 0] rfl)
        · have hf := g_t c53 hf
          refine lv_goto (tgt := 160) hx hb dX1_usher_56 (by decide) ?_
          exact b_X1_usher_160 X ih _ _ _ _ _ _ _ _ _ _ _ hf hI (lv_sub hl [0, 1, 2, 3, 4] rfl)
def f_X1_usher_172 (x3 : Int32) : gM (Int32 ⊕ gE) :=
    (gRet (.inl x3))
set_option maxHeartbeats 4000000 in
set_option maxRecDepth 100000 in
theorem b_X1_usher_172 {G : gG} {l : Launch} {p : Program} {e : Env} {s : State} {m : MethodId} {args : Array Value} {below : List Frame} {meth : Method} {c : Code} {h0 : g_H} {r : (Int32 ⊕ gE)} {h' : g_H} (X : gX G l yX1_usher.cls cX1_usher 9 (some .int) [] yX1_usher.name p s m args meth c) : w_X1_usher_172 G l p e s m args below meth c h0 r h' (f_X1_usher_172) := by
  have hx := X.1
  have hb := X.2.1
  have hown := X.2.2.2.1
  have hts := X.2.2.2.2.1
  intro x3 h H locs cells slots ls hf hI hl
  unfold f_X1_usher_172 at hf
  refine lv_iload_n hx hb dX1_usher_172 rfl (lv_at hl 0 rfl) ?_
  cases gRet_e hf
  exact g_retI X hI rfl dX1_usher_173
def f_X1_usher_11 : Nat → Nat → Nat → Int32 → Int32 → gM (Int32 ⊕ gE)
  | 0, _, _, _, _ => gFail
  | n + 1, a0, a2, x3, x4 =>
    gB (gFR a0 0 1) fun v101 =>
    gB (gFI v101 2 6) fun v102 =>
    gIf (v102 < x4)
    (f_X1_usher_172 x3)
    (f_X1_usher_26 (f_X1_usher_11 n) gN a0 a2 x3 x4 (0 : Int32))
set_option maxHeartbeats 4000000 in
set_option maxRecDepth 100000 in
theorem b_X1_usher_11 {G : gG} {l : Launch} {p : Program} {e : Env} {s : State} {m : MethodId} {args : Array Value} {below : List Frame} {meth : Method} {c : Code} {h0 : g_H} {r : (Int32 ⊕ gE)} {h' : g_H} (X : gX G l yX1_usher.cls cX1_usher 9 (some .int) [] yX1_usher.name p s m args meth c) : ∀ n : Nat, w_X1_usher_11 G l p e s m args below meth c h0 r h' (f_X1_usher_11 n) := by
  have hx := X.1
  have hb := X.2.1
  have hown := X.2.2.2.1
  have hts := X.2.2.2.2.1
  intro n
  induction n with
  | zero =>
    intro a0 a2 x3 x4 h H locs cells slots ls hf hI hl
    exact (gFail_f hf).elim
  | succ n ih =>
    intro a0 a2 x3 x4 h H locs cells slots ls hf hI hl
    rw [f_X1_usher_11] at hf
    refine lv_iload hx hb dX1_usher_11 (lv_at hl 3 rfl) ?_
    refine lv_aload_n hx hb dX1_usher_13 rfl (lv_at hl 0 rfl) ?_
    refine g_fr X hI hf fX1_1 q461 rfl rfl dX1_usher_14 (fun v101 hf => ?_)
    refine g_fiN X hI hf fX3_6 q268 rfl rfl dX1_usher_17 (fun v102 hf => ?_)
    refine lv_icmp_gt (tgt := 172) hx hb dX1_usher_20 (by decide) (fun c20 => ?_) (fun c20 => ?_)
    · have hf := g_t c20 hf
      exact b_X1_usher_172 X _ _ _ _ _ _ _ hf hI (lv_sub hl [2] rfl)
    · have hf := g_f c20 hf
      refine lv_iconst (v := (0 : Int32)) hx hb dX1_usher_23 (by decide) ?_
      refine lv_istore (lv' := [(5, .int (0 : Int32)), (0, .ref a0), (2, .ref a2), (3, .int x3), (4, .int x4)]) hx hb dX1_usher_24 hl (by decide) rfl (fun ls hl => ?_)
      exact b_X1_usher_26 X ih gN _ _ _ _ _ _ _ _ _ _ _ hf hI (lv_sub hl [1, 2, 3, 4, 0] rfl)
def f_X1_usher (a0 : Nat) (x1 : Int32) : gM (Int32 ⊕ gE) :=
    gB (gCk a0 0) fun _ =>
    gT (f_X1_oneAt a0 x1) fun r1 =>
    f_X1_usher_11 gN a0 r1 (0 : Int32) (0 : Int32)
set_option maxHeartbeats 4000000 in
set_option maxRecDepth 100000 in
theorem m_X1_usher {G : gG} {l : Launch} (hfl : l.stackTraces = false) {a0 : Nat} {x1 : Int32} {h h' : g_H} {r : (Int32 ⊕ gE)} (hf : (f_X1_usher a0 x1).1 h = some (r, h')) : gMet G l yX1_usher (Cond.code yX1_usher cX1_usher 9 (some .int)) 103 1916 [.ref a0, .int x1] h (g_w g_wI r) h' := by
  refine g_head hfl ((f_X1_usher a0 x1).2 h r h' hf) (plainFor_of_name (by decide)) (Nat.le_of_ble_eq_true rfl) (fun p e s m below meth c H locs cells slots ls X hI hl9 => ?_)
  have hl : lv_has ls 9 [(0, .ref a0), (1, .int x1)] := hl9
  have hx := X.1
  have hb := X.2.1
  have hown := X.2.2.2.1
  have hts := X.2.2.2.2.1
  unfold f_X1_usher at hf
  refine lv_aload_n hx hb dX1_usher_0 rfl (lv_at hl 0 rfl) ?_
  refine lv_iload_n hx hb dX1_usher_1 rfl (lv_at hl 1 rfl) ?_
  obtain ⟨hs, hf⟩ := gCk_b hf
  refine g_cTR X hI (by decide) hf (fun v9 h9 e9 l9 l9' => g_rV X hI l9 l9' ⟨Nat.le_refl _, Nat.le_refl _⟩ (As := [.int x1]) (m_X1_oneAt X.2.2.2.2.2.2.2.2.2.2.1 e9) ydX1_oneAt hs rfl rfl q1189 q1191 qs37 q121 q1192 rfl (Nat.le_of_ble_eq_true rfl) (Nat.le_of_ble_eq_true rfl) hl.1 rfl (Nat.le_of_ble_eq_true rfl) dX1_usher_2) (fun r1 h H locs cells slots hf hI => ?_)
  refine lv_astore_n (lv' := [(2, .ref r1), (0, .ref a0), (1, .int x1)]) hx hb dX1_usher_5 rfl hl (by decide) rfl (fun ls hl => ?_)
  refine lv_iconst (v := (0 : Int32)) hx hb dX1_usher_6 (by decide) ?_
  refine lv_istore_n (lv' := [(3, .int (0 : Int32)), (2, .ref r1), (0, .ref a0), (1, .int x1)]) hx hb dX1_usher_7 rfl hl (by decide) rfl (fun ls hl => ?_)
  refine lv_iconst (v := (0 : Int32)) hx hb dX1_usher_8 (by decide) ?_
  refine lv_istore (lv' := [(4, .int (0 : Int32)), (3, .int (0 : Int32)), (2, .ref r1), (0, .ref a0), (1, .int x1)]) hx hb dX1_usher_9 hl (by decide) rfl (fun ls hl => ?_)
  exact b_X1_usher_11 X gN _ _ _ _ _ _ _ _ _ _ hf hI (lv_sub hl [3, 2, 1, 0] rfl)
/-! X0_usher -/
def f_X0_usher (a0 : Nat) (x1 : Int32) (a2 : Nat) : gM Int32 :=
    gB (gCk a0 0) fun _ =>
    gB (f_X1_usher a0 x1) fun r9 => match r9 with
    | .inl r1 => (gB (gSI a2 2 (0 : Int32) (r1)) fun _ =>
    (gRet (0 : Int32)))
    | .inr x9 => (gIf (x9.1 = 19)
    ((gRet (1 : Int32)))
    (gFail))
set_option maxHeartbeats 4000000 in
set_option maxRecDepth 100000 in
theorem m_X0_usher {G : gG} {l : Launch} (hfl : l.stackTraces = false) {a0 : Nat} {x1 : Int32} {a2 : Nat} {h h' : g_H} {r : Int32} (hf : (f_X0_usher a0 x1 a2).1 h = some (r, h')) : gMet G l yX0_usher (Cond.codeWith yX0_usher cX0_usher 4 (some .int) [(0, 9, 12, 24)]) 104 1944 [.ref a0, .int x1, .ref a2] h (.inl (g_wI r)) h' := by
  refine g_headW hfl ((f_X0_usher a0 x1 a2).2 h r h' hf) (plainFor_of_name (by decide)) (Nat.le_of_ble_eq_true rfl) (fun p e s m below meth c H locs cells slots ls X hI hl9 => ?_)
  have hl : lv_has ls 4 [(0, .ref a0), (1, .int x1), (2, .ref a2)] := hl9
  have hx := X.1
  have hb := X.2.1
  have hown := X.2.2.2.1
  have hts := X.2.2.2.2.1
  unfold f_X0_usher at hf
  refine lv_aload_n hx hb dX0_usher_0 rfl (lv_at hl 2 rfl) ?_
  refine lv_iconst (v := (0 : Int32)) hx hb dX0_usher_1 (by decide) ?_
  refine lv_aload_n hx hb dX0_usher_2 rfl (lv_at hl 0 rfl) ?_
  refine lv_iload_n hx hb dX0_usher_3 rfl (lv_at hl 1 rfl) ?_
  obtain ⟨hs, hf⟩ := gCk_b hf
  refine g_cHI hI hf (fun v9 h9 e9 l9 l9' => g_rV X hI l9 l9' ⟨Nat.le_refl _, Nat.le_refl _⟩ (As := [.int x1]) (m_X1_usher X.2.2.2.2.2.2.2.2.2.2.1 e9) ydX1_usher hs rfl rfl q1363 q1364 q1365 q121 q1366 rfl (Nat.le_of_ble_eq_true rfl) (Nat.le_of_ble_eq_true rfl) hl.1 rfl (Nat.le_of_ble_eq_true rfl) dX0_usher_4) (fun r1 h H locs cells slots hf hI => ?_) ?_
  · refine lv_i2l hx hb dX0_usher_7 rfl ?_
    refine g_si2 X hI hf dX0_usher_8 (fun h H locs hf hI => ?_)
    refine lv_goto (tgt := 15) hx hb dX0_usher_9 (by decide) ?_
    refine lv_iconst (v := (0 : Int32)) hx hb dX0_usher_15 (by decide) ?_
    cases gRet_e hf
    exact g_retI X hI rfl dX0_usher_16
  · intro ci9 x9 h H locs cells slots r9 ce9 hf hr9 hI hce hcv hcl
    by_cases k0 : ci9 = 19
    · subst k0
      cases hr9
      have hf := g_t rfl hf
      refine g_catch0 X hI (name := "java/lang/IndexOutOfBoundsException") rfl (by rfl) (by decide) (by decide) q1098 q1144 hce hcv hcl ?_
      refine lv_astore_n (lv' := [(3, .ref x9), (0, .ref a0), (1, .int x1), (2, .ref a2)]) hx hb dX0_usher_12 rfl hl (by decide) rfl (fun ls hl => ?_)
      refine lv_iconst (v := (1 : Int32)) hx hb dX0_usher_13 (by decide) ?_
      cases gRet_e hf
      exact g_retI X hI rfl dX0_usher_14
    have hf := g_f k0 hf
    exact (gFail_f hf).elim
/-! X8_canBe -/
abbrev w_X8_canBe_27 (G : gG) (l : Launch) (p : Program) (e : Env) (s : State) (m : MethodId) (args : Array Value) (below : List Frame) (meth : Method) (c : Code) (h0 : g_H) (r : Int32) (h' : g_H) (k : Int32 → gM Int32) : Prop := ∀ (u0 : Int32) (h : g_H) (H : Heap) (locs : List Loc) (cells slots : Nat) (ls : Array Slot), (k u0).1 h = some (r, h') → gI G h0 h H locs cells slots → lv_has ls 2 [] → W p l e (g_rm 4 84 h0 h') s m args below meth c H locs cells slots (gQ G below args s h0 h' (.inl (g_wI r))) (F0 m 27 ls [.int u0])
abbrev w_X8_canBe_22 (G : gG) (l : Launch) (p : Program) (e : Env) (s : State) (m : MethodId) (args : Array Value) (below : List Frame) (meth : Method) (c : Code) (h0 : g_H) (r : Int32) (h' : g_H) (k : gM Int32) : Prop := ∀ (h : g_H) (H : Heap) (locs : List Loc) (cells slots : Nat) (ls : Array Slot), (k).1 h = some (r, h') → gI G h0 h H locs cells slots → lv_has ls 2 [] → W p l e (g_rm 4 84 h0 h') s m args below meth c H locs cells slots (gQ G below args s h0 h' (.inl (g_wI r))) (F0 m 22 ls [])
abbrev w_X8_canBe_26 (G : gG) (l : Launch) (p : Program) (e : Env) (s : State) (m : MethodId) (args : Array Value) (below : List Frame) (meth : Method) (c : Code) (h0 : g_H) (r : Int32) (h' : g_H) (k : gM Int32) : Prop := ∀ (h : g_H) (H : Heap) (locs : List Loc) (cells slots : Nat) (ls : Array Slot), (k).1 h = some (r, h') → gI G h0 h H locs cells slots → lv_has ls 2 [] → W p l e (g_rm 4 84 h0 h') s m args below meth c H locs cells slots (gQ G below args s h0 h' (.inl (g_wI r))) (F0 m 26 ls [])
def f_X8_canBe_27 (u0 : Int32) : gM Int32 :=
    gB (gGd (u0 = 0 ∨ u0 = 1)) fun _ =>
    (gRet u0)
set_option maxHeartbeats 4000000 in
set_option maxRecDepth 100000 in
theorem b_X8_canBe_27 {G : gG} {l : Launch} {p : Program} {e : Env} {s : State} {m : MethodId} {args : Array Value} {below : List Frame} {meth : Method} {c : Code} {h0 : g_H} {r : Int32} {h' : g_H} (X : gX G l yX8_canBe.cls cX8_canBe 2 (some .boolean) [] yX8_canBe.name p s m args meth c) : w_X8_canBe_27 G l p e s m args below meth c h0 r h' (f_X8_canBe_27) := by
  have hx := X.1
  have hb := X.2.1
  have hown := X.2.2.2.1
  have hts := X.2.2.2.2.1
  intro u0 h H locs cells slots ls hf hI hl
  unfold f_X8_canBe_27 at hf
  obtain ⟨hz, hf⟩ := gB_gd hf
  cases gRet_e hf
  exact g_retZ X hI hz rfl dX8_canBe_27
def f_X8_canBe_22 : gM Int32 :=
    f_X8_canBe_27 (1 : Int32)
set_option maxHeartbeats 4000000 in
set_option maxRecDepth 100000 in
theorem b_X8_canBe_22 {G : gG} {l : Launch} {p : Program} {e : Env} {s : State} {m : MethodId} {args : Array Value} {below : List Frame} {meth : Method} {c : Code} {h0 : g_H} {r : Int32} {h' : g_H} (X : gX G l yX8_canBe.cls cX8_canBe 2 (some .boolean) [] yX8_canBe.name p s m args meth c) : w_X8_canBe_22 G l p e s m args below meth c h0 r h' (f_X8_canBe_22) := by
  have hx := X.1
  have hb := X.2.1
  have hown := X.2.2.2.1
  have hts := X.2.2.2.2.1
  intro h H locs cells slots ls hf hI hl
  unfold f_X8_canBe_22 at hf
  refine lv_iconst (v := (1 : Int32)) hx hb dX8_canBe_22 (by decide) ?_
  refine lv_goto (tgt := 27) hx hb dX8_canBe_23 (by decide) ?_
  exact b_X8_canBe_27 X _ _ _ _ _ _ _ hf hI (lv_sub hl [] rfl)
def f_X8_canBe_26 : gM Int32 :=
    f_X8_canBe_27 (0 : Int32)
set_option maxHeartbeats 4000000 in
set_option maxRecDepth 100000 in
theorem b_X8_canBe_26 {G : gG} {l : Launch} {p : Program} {e : Env} {s : State} {m : MethodId} {args : Array Value} {below : List Frame} {meth : Method} {c : Code} {h0 : g_H} {r : Int32} {h' : g_H} (X : gX G l yX8_canBe.cls cX8_canBe 2 (some .boolean) [] yX8_canBe.name p s m args meth c) : w_X8_canBe_26 G l p e s m args below meth c h0 r h' (f_X8_canBe_26) := by
  have hx := X.1
  have hb := X.2.1
  have hown := X.2.2.2.1
  have hts := X.2.2.2.2.1
  intro h H locs cells slots ls hf hI hl
  unfold f_X8_canBe_26 at hf
  refine lv_iconst (v := (0 : Int32)) hx hb dX8_canBe_26 (by decide) ?_
  exact b_X8_canBe_27 X _ _ _ _ _ _ _ hf hI (lv_sub hl [] rfl)
def f_X8_canBe (a0 : Nat) (x1 : Int32) : gM Int32 :=
    gIf (x1 = (8 : Int32))
    (f_X8_canBe_22)
    (gB (gCk a0 7) fun _ =>
    gB (f_X8_props a0) fun r1 =>
    gIf (r1 ≤ x1)
    (f_X8_canBe_26)
    (gB (gCk a0 7) fun _ =>
    gB (f_X8_isNailed a0 x1) fun r2 =>
    gIf (r2 = 0)
    (f_X8_canBe_26)
    (f_X8_canBe_22)))
set_option maxHeartbeats 4000000 in
set_option maxRecDepth 100000 in
theorem m_X8_canBe {G : gG} {l : Launch} (hfl : l.stackTraces = false) {a0 : Nat} {x1 : Int32} {h h' : g_H} {r : Int32} (hf : (f_X8_canBe a0 x1).1 h = some (r, h')) : gMet G l yX8_canBe (Cond.code yX8_canBe cX8_canBe 2 (some .boolean)) 4 84 [.ref a0, .int x1] h (.inl (g_wI r)) h' := by
  refine g_head hfl ((f_X8_canBe a0 x1).2 h r h' hf) (plainFor_of_name (by decide)) (Nat.le_of_ble_eq_true rfl) (fun p e s m below meth c H locs cells slots ls X hI hl9 => ?_)
  have hl : lv_has ls 2 [(0, .ref a0), (1, .int x1)] := hl9
  have hx := X.1
  have hb := X.2.1
  have hown := X.2.2.2.1
  have hts := X.2.2.2.2.1
  unfold f_X8_canBe at hf
  refine lv_iload_n hx hb dX8_canBe_0 rfl (lv_at hl 1 rfl) ?_
  refine lv_bipush (v := (8 : Int32)) hx hb dX8_canBe_1 (by decide) ?_
  refine lv_icmp_eq (tgt := 22) hx hb dX8_canBe_3 (by decide) (fun c3 => ?_) (fun c3 => ?_)
  · have hf := g_t c3 hf
    exact b_X8_canBe_22 X _ _ _ _ _ _ hf hI (lv_sub hl [] rfl)
  · have hf := g_f c3 hf
    refine lv_iload_n hx hb dX8_canBe_6 rfl (lv_at hl 1 rfl) ?_
    refine lv_aload_n hx hb dX8_canBe_7 rfl (lv_at hl 0 rfl) ?_
    obtain ⟨hs, hf⟩ := gCk_b hf
    refine g_cBI hI hf (fun v9 h9 e9 l9 l9' => g_rV X hI l9 l9' ⟨Nat.le_refl _, Nat.le_refl _⟩ (As := []) (m_X8_props X.2.2.2.2.2.2.2.2.2.2.1 e9) ydX8_props hs rfl rfl q1626 q1628 qs53 q131 q1629 rfl (Nat.le_of_ble_eq_true rfl) (Nat.le_of_ble_eq_true rfl) hl.1 rfl (Nat.le_of_ble_eq_true rfl) dX8_canBe_8) (fun r1 h H locs cells slots hf hI => ?_)
    refine lv_icmp_ge (tgt := 26) hx hb dX8_canBe_11 (by decide) (fun c11 => ?_) (fun c11 => ?_)
    · have hf := g_t c11 hf
      exact b_X8_canBe_26 X _ _ _ _ _ _ hf hI (lv_sub hl [] rfl)
    · have hf := g_f c11 hf
      refine lv_aload_n hx hb dX8_canBe_14 rfl (lv_at hl 0 rfl) ?_
      refine lv_iload_n hx hb dX8_canBe_15 rfl (lv_at hl 1 rfl) ?_
      obtain ⟨hs, hf⟩ := gCk_b hf
      refine g_cBI hI hf (fun v9 h9 e9 l9 l9' => g_rV X hI l9 l9' ⟨Nat.le_refl _, Nat.le_refl _⟩ (As := [.int x1]) (m_X8_isNailed X.2.2.2.2.2.2.2.2.2.2.1 e9) ydX8_isNailed hs rfl rfl q1850 q1852 qs92 q131 q1853 rfl (Nat.le_of_ble_eq_true rfl) (Nat.le_of_ble_eq_true rfl) hl.1 rfl (Nat.le_of_ble_eq_true rfl) dX8_canBe_16) (fun r2 h H locs cells slots hf hI => ?_)
      refine lv_if_eq (tgt := 26) hx hb dX8_canBe_19 (by decide) (fun c19 => ?_) (fun c19 => ?_)
      · have hf := g_t c19 hf
        exact b_X8_canBe_26 X _ _ _ _ _ _ hf hI (lv_sub hl [] rfl)
      · have hf := g_f c19 hf
        exact b_X8_canBe_22 X _ _ _ _ _ _ hf hI (lv_sub hl [] rfl)
/-! X8_isHeard -/
abbrev w_X8_isHeard_48 (G : gG) (l : Launch) (p : Program) (e : Env) (s : State) (m : MethodId) (args : Array Value) (below : List Frame) (meth : Method) (c : Code) (h0 : g_H) (r : Int32) (h' : g_H) (k : Nat → Int32 → gM Int32) : Prop := ∀ (a0 : Nat) (u0 : Int32) (h : g_H) (H : Heap) (locs : List Loc) (cells slots : Nat) (ls : Array Slot), (k a0 u0).1 h = some (r, h') → gI G h0 h H locs cells slots → lv_has ls 5 [(0, .ref a0)] → W p l e (g_rm 11 249 h0 h') s m args below meth c H locs cells slots (gQ G below args s h0 h' (.inl (g_wI r))) (F0 m 48 ls [.int u0])
abbrev w_X8_isHeard_31 (G : gG) (l : Launch) (p : Program) (e : Env) (s : State) (m : MethodId) (args : Array Value) (below : List Frame) (meth : Method) (c : Code) (h0 : g_H) (r : Int32) (h' : g_H) (k : Nat → Int32 → Nat → Int32 → gM Int32) : Prop := ∀ (a0 : Nat) (x1 : Int32) (b0 : Nat) (u1 : Int32) (h : g_H) (H : Heap) (locs : List Loc) (cells slots : Nat) (ls : Array Slot), (k a0 x1 b0 u1).1 h = some (r, h') → gI G h0 h H locs cells slots → lv_has ls 5 [(0, .ref a0), (1, .int x1)] → W p l e (g_rm 11 249 h0 h') s m args below meth c H locs cells slots (gQ G below args s h0 h' (.inl (g_wI r))) (F0 m 31 ls [.int u1, .ref b0])
abbrev w_X8_isHeard_14 (G : gG) (l : Launch) (p : Program) (e : Env) (s : State) (m : MethodId) (args : Array Value) (below : List Frame) (meth : Method) (c : Code) (h0 : g_H) (r : Int32) (h' : g_H) (k : Nat → Int32 → Int32 → Nat → Int32 → gM Int32) : Prop := ∀ (a0 : Nat) (x1 : Int32) (x3 : Int32) (b0 : Nat) (u1 : Int32) (h : g_H) (H : Heap) (locs : List Loc) (cells slots : Nat) (ls : Array Slot), (k a0 x1 x3 b0 u1).1 h = some (r, h') → gI G h0 h H locs cells slots → lv_has ls 5 [(0, .ref a0), (1, .int x1), (3, .int x3)] → W p l e (g_rm 11 249 h0 h') s m args below meth c H locs cells slots (gQ G below args s h0 h' (.inl (g_wI r))) (F0 m 14 ls [.int u1, .ref b0])
def f_X8_isHeard_48 (a0 : Nat) (u0 : Int32) : gM Int32 :=
    gB (gPI a0 7 23 (0 : Int32)) fun _ =>
    gB (gPI a0 7 24 (0 : Int32)) fun _ =>
    gB (gGd (u0 = 0 ∨ u0 = 1)) fun _ =>
    (gRet u0)
set_option maxHeartbeats 4000000 in
set_option maxRecDepth 100000 in
theorem b_X8_isHeard_48 {G : gG} {l : Launch} {p : Program} {e : Env} {s : State} {m : MethodId} {args : Array Value} {below : List Frame} {meth : Method} {c : Code} {h0 : g_H} {r : Int32} {h' : g_H} (X : gX G l yX8_isHeard.cls cX8_isHeard 5 (some .boolean) [] yX8_isHeard.name p s m args meth c) : w_X8_isHeard_48 G l p e s m args below meth c h0 r h' (f_X8_isHeard_48) := by
  have hx := X.1
  have hb := X.2.1
  have hown := X.2.2.2.1
  have hts := X.2.2.2.2.1
  intro a0 u0 h H locs cells slots ls hf hI hl
  unfold f_X8_isHeard_48 at hf
  refine lv_istore (lv' := [(4, .int u0), (0, .ref a0)]) hx hb dX8_isHeard_48 hl (by decide) rfl (fun ls hl => ?_)
  refine lv_aload_n hx hb dX8_isHeard_50 rfl (lv_at hl 1 rfl) ?_
  refine lv_iconst (v := (0 : Int32)) hx hb dX8_isHeard_51 (by decide) ?_
  refine g_pi X hI hf fX8_23 q1467 rfl dX8_isHeard_52 (fun h H locs hf hI => ?_)
  refine lv_aload_n hx hb dX8_isHeard_55 rfl (lv_at hl 1 rfl) ?_
  refine lv_iconst (v := (0 : Int32)) hx hb dX8_isHeard_56 (by decide) ?_
  refine g_pi X hI hf fX8_24 q1468 rfl dX8_isHeard_57 (fun h H locs hf hI => ?_)
  refine lv_iload hx hb dX8_isHeard_60 (lv_at hl 0 rfl) ?_
  obtain ⟨hz, hf⟩ := gB_gd hf
  cases gRet_e hf
  exact g_retZ X hI hz rfl dX8_isHeard_62
def f_X8_isHeard_31 (a0 : Nat) (x1 : Int32) (b0 : Nat) (u1 : Int32) : gM Int32 :=
    gB (gPI b0 7 24 u1) fun _ =>
    gB (gCk a0 7) fun _ =>
    gB (f_X8_ridesStraight a0 x1) fun r101 =>
    gIf (r101 = (-1 : Int32))
    (f_X8_isHeard_48 a0 (0 : Int32))
    (f_X8_isHeard_48 a0 (1 : Int32))
set_option maxHeartbeats 4000000 in
set_option maxRecDepth 100000 in
theorem b_X8_isHeard_31 {G : gG} {l : Launch} {p : Program} {e : Env} {s : State} {m : MethodId} {args : Array Value} {below : List Frame} {meth : Method} {c : Code} {h0 : g_H} {r : Int32} {h' : g_H} (X : gX G l yX8_isHeard.cls cX8_isHeard 5 (some .boolean) [] yX8_isHeard.name p s m args meth c) : w_X8_isHeard_31 G l p e s m args below meth c h0 r h' (f_X8_isHeard_31) := by
  have hx := X.1
  have hb := X.2.1
  have hown := X.2.2.2.1
  have hts := X.2.2.2.2.1
  intro a0 x1 b0 u1 h H locs cells slots ls hf hI hl
  unfold f_X8_isHeard_31 at hf
  refine g_pi X hI hf fX8_24 q1468 rfl dX8_isHeard_31 (fun h H locs hf hI => ?_)
  refine lv_aload_n hx hb dX8_isHeard_34 rfl (lv_at hl 0 rfl) ?_
  refine lv_iload_n hx hb dX8_isHeard_35 rfl (lv_at hl 1 rfl) ?_
  obtain ⟨hs, hf⟩ := gCk_b hf
  refine g_cBI hI hf (fun v9 h9 e9 l9 l9' => g_rV X hI l9 l9' ⟨Nat.le_refl _, Nat.le_refl _⟩ (As := [.int x1]) (m_X8_ridesStraight X.2.2.2.2.2.2.2.2.2.2.1 e9) ydX8_ridesStraight hs rfl rfl q1886 q1888 qs94 q131 q1889 rfl (Nat.le_of_ble_eq_true rfl) (Nat.le_of_ble_eq_true rfl) hl.1 rfl (Nat.le_of_ble_eq_true rfl) dX8_isHeard_36) (fun r101 h H locs cells slots hf hI => ?_)
  refine lv_iconst (v := (-1 : Int32)) hx hb dX8_isHeard_39 (by decide) ?_
  refine lv_icmp_eq (tgt := 47) hx hb dX8_isHeard_40 (by decide) (fun c40 => ?_) (fun c40 => ?_)
  · have hf := g_t c40 hf
    refine lv_iconst (v := (0 : Int32)) hx hb dX8_isHeard_47 (by decide) ?_
    exact b_X8_isHeard_48 X _ _ _ _ _ _ _ _ hf hI (lv_sub hl [0] rfl)
  · have hf := g_f c40 hf
    refine lv_iconst (v := (1 : Int32)) hx hb dX8_isHeard_43 (by decide) ?_
    refine lv_goto (tgt := 48) hx hb dX8_isHeard_44 (by decide) ?_
    exact b_X8_isHeard_48 X _ _ _ _ _ _ _ _ hf hI (lv_sub hl [0] rfl)
def f_X8_isHeard_14 (a0 : Nat) (x1 : Int32) (x3 : Int32) (b0 : Nat) (u1 : Int32) : gM Int32 :=
    gB (gPI b0 7 23 u1) fun _ =>
    gIf (x3 = (8 : Int32))
    (f_X8_isHeard_31 a0 x1 a0 (0 : Int32))
    (f_X8_isHeard_31 a0 x1 a0 ((1 : Int32) <<< (x3 &&& 31)))
set_option maxHeartbeats 4000000 in
set_option maxRecDepth 100000 in
theorem b_X8_isHeard_14 {G : gG} {l : Launch} {p : Program} {e : Env} {s : State} {m : MethodId} {args : Array Value} {below : List Frame} {meth : Method} {c : Code} {h0 : g_H} {r : Int32} {h' : g_H} (X : gX G l yX8_isHeard.cls cX8_isHeard 5 (some .boolean) [] yX8_isHeard.name p s m args meth c) : w_X8_isHeard_14 G l p e s m args below meth c h0 r h' (f_X8_isHeard_14) := by
  have hx := X.1
  have hb := X.2.1
  have hown := X.2.2.2.1
  have hts := X.2.2.2.2.1
  intro a0 x1 x3 b0 u1 h H locs cells slots ls hf hI hl
  unfold f_X8_isHeard_14 at hf
  refine g_pi X hI hf fX8_23 q1467 rfl dX8_isHeard_14 (fun h H locs hf hI => ?_)
  refine lv_aload_n hx hb dX8_isHeard_17 rfl (lv_at hl 0 rfl) ?_
  refine lv_iload_n hx hb dX8_isHeard_18 rfl (lv_at hl 2 rfl) ?_
  refine lv_bipush (v := (8 : Int32)) hx hb dX8_isHeard_19 (by decide) ?_
  refine lv_icmp_ne (tgt := 28) hx hb dX8_isHeard_21 (by decide) (fun c21 => ?_) (fun c21 => ?_)
  · have hf := g_f c21 hf
    refine lv_iconst (v := (1 : Int32)) hx hb dX8_isHeard_28 (by decide) ?_
    refine lv_iload_n hx hb dX8_isHeard_29 rfl (lv_at hl 2 rfl) ?_
    refine lv_ishl hx hb dX8_isHeard_30 ?_
    exact b_X8_isHeard_31 X _ _ _ _ _ _ _ _ _ _ hf hI (lv_sub hl [0, 1] rfl)
  · have hf := g_t c21 hf
    refine lv_iconst (v := (0 : Int32)) hx hb dX8_isHeard_24 (by decide) ?_
    refine lv_goto (tgt := 31) hx hb dX8_isHeard_25 (by decide) ?_
    exact b_X8_isHeard_31 X _ _ _ _ _ _ _ _ _ _ hf hI (lv_sub hl [0, 1] rfl)
def f_X8_isHeard (a0 : Nat) (x1 : Int32) (x2 : Int32) (x3 : Int32) : gM Int32 :=
    gIf (x2 = (8 : Int32))
    (f_X8_isHeard_14 a0 x1 x3 a0 (0 : Int32))
    (f_X8_isHeard_14 a0 x1 x3 a0 ((1 : Int32) <<< (x2 &&& 31)))
set_option maxHeartbeats 4000000 in
set_option maxRecDepth 100000 in
theorem m_X8_isHeard {G : gG} {l : Launch} (hfl : l.stackTraces = false) {a0 : Nat} {x1 : Int32} {x2 : Int32} {x3 : Int32} {h h' : g_H} {r : Int32} (hf : (f_X8_isHeard a0 x1 x2 x3).1 h = some (r, h')) : gMet G l yX8_isHeard (Cond.code yX8_isHeard cX8_isHeard 5 (some .boolean)) 11 249 [.ref a0, .int x1, .int x2, .int x3] h (.inl (g_wI r)) h' := by
  refine g_head hfl ((f_X8_isHeard a0 x1 x2 x3).2 h r h' hf) (plainFor_of_name (by decide)) (Nat.le_of_ble_eq_true rfl) (fun p e s m below meth c H locs cells slots ls X hI hl9 => ?_)
  have hl : lv_has ls 5 [(0, .ref a0), (1, .int x1), (2, .int x2), (3, .int x3)] := hl9
  have hx := X.1
  have hb := X.2.1
  have hown := X.2.2.2.1
  have hts := X.2.2.2.2.1
  unfold f_X8_isHeard at hf
  refine lv_aload_n hx hb dX8_isHeard_0 rfl (lv_at hl 0 rfl) ?_
  refine lv_iload_n hx hb dX8_isHeard_1 rfl (lv_at hl 2 rfl) ?_
  refine lv_bipush (v := (8 : Int32)) hx hb dX8_isHeard_2 (by decide) ?_
  refine lv_icmp_ne (tgt := 11) hx hb dX8_isHeard_4 (by decide) (fun c4 => ?_) (fun c4 => ?_)
  · have hf := g_f c4 hf
    refine lv_iconst (v := (1 : Int32)) hx hb dX8_isHeard_11 (by decide) ?_
    refine lv_iload_n hx hb dX8_isHeard_12 rfl (lv_at hl 2 rfl) ?_
    refine lv_ishl hx hb dX8_isHeard_13 ?_
    exact b_X8_isHeard_14 X _ _ _ _ _ _ _ _ _ _ _ hf hI (lv_sub hl [0, 1, 3] rfl)
  · have hf := g_t c4 hf
    refine lv_iconst (v := (0 : Int32)) hx hb dX8_isHeard_7 (by decide) ?_
    refine lv_goto (tgt := 14) hx hb dX8_isHeard_8 (by decide) ?_
    exact b_X8_isHeard_14 X _ _ _ _ _ _ _ _ _ _ _ hf hI (lv_sub hl [0, 1, 3] rfl)
/-! X8_rests -/
abbrev w_X8_rests_104 (G : gG) (l : Launch) (p : Program) (e : Env) (s : State) (m : MethodId) (args : Array Value) (below : List Frame) (meth : Method) (c : Code) (h0 : g_H) (r : Int32) (h' : g_H) (k : Nat → Int32 → Int32 → Int32 → Int32 → Int32 → Int32 → gM Int32) : Prop := ∀ (a0 : Nat) (x1 : Int32) (x2 : Int32) (x3 : Int32) (x5 : Int32) (x6 : Int32) (u0 : Int32) (h : g_H) (H : Heap) (locs : List Loc) (cells slots : Nat) (ls : Array Slot), (k a0 x1 x2 x3 x5 x6 u0).1 h = some (r, h') → gI G h0 h H locs cells slots → lv_has ls 7 [(0, .ref a0), (1, .int x1), (2, .int x2), (3, .int x3), (5, .int x5), (6, .int x6)] → W p l e (g_rm 12 273 h0 h') s m args below meth c H locs cells slots (gQ G below args s h0 h' (.inl (g_wI r))) (F0 m 104 ls [.int u0])
abbrev w_X8_rests_99 (G : gG) (l : Launch) (p : Program) (e : Env) (s : State) (m : MethodId) (args : Array Value) (below : List Frame) (meth : Method) (c : Code) (h0 : g_H) (r : Int32) (h' : g_H) (k : Nat → Int32 → Int32 → Int32 → Int32 → Int32 → gM Int32) : Prop := ∀ (a0 : Nat) (x1 : Int32) (x2 : Int32) (x3 : Int32) (x5 : Int32) (x6 : Int32) (h : g_H) (H : Heap) (locs : List Loc) (cells slots : Nat) (ls : Array Slot), (k a0 x1 x2 x3 x5 x6).1 h = some (r, h') → gI G h0 h H locs cells slots → lv_has ls 7 [(0, .ref a0), (1, .int x1), (2, .int x2), (3, .int x3), (5, .int x5), (6, .int x6)] → W p l e (g_rm 12 273 h0 h') s m args below meth c H locs cells slots (gQ G below args s h0 h' (.inl (g_wI r))) (F0 m 99 ls [])
abbrev w_X8_rests_103 (G : gG) (l : Launch) (p : Program) (e : Env) (s : State) (m : MethodId) (args : Array Value) (below : List Frame) (meth : Method) (c : Code) (h0 : g_H) (r : Int32) (h' : g_H) (k : Nat → Int32 → Int32 → Int32 → Int32 → Int32 → gM Int32) : Prop := ∀ (a0 : Nat) (x1 : Int32) (x2 : Int32) (x3 : Int32) (x5 : Int32) (x6 : Int32) (h : g_H) (H : Heap) (locs : List Loc) (cells slots : Nat) (ls : Array Slot), (k a0 x1 x2 x3 x5 x6).1 h = some (r, h') → gI G h0 h H locs cells slots → lv_has ls 7 [(0, .ref a0), (1, .int x1), (2, .int x2), (3, .int x3), (5, .int x5), (6, .int x6)] → W p l e (g_rm 12 273 h0 h') s m args below meth c H locs cells slots (gQ G below args s h0 h' (.inl (g_wI r))) (F0 m 103 ls [])
abbrev w_X8_rests_112 (G : gG) (l : Launch) (p : Program) (e : Env) (s : State) (m : MethodId) (args : Array Value) (below : List Frame) (meth : Method) (c : Code) (h0 : g_H) (r : Int32) (h' : g_H) (k : Int32 → gM Int32) : Prop := ∀ (x4 : Int32) (h : g_H) (H : Heap) (locs : List Loc) (cells slots : Nat) (ls : Array Slot), (k x4).1 h = some (r, h') → gI G h0 h H locs cells slots → lv_has ls 7 [(4, .int x4)] → W p l e (g_rm 12 273 h0 h') s m args below meth c H locs cells slots (gQ G below args s h0 h' (.inl (g_wI r))) (F0 m 112 ls [])
abbrev w_X8_rests_48 (G : gG) (l : Launch) (p : Program) (e : Env) (s : State) (m : MethodId) (args : Array Value) (below : List Frame) (meth : Method) (c : Code) (h0 : g_H) (r : Int32) (h' : g_H) (k : Nat → Int32 → Int32 → Int32 → Int32 → Int32 → Int32 → gM Int32) : Prop := ∀ (a0 : Nat) (x1 : Int32) (x2 : Int32) (x3 : Int32) (x4 : Int32) (x5 : Int32) (x6 : Int32) (h : g_H) (H : Heap) (locs : List Loc) (cells slots : Nat) (ls : Array Slot), (k a0 x1 x2 x3 x4 x5 x6).1 h = some (r, h') → gI G h0 h H locs cells slots → lv_has ls 7 [(0, .ref a0), (1, .int x1), (2, .int x2), (3, .int x3), (4, .int x4), (5, .int x5), (6, .int x6)] → W p l e (g_rm 12 273 h0 h') s m args below meth c H locs cells slots (gQ G below args s h0 h' (.inl (g_wI r))) (F0 m 48 ls [])
abbrev w_X8_rests_43 (G : gG) (l : Launch) (p : Program) (e : Env) (s : State) (m : MethodId) (args : Array Value) (below : List Frame) (meth : Method) (c : Code) (h0 : g_H) (r : Int32) (h' : g_H) (k : Nat → Int32 → Int32 → Int32 → Int32 → Int32 → gM Int32) : Prop := ∀ (a0 : Nat) (x1 : Int32) (x2 : Int32) (x3 : Int32) (x4 : Int32) (u0 : Int32) (h : g_H) (H : Heap) (locs : List Loc) (cells slots : Nat) (ls : Array Slot), (k a0 x1 x2 x3 x4 u0).1 h = some (r, h') → gI G h0 h H locs cells slots → lv_has ls 7 [(0, .ref a0), (1, .int x1), (2, .int x2), (3, .int x3), (4, .int x4)] → W p l e (g_rm 12 273 h0 h') s m args below meth c H locs cells slots (gQ G below args s h0 h' (.inl (g_wI r))) (F0 m 43 ls [.int u0])
abbrev w_X8_rests_42 (G : gG) (l : Launch) (p : Program) (e : Env) (s : State) (m : MethodId) (args : Array Value) (below : List Frame) (meth : Method) (c : Code) (h0 : g_H) (r : Int32) (h' : g_H) (k : Nat → Int32 → Int32 → Int32 → Int32 → gM Int32) : Prop := ∀ (a0 : Nat) (x1 : Int32) (x2 : Int32) (x3 : Int32) (x4 : Int32) (h : g_H) (H : Heap) (locs : List Loc) (cells slots : Nat) (ls : Array Slot), (k a0 x1 x2 x3 x4).1 h = some (r, h') → gI G h0 h H locs cells slots → lv_has ls 7 [(0, .ref a0), (1, .int x1), (2, .int x2), (3, .int x3), (4, .int x4)] → W p l e (g_rm 12 273 h0 h') s m args below meth c H locs cells slots (gQ G below args s h0 h' (.inl (g_wI r))) (F0 m 42 ls [])
abbrev w_X8_rests_21 (G : gG) (l : Launch) (p : Program) (e : Env) (s : State) (m : MethodId) (args : Array Value) (below : List Frame) (meth : Method) (c : Code) (h0 : g_H) (r : Int32) (h' : g_H) (k : Nat → Int32 → Int32 → Int32 → Int32 → gM Int32) : Prop := ∀ (a0 : Nat) (x1 : Int32) (x2 : Int32) (x3 : Int32) (u0 : Int32) (h : g_H) (H : Heap) (locs : List Loc) (cells slots : Nat) (ls : Array Slot), (k a0 x1 x2 x3 u0).1 h = some (r, h') → gI G h0 h H locs cells slots → lv_has ls 7 [(0, .ref a0), (1, .int x1), (2, .int x2), (3, .int x3)] → W p l e (g_rm 12 273 h0 h') s m args below meth c H locs cells slots (gQ G below args s h0 h' (.inl (g_wI r))) (F0 m 21 ls [.int u0])
abbrev w_X8_rests_20 (G : gG) (l : Launch) (p : Program) (e : Env) (s : State) (m : MethodId) (args : Array Value) (below : List Frame) (meth : Method) (c : Code) (h0 : g_H) (r : Int32) (h' : g_H) (k : Nat → Int32 → Int32 → Int32 → gM Int32) : Prop := ∀ (a0 : Nat) (x1 : Int32) (x2 : Int32) (x3 : Int32) (h : g_H) (H : Heap) (locs : List Loc) (cells slots : Nat) (ls : Array Slot), (k a0 x1 x2 x3).1 h = some (r, h') → gI G h0 h H locs cells slots → lv_has ls 7 [(0, .ref a0), (1, .int x1), (2, .int x2), (3, .int x3)] → W p l e (g_rm 12 273 h0 h') s m args below meth c H locs cells slots (gQ G below args s h0 h' (.inl (g_wI r))) (F0 m 20 ls [])
def f_X8_rests_104 (k48 : Nat → Int32 → Int32 → Int32 → Int32 → Int32 → Int32 → gM Int32) (a0 : Nat) (x1 : Int32) (x2 : Int32) (x3 : Int32) (x5 : Int32) (x6 : Int32) (u0 : Int32) : gM Int32 :=
    k48 a0 x1 x2 x3 u0 x5 (x6 + (1 : Int32))
set_option maxHeartbeats 4000000 in
set_option maxRecDepth 100000 in
theorem b_X8_rests_104 {G : gG} {l : Launch} {p : Program} {e : Env} {s : State} {m : MethodId} {args : Array Value} {below : List Frame} {meth : Method} {c : Code} {h0 : g_H} {r : Int32} {h' : g_H} (X : gX G l yX8_rests.cls cX8_rests 7 (some .boolean) [] yX8_rests.name p s m args meth c) {k48 : Nat → Int32 → Int32 → Int32 → Int32 → Int32 → Int32 → gM Int32} (K48 : w_X8_rests_48 G l p e s m args below meth c h0 r h' k48) : w_X8_rests_104 G l p e s m args below meth c h0 r h' (f_X8_rests_104 k48) := by
  have hx := X.1
  have hb := X.2.1
  have hown := X.2.2.2.1
  have hts := X.2.2.2.2.1
  intro a0 x1 x2 x3 x5 x6 u0 h H locs cells slots ls hf hI hl
  unfold f_X8_rests_104 at hf
  refine lv_istore (lv' := [(4, .int u0), (0, .ref a0), (1, .int x1), (2, .int x2), (3, .int x3), (5, .int x5), (6, .int x6)]) hx hb dX8_rests_104 hl (by decide) rfl (fun ls hl => ?_)
  refine lv_iinc (v := (x6 + (1 : Int32))) (lv' := [(6, .int (x6 + (1 : Int32))), (4, .int u0), (0, .ref a0), (1, .int x1), (2, .int x2), (3, .int x3), (5, .int x5)]) hx hb dX8_rests_106 hl (k := 6) rfl rfl (by decide) rfl (fun ls hl => ?_)
  refine lv_goto (tgt := 48) hx hb dX8_rests_109 (by decide) ?_
  exact K48 _ _ _ _ _ _ _ _ _ _ _ _ _ hf hI (lv_sub hl [2, 3, 4, 5, 1, 6, 0] rfl)
def f_X8_rests_99 (k48 : Nat → Int32 → Int32 → Int32 → Int32 → Int32 → Int32 → gM Int32) (a0 : Nat) (x1 : Int32) (x2 : Int32) (x3 : Int32) (x5 : Int32) (x6 : Int32) : gM Int32 :=
    f_X8_rests_104 k48 a0 x1 x2 x3 x5 x6 (1 : Int32)
set_option maxHeartbeats 4000000 in
set_option maxRecDepth 100000 in
theorem b_X8_rests_99 {G : gG} {l : Launch} {p : Program} {e : Env} {s : State} {m : MethodId} {args : Array Value} {below : List Frame} {meth : Method} {c : Code} {h0 : g_H} {r : Int32} {h' : g_H} (X : gX G l yX8_rests.cls cX8_rests 7 (some .boolean) [] yX8_rests.name p s m args meth c) {k48 : Nat → Int32 → Int32 → Int32 → Int32 → Int32 → Int32 → gM Int32} (K48 : w_X8_rests_48 G l p e s m args below meth c h0 r h' k48) : w_X8_rests_99 G l p e s m args below meth c h0 r h' (f_X8_rests_99 k48) := by
  have hx := X.1
  have hb := X.2.1
  have hown := X.2.2.2.1
  have hts := X.2.2.2.2.1
  intro a0 x1 x2 x3 x5 x6 h H locs cells slots ls hf hI hl
  unfold f_X8_rests_99 at hf
  refine lv_iconst (v := (1 : Int32)) hx hb dX8_rests_99 (by decide) ?_
  refine lv_goto (tgt := 104) hx hb dX8_rests_100 (by decide) ?_
  exact b_X8_rests_104 X K48 _ _ _ _ _ _ _ _ _ _ _ _ _ hf hI (lv_sub hl [0, 1, 2, 3, 4, 5] rfl)
def f_X8_rests_103 (k48 : Nat → Int32 → Int32 → Int32 → Int32 → Int32 → Int32 → gM Int32) (a0 : Nat) (x1 : Int32) (x2 : Int32) (x3 : Int32) (x5 : Int32) (x6 : Int32) : gM Int32 :=
    f_X8_rests_104 k48 a0 x1 x2 x3 x5 x6 (0 : Int32)
set_option maxHeartbeats 4000000 in
set_option maxRecDepth 100000 in
theorem b_X8_rests_103 {G : gG} {l : Launch} {p : Program} {e : Env} {s : State} {m : MethodId} {args : Array Value} {below : List Frame} {meth : Method} {c : Code} {h0 : g_H} {r : Int32} {h' : g_H} (X : gX G l yX8_rests.cls cX8_rests 7 (some .boolean) [] yX8_rests.name p s m args meth c) {k48 : Nat → Int32 → Int32 → Int32 → Int32 → Int32 → Int32 → gM Int32} (K48 : w_X8_rests_48 G l p e s m args below meth c h0 r h' k48) : w_X8_rests_103 G l p e s m args below meth c h0 r h' (f_X8_rests_103 k48) := by
  have hx := X.1
  have hb := X.2.1
  have hown := X.2.2.2.1
  have hts := X.2.2.2.2.1
  intro a0 x1 x2 x3 x5 x6 h H locs cells slots ls hf hI hl
  unfold f_X8_rests_103 at hf
  refine lv_iconst (v := (0 : Int32)) hx hb dX8_rests_103 (by decide) ?_
  exact b_X8_rests_104 X K48 _ _ _ _ _ _ _ _ _ _ _ _ _ hf hI (lv_sub hl [0, 1, 2, 3, 4, 5] rfl)
def f_X8_rests_112 (x4 : Int32) : gM Int32 :=
    gB (gGd (x4 = 0 ∨ x4 = 1)) fun _ =>
    (gRet x4)
set_option maxHeartbeats 4000000 in
set_option maxRecDepth 100000 in
theorem b_X8_rests_112 {G : gG} {l : Launch} {p : Program} {e : Env} {s : State} {m : MethodId} {args : Array Value} {below : List Frame} {meth : Method} {c : Code} {h0 : g_H} {r : Int32} {h' : g_H} (X : gX G l yX8_rests.cls cX8_rests 7 (some .boolean) [] yX8_rests.name p s m args meth c) : w_X8_rests_112 G l p e s m args below meth c h0 r h' (f_X8_rests_112) := by
  have hx := X.1
  have hb := X.2.1
  have hown := X.2.2.2.1
  have hts := X.2.2.2.2.1
  intro x4 h H locs cells slots ls hf hI hl
  unfold f_X8_rests_112 at hf
  refine lv_iload hx hb dX8_rests_112 (lv_at hl 0 rfl) ?_
  obtain ⟨hz, hf⟩ := gB_gd hf
  cases gRet_e hf
  exact g_retZ X hI hz rfl dX8_rests_114
def f_X8_rests_48 : Nat → Nat → Int32 → Int32 → Int32 → Int32 → Int32 → Int32 → gM Int32
  | 0, _, _, _, _, _, _, _ => gFail
  | n + 1, a0, x1, x2, x3, x4, x5, x6 =>
    gIf ((8 : Int32) < x6)
    (f_X8_rests_112 x4)
    (gIf (x4 = 0)
    (f_X8_rests_112 x4)
    (gB (gCk a0 7) fun _ =>
    gB (f_X8_canBe a0 x6) fun r101 =>
    gIf (r101 = 0)
    (f_X8_rests_99 (f_X8_rests_48 n) a0 x1 x2 x3 x5 x6)
    (gIf (x5 = 0)
    (gB (gCk a0 7) fun _ =>
    gB (f_X8_isHeard a0 x1 x6 x3) fun r102 =>
    gIf (r102 = 0)
    (f_X8_rests_99 (f_X8_rests_48 n) a0 x1 x2 x3 x5 x6)
    (f_X8_rests_103 (f_X8_rests_48 n) a0 x1 x2 x3 x5 x6))
    (gB (gCk a0 7) fun _ =>
    gB (f_X8_isHeard a0 x1 x2 x6) fun r103 =>
    gIf (r103 = 0)
    (f_X8_rests_103 (f_X8_rests_48 n) a0 x1 x2 x3 x5 x6)
    (f_X8_rests_99 (f_X8_rests_48 n) a0 x1 x2 x3 x5 x6)))))
set_option maxHeartbeats 4000000 in
set_option maxRecDepth 100000 in
theorem b_X8_rests_48 {G : gG} {l : Launch} {p : Program} {e : Env} {s : State} {m : MethodId} {args : Array Value} {below : List Frame} {meth : Method} {c : Code} {h0 : g_H} {r : Int32} {h' : g_H} (X : gX G l yX8_rests.cls cX8_rests 7 (some .boolean) [] yX8_rests.name p s m args meth c) : ∀ n : Nat, w_X8_rests_48 G l p e s m args below meth c h0 r h' (f_X8_rests_48 n) := by
  have hx := X.1
  have hb := X.2.1
  have hown := X.2.2.2.1
  have hts := X.2.2.2.2.1
  intro n
  induction n with
  | zero =>
    intro a0 x1 x2 x3 x4 x5 x6 h H locs cells slots ls hf hI hl
    exact (gFail_f hf).elim
  | succ n ih =>
    intro a0 x1 x2 x3 x4 x5 x6 h H locs cells slots ls hf hI hl
    rw [f_X8_rests_48] at hf
    refine lv_iload hx hb dX8_rests_48 (lv_at hl 6 rfl) ?_
    refine lv_bipush (v := (8 : Int32)) hx hb dX8_rests_50 (by decide) ?_
    refine lv_icmp_gt (tgt := 112) hx hb dX8_rests_52 (by decide) (fun c52 => ?_) (fun c52 => ?_)
    · have hf := g_t c52 hf
      exact b_X8_rests_112 X _ _ _ _ _ _ _ hf hI (lv_sub hl [4] rfl)
    · have hf := g_f c52 hf
      refine lv_iload hx hb dX8_rests_55 (lv_at hl 4 rfl) ?_
      refine lv_if_eq (tgt := 112) hx hb dX8_rests_57 (by decide) (fun c57 => ?_) (fun c57 => ?_)
      · have hf := g_t c57 hf
        exact b_X8_rests_112 X _ _ _ _ _ _ _ hf hI (lv_sub hl [4] rfl)
      · have hf := g_f c57 hf
        refine lv_aload_n hx hb dX8_rests_60 rfl (lv_at hl 0 rfl) ?_
        refine lv_iload hx hb dX8_rests_61 (lv_at hl 6 rfl) ?_
        obtain ⟨hs, hf⟩ := gCk_b hf
        refine g_cBI hI hf (fun v9 h9 e9 l9 l9' => g_rV X hI l9 l9' ⟨Nat.le_refl _, Nat.le_refl _⟩ (As := [.int x6]) (m_X8_canBe X.2.2.2.2.2.2.2.2.2.2.1 e9) ydX8_canBe hs rfl rfl q2029 q2031 qs111 q131 q2032 rfl (Nat.le_of_ble_eq_true rfl) (Nat.le_of_ble_eq_true rfl) hl.1 rfl (Nat.le_of_ble_eq_true rfl) dX8_rests_63) (fun r101 h H locs cells slots hf hI => ?_)
        refine lv_if_eq (tgt := 99) hx hb dX8_rests_66 (by decide) (fun c66 => ?_) (fun c66 => ?_)
        · have hf := g_t c66 hf
          exact b_X8_rests_99 X ih _ _ _ _ _ _ _ _ _ _ _ _ hf hI (lv_sub hl [0, 1, 2, 3, 5, 6] rfl)
        · have hf := g_f c66 hf
          refine lv_iload hx hb dX8_rests_69 (lv_at hl 5 rfl) ?_
          refine lv_if_eq (tgt := 88) hx hb dX8_rests_71 (by decide) (fun c71 => ?_) (fun c71 => ?_)
          · have hf := g_t c71 hf
            refine lv_aload_n hx hb dX8_rests_88 rfl (lv_at hl 0 rfl) ?_
            refine lv_iload_n hx hb dX8_rests_89 rfl (lv_at hl 1 rfl) ?_
            refine lv_iload hx hb dX8_rests_90 (lv_at hl 6 rfl) ?_
            refine lv_iload_n hx hb dX8_rests_92 rfl (lv_at hl 3 rfl) ?_
            obtain ⟨hs, hf⟩ := gCk_b hf
            refine g_cBI hI hf (fun v9 h9 e9 l9 l9' => g_rV X hI l9 l9' ⟨Nat.le_refl _, Nat.le_refl _⟩ (As := [.int x1, .int x6, .int x3]) (m_X8_isHeard X.2.2.2.2.2.2.2.2.2.2.1 e9) ydX8_isHeard hs rfl rfl q2033 q2035 qs112 q131 q2036 rfl (Nat.le_of_ble_eq_true rfl) (Nat.le_of_ble_eq_true rfl) hl.1 rfl (Nat.le_of_ble_eq_true rfl) dX8_rests_93) (fun r102 h H locs cells slots hf hI => ?_)
            refine lv_if_ne (tgt := 103) hx hb dX8_rests_96 (by decide) (fun c96 => ?_) (fun c96 => ?_)
            · have hf := g_f c96 hf
              exact b_X8_rests_103 X ih _ _ _ _ _ _ _ _ _ _ _ _ hf hI (lv_sub hl [0, 1, 2, 3, 5, 6] rfl)
            · have hf := g_t c96 hf
              exact b_X8_rests_99 X ih _ _ _ _ _ _ _ _ _ _ _ _ hf hI (lv_sub hl [0, 1, 2, 3, 5, 6] rfl)
          · have hf := g_f c71 hf
            refine lv_aload_n hx hb dX8_rests_74 rfl (lv_at hl 0 rfl) ?_
            refine lv_iload_n hx hb dX8_rests_75 rfl (lv_at hl 1 rfl) ?_
            refine lv_iload_n hx hb dX8_rests_76 rfl (lv_at hl 2 rfl) ?_
            refine lv_iload hx hb dX8_rests_77 (lv_at hl 6 rfl) ?_
            obtain ⟨hs, hf⟩ := gCk_b hf
            refine g_cBI hI hf (fun v9 h9 e9 l9 l9' => g_rV X hI l9 l9' ⟨Nat.le_refl _, Nat.le_refl _⟩ (As := [.int x1, .int x2, .int x6]) (m_X8_isHeard X.2.2.2.2.2.2.2.2.2.2.1 e9) ydX8_isHeard hs rfl rfl q2033 q2035 qs112 q131 q2036 rfl (Nat.le_of_ble_eq_true rfl) (Nat.le_of_ble_eq_true rfl) hl.1 rfl (Nat.le_of_ble_eq_true rfl) dX8_rests_79) (fun r103 h H locs cells slots hf hI => ?_)
            refine lv_if_eq (tgt := 103) hx hb dX8_rests_82 (by decide) (fun c82 => ?_) (fun c82 => ?_)
            · have hf := g_t c82 hf
              exact b_X8_rests_103 X ih _ _ _ _ _ _ _ _ _ _ _ _ hf hI (lv_sub hl [0, 1, 2, 3, 5, 6] rfl)
            · have hf := g_f c82 hf
              refine lv_goto (tgt := 99) hx hb dX8_rests_85 (by decide) ?_
              exact b_X8_rests_99 X ih _ _ _ _ _ _ _ _ _ _ _ _ hf hI (lv_sub hl [0, 1, 2, 3, 5, 6] rfl)
def f_X8_rests_43 (a0 : Nat) (x1 : Int32) (x2 : Int32) (x3 : Int32) (x4 : Int32) (u0 : Int32) : gM Int32 :=
    f_X8_rests_48 gN a0 x1 x2 x3 x4 u0 (0 : Int32)
set_option maxHeartbeats 4000000 in
set_option maxRecDepth 100000 in
theorem b_X8_rests_43 {G : gG} {l : Launch} {p : Program} {e : Env} {s : State} {m : MethodId} {args : Array Value} {below : List Frame} {meth : Method} {c : Code} {h0 : g_H} {r : Int32} {h' : g_H} (X : gX G l yX8_rests.cls cX8_rests 7 (some .boolean) [] yX8_rests.name p s m args meth c) : w_X8_rests_43 G l p e s m args below meth c h0 r h' (f_X8_rests_43) := by
  have hx := X.1
  have hb := X.2.1
  have hown := X.2.2.2.1
  have hts := X.2.2.2.2.1
  intro a0 x1 x2 x3 x4 u0 h H locs cells slots ls hf hI hl
  unfold f_X8_rests_43 at hf
  refine lv_istore (lv' := [(5, .int u0), (0, .ref a0), (1, .int x1), (2, .int x2), (3, .int x3), (4, .int x4)]) hx hb dX8_rests_43 hl (by decide) rfl (fun ls hl => ?_)
  refine lv_iconst (v := (0 : Int32)) hx hb dX8_rests_45 (by decide) ?_
  refine lv_istore (lv' := [(6, .int (0 : Int32)), (5, .int u0), (0, .ref a0), (1, .int x1), (2, .int x2), (3, .int x3), (4, .int x4)]) hx hb dX8_rests_46 hl (by decide) rfl (fun ls hl => ?_)
  exact b_X8_rests_48 X gN _ _ _ _ _ _ _ _ _ _ _ _ _ hf hI (lv_sub hl [2, 3, 4, 5, 6, 1, 0] rfl)
def f_X8_rests_42 (a0 : Nat) (x1 : Int32) (x2 : Int32) (x3 : Int32) (x4 : Int32) : gM Int32 :=
    f_X8_rests_43 a0 x1 x2 x3 x4 (0 : Int32)
set_option maxHeartbeats 4000000 in
set_option maxRecDepth 100000 in
theorem b_X8_rests_42 {G : gG} {l : Launch} {p : Program} {e : Env} {s : State} {m : MethodId} {args : Array Value} {below : List Frame} {meth : Method} {c : Code} {h0 : g_H} {r : Int32} {h' : g_H} (X : gX G l yX8_rests.cls cX8_rests 7 (some .boolean) [] yX8_rests.name p s m args meth c) : w_X8_rests_42 G l p e s m args below meth c h0 r h' (f_X8_rests_42) := by
  have hx := X.1
  have hb := X.2.1
  have hown := X.2.2.2.1
  have hts := X.2.2.2.2.1
  intro a0 x1 x2 x3 x4 h H locs cells slots ls hf hI hl
  unfold f_X8_rests_42 at hf
  refine lv_iconst (v := (0 : Int32)) hx hb dX8_rests_42 (by decide) ?_
  exact b_X8_rests_43 X _ _ _ _ _ _ _ _ _ _ _ _ hf hI (lv_sub hl [0, 1, 2, 3, 4] rfl)
def f_X8_rests_21 (a0 : Nat) (x1 : Int32) (x2 : Int32) (x3 : Int32) (u0 : Int32) : gM Int32 :=
    gIf (u0 = 0)
    (f_X8_rests_42 a0 x1 x2 x3 u0)
    (gB (gCk a0 7) fun _ =>
    gB (f_X8_isHeard a0 x1 x2 x3) fun r101 =>
    gIf (r101 = 0)
    (f_X8_rests_42 a0 x1 x2 x3 u0)
    (f_X8_rests_43 a0 x1 x2 x3 u0 (1 : Int32)))
set_option maxHeartbeats 4000000 in
set_option maxRecDepth 100000 in
theorem b_X8_rests_21 {G : gG} {l : Launch} {p : Program} {e : Env} {s : State} {m : MethodId} {args : Array Value} {below : List Frame} {meth : Method} {c : Code} {h0 : g_H} {r : Int32} {h' : g_H} (X : gX G l yX8_rests.cls cX8_rests 7 (some .boolean) [] yX8_rests.name p s m args meth c) : w_X8_rests_21 G l p e s m args below meth c h0 r h' (f_X8_rests_21) := by
  have hx := X.1
  have hb := X.2.1
  have hown := X.2.2.2.1
  have hts := X.2.2.2.2.1
  intro a0 x1 x2 x3 u0 h H locs cells slots ls hf hI hl
  unfold f_X8_rests_21 at hf
  refine lv_istore (lv' := [(4, .int u0), (0, .ref a0), (1, .int x1), (2, .int x2), (3, .int x3)]) hx hb dX8_rests_21 hl (by decide) rfl (fun ls hl => ?_)
  refine lv_iload hx hb dX8_rests_23 (lv_at hl 0 rfl) ?_
  refine lv_if_eq (tgt := 42) hx hb dX8_rests_25 (by decide) (fun c25 => ?_) (fun c25 => ?_)
  · have hf := g_t c25 hf
    exact b_X8_rests_42 X _ _ _ _ _ _ _ _ _ _ _ hf hI (lv_sub hl [1, 2, 3, 4, 0] rfl)
  · have hf := g_f c25 hf
    refine lv_aload_n hx hb dX8_rests_28 rfl (lv_at hl 1 rfl) ?_
    refine lv_iload_n hx hb dX8_rests_29 rfl (lv_at hl 2 rfl) ?_
    refine lv_iload_n hx hb dX8_rests_30 rfl (lv_at hl 3 rfl) ?_
    refine lv_iload_n hx hb dX8_rests_31 rfl (lv_at hl 4 rfl) ?_
    obtain ⟨hs, hf⟩ := gCk_b hf
    refine g_cBI hI hf (fun v9 h9 e9 l9 l9' => g_rV X hI l9 l9' ⟨Nat.le_refl _, Nat.le_refl _⟩ (As := [.int x1, .int x2, .int x3]) (m_X8_isHeard X.2.2.2.2.2.2.2.2.2.2.1 e9) ydX8_isHeard hs rfl rfl q2033 q2035 qs112 q131 q2036 rfl (Nat.le_of_ble_eq_true rfl) (Nat.le_of_ble_eq_true rfl) hl.1 rfl (Nat.le_of_ble_eq_true rfl) dX8_rests_32) (fun r101 h H locs cells slots hf hI => ?_)
    refine lv_if_eq (tgt := 42) hx hb dX8_rests_35 (by decide) (fun c35 => ?_) (fun c35 => ?_)
    · have hf := g_t c35 hf
      exact b_X8_rests_42 X _ _ _ _ _ _ _ _ _ _ _ hf hI (lv_sub hl [1, 2, 3, 4, 0] rfl)
    · have hf := g_f c35 hf
      refine lv_iconst (v := (1 : Int32)) hx hb dX8_rests_38 (by decide) ?_
      refine lv_goto (tgt := 43) hx hb dX8_rests_39 (by decide) ?_
      exact b_X8_rests_43 X _ _ _ _ _ _ _ _ _ _ _ _ hf hI (lv_sub hl [1, 2, 3, 4, 0] rfl)
def f_X8_rests_20 (a0 : Nat) (x1 : Int32) (x2 : Int32) (x3 : Int32) : gM Int32 :=
    f_X8_rests_21 a0 x1 x2 x3 (0 : Int32)
set_option maxHeartbeats 4000000 in
set_option maxRecDepth 100000 in
theorem b_X8_rests_20 {G : gG} {l : Launch} {p : Program} {e : Env} {s : State} {m : MethodId} {args : Array Value} {below : List Frame} {meth : Method} {c : Code} {h0 : g_H} {r : Int32} {h' : g_H} (X : gX G l yX8_rests.cls cX8_rests 7 (some .boolean) [] yX8_rests.name p s m args meth c) : w_X8_rests_20 G l p e s m args below meth c h0 r h' (f_X8_rests_20) := by
  have hx := X.1
  have hb := X.2.1
  have hown := X.2.2.2.1
  have hts := X.2.2.2.2.1
  intro a0 x1 x2 x3 h H locs cells slots ls hf hI hl
  unfold f_X8_rests_20 at hf
  refine lv_iconst (v := (0 : Int32)) hx hb dX8_rests_20 (by decide) ?_
  exact b_X8_rests_21 X _ _ _ _ _ _ _ _ _ _ _ hf hI (lv_sub hl [0, 1, 2, 3] rfl)
def f_X8_rests (a0 : Nat) (x1 : Int32) (x2 : Int32) (x3 : Int32) : gM Int32 :=
    gB (gCk a0 7) fun _ =>
    gB (f_X8_canBe a0 x2) fun r1 =>
    gIf (r1 = 0)
    (f_X8_rests_20 a0 x1 x2 x3)
    (gB (gCk a0 7) fun _ =>
    gB (f_X8_canBe a0 x3) fun r2 =>
    gIf (r2 = 0)
    (f_X8_rests_20 a0 x1 x2 x3)
    (f_X8_rests_21 a0 x1 x2 x3 (1 : Int32)))
set_option maxHeartbeats 4000000 in
set_option maxRecDepth 100000 in
theorem m_X8_rests {G : gG} {l : Launch} (hfl : l.stackTraces = false) {a0 : Nat} {x1 : Int32} {x2 : Int32} {x3 : Int32} {h h' : g_H} {r : Int32} (hf : (f_X8_rests a0 x1 x2 x3).1 h = some (r, h')) : gMet G l yX8_rests (Cond.code yX8_rests cX8_rests 7 (some .boolean)) 12 273 [.ref a0, .int x1, .int x2, .int x3] h (.inl (g_wI r)) h' := by
  refine g_head hfl ((f_X8_rests a0 x1 x2 x3).2 h r h' hf) (plainFor_of_name (by decide)) (Nat.le_of_ble_eq_true rfl) (fun p e s m below meth c H locs cells slots ls X hI hl9 => ?_)
  have hl : lv_has ls 7 [(0, .ref a0), (1, .int x1), (2, .int x2), (3, .int x3)] := hl9
  have hx := X.1
  have hb := X.2.1
  have hown := X.2.2.2.1
  have hts := X.2.2.2.2.1
  unfold f_X8_rests at hf
  refine lv_aload_n hx hb dX8_rests_0 rfl (lv_at hl 0 rfl) ?_
  refine lv_iload_n hx hb dX8_rests_1 rfl (lv_at hl 2 rfl) ?_
  obtain ⟨hs, hf⟩ := gCk_b hf
  refine g_cBI hI hf (fun v9 h9 e9 l9 l9' => g_rV X hI l9 l9' ⟨Nat.le_refl _, Nat.le_refl _⟩ (As := [.int x2]) (m_X8_canBe X.2.2.2.2.2.2.2.2.2.2.1 e9) ydX8_canBe hs rfl rfl q2029 q2031 qs111 q131 q2032 rfl (Nat.le_of_ble_eq_true rfl) (Nat.le_of_ble_eq_true rfl) hl.1 rfl (Nat.le_of_ble_eq_true rfl) dX8_rests_2) (fun r1 h H locs cells slots hf hI => ?_)
  refine lv_if_eq (tgt := 20) hx hb dX8_rests_5 (by decide) (fun c5 => ?_) (fun c5 => ?_)
  · have hf := g_t c5 hf
    exact b_X8_rests_20 X _ _ _ _ _ _ _ _ _ _ hf hI (lv_sub hl [0, 1, 2, 3] rfl)
  · have hf := g_f c5 hf
    refine lv_aload_n hx hb dX8_rests_8 rfl (lv_at hl 0 rfl) ?_
    refine lv_iload_n hx hb dX8_rests_9 rfl (lv_at hl 3 rfl) ?_
    obtain ⟨hs, hf⟩ := gCk_b hf
    refine g_cBI hI hf (fun v9 h9 e9 l9 l9' => g_rV X hI l9 l9' ⟨Nat.le_refl _, Nat.le_refl _⟩ (As := [.int x3]) (m_X8_canBe X.2.2.2.2.2.2.2.2.2.2.1 e9) ydX8_canBe hs rfl rfl q2029 q2031 qs111 q131 q2032 rfl (Nat.le_of_ble_eq_true rfl) (Nat.le_of_ble_eq_true rfl) hl.1 rfl (Nat.le_of_ble_eq_true rfl) dX8_rests_10) (fun r2 h H locs cells slots hf hI => ?_)
    refine lv_if_eq (tgt := 20) hx hb dX8_rests_13 (by decide) (fun c13 => ?_) (fun c13 => ?_)
    · have hf := g_t c13 hf
      exact b_X8_rests_20 X _ _ _ _ _ _ _ _ _ _ hf hI (lv_sub hl [0, 1, 2, 3] rfl)
    · have hf := g_f c13 hf
      refine lv_iconst (v := (1 : Int32)) hx hb dX8_rests_16 (by decide) ?_
      refine lv_goto (tgt := 21) hx hb dX8_rests_17 (by decide) ?_
      exact b_X8_rests_21 X _ _ _ _ _ _ _ _ _ _ _ hf hI (lv_sub hl [0, 1, 2, 3] rfl)
end
