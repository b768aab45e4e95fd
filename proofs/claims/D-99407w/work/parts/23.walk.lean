noncomputable section
/-! X8_sumOf -/
abbrev w_X8_sumOf_67 (G : gG) (l : Launch) (p : Program) (e : Env) (s : State) (m : MethodId) (args : Array Value) (below : List Frame) (meth : Method) (c : Code) (h0 : g_H) (r : Int32) (h' : g_H) (k : Nat → Int32 → Int32 → Int32 → gM Int32) : Prop := ∀ (a0 : Nat) (x1 : Int32) (x2 : Int32) (x3 : Int32) (h : g_H) (H : Heap) (locs : List Loc) (cells slots : Nat) (ls : Array Slot), (k a0 x1 x2 x3).1 h = some (r, h') → gI G h0 h H locs cells slots → lv_has ls 4 [(0, .ref a0), (1, .int x1), (2, .int x2), (3, .int x3)] → W p l e (g_rm 5 113 h0 h') s m args below meth c H locs cells slots (gQ G below args s h0 h' (.inl (g_wI r))) (F0 m 67 ls [])
abbrev w_X8_sumOf_73 (G : gG) (l : Launch) (p : Program) (e : Env) (s : State) (m : MethodId) (args : Array Value) (below : List Frame) (meth : Method) (c : Code) (h0 : g_H) (r : Int32) (h' : g_H) (k : Int32 → gM Int32) : Prop := ∀ (x2 : Int32) (h : g_H) (H : Heap) (locs : List Loc) (cells slots : Nat) (ls : Array Slot), (k x2).1 h = some (r, h') → gI G h0 h H locs cells slots → lv_has ls 4 [(2, .int x2)] → W p l e (g_rm 5 113 h0 h') s m args below meth c H locs cells slots (gQ G below args s h0 h' (.inl (g_wI r))) (F0 m 73 ls [])
abbrev w_X8_sumOf_4 (G : gG) (l : Launch) (p : Program) (e : Env) (s : State) (m : MethodId) (args : Array Value) (below : List Frame) (meth : Method) (c : Code) (h0 : g_H) (r : Int32) (h' : g_H) (k : Nat → Int32 → Int32 → Int32 → gM Int32) : Prop := ∀ (a0 : Nat) (x1 : Int32) (x2 : Int32) (x3 : Int32) (h : g_H) (H : Heap) (locs : List Loc) (cells slots : Nat) (ls : Array Slot), (k a0 x1 x2 x3).1 h = some (r, h') → gI G h0 h H locs cells slots → lv_has ls 4 [(0, .ref a0), (1, .int x1), (2, .int x2), (3, .int x3)] → W p l e (g_rm 5 113 h0 h') s m args below meth c H locs cells slots (gQ G below args s h0 h' (.inl (g_wI r))) (F0 m 4 ls [])
def f_X8_sumOf_67 (k4 : Nat → Int32 → Int32 → Int32 → gM Int32) (a0 : Nat) (x1 : Int32) (x2 : Int32) (x3 : Int32) : gM Int32 :=
    k4 a0 x1 x2 (x3 + (1 : Int32))
set_option maxHeartbeats 4000000 in
set_option maxRecDepth 100000 in
theorem b_X8_sumOf_67 {G : gG} {l : Launch} {p : Program} {e : Env} {s : State} {m : MethodId} {args : Array Value} {below : List Frame} {meth : Method} {c : Code} {h0 : g_H} {r : Int32} {h' : g_H} (X : gX G l yX8_sumOf.cls cX8_sumOf 4 (some .int) [] yX8_sumOf.name p s m args meth c) {k4 : Nat → Int32 → Int32 → Int32 → gM Int32} (K4 : w_X8_sumOf_4 G l p e s m args below meth c h0 r h' k4) : w_X8_sumOf_67 G l p e s m args below meth c h0 r h' (f_X8_sumOf_67 k4) := by
  have hx := X.1
  have hb := X.2.1
  have hown := X.2.2.2.1
  have hts := X.2.2.2.2.1
  intro a0 x1 x2 x3 h H locs cells slots ls hf hI hl
  unfold f_X8_sumOf_67 at hf
  refine lv_iinc (v := (x3 + (1 : Int32))) (lv' := [(3, .int (x3 + (1 : Int32))), (0, .ref a0), (1, .int x1), (2, .int x2)]) hx hb dX8_sumOf_67 hl (k := 3) rfl rfl (by decide) rfl (fun ls hl => ?_)
  refine lv_goto (tgt := 4) hx hb dX8_sumOf_70 (by decide) ?_
  exact K4 _ _ _ _ _ _ _ _ _ _ hf hI (lv_sub hl [1, 2, 3, 0] rfl)
def f_X8_sumOf_73 (x2 : Int32) : gM Int32 :=
    (gRet x2)
set_option maxHeartbeats 4000000 in
set_option maxRecDepth 100000 in
theorem b_X8_sumOf_73 {G : gG} {l : Launch} {p : Program} {e : Env} {s : State} {m : MethodId} {args : Array Value} {below : List Frame} {meth : Method} {c : Code} {h0 : g_H} {r : Int32} {h' : g_H} (X : gX G l yX8_sumOf.cls cX8_sumOf 4 (some .int) [] yX8_sumOf.name p s m args meth c) : w_X8_sumOf_73 G l p e s m args below meth c h0 r h' (f_X8_sumOf_73) := by
  have hx := X.1
  have hb := X.2.1
  have hown := X.2.2.2.1
  have hts := X.2.2.2.2.1
  intro x2 h H locs cells slots ls hf hI hl
  unfold f_X8_sumOf_73 at hf
  refine lv_iload_n hx hb dX8_sumOf_73 rfl (lv_at hl 0 rfl) ?_
  cases gRet_e hf
  exact g_retI X hI rfl dX8_sumOf_74
def f_X8_sumOf_4 : Nat → Nat → Int32 → Int32 → Int32 → gM Int32
  | 0, _, _, _, _ => gFail
  | n + 1, a0, x1, x2, x3 =>
    gB (gFR a0 7 1) fun v101 =>
    gB (gAI v101 0 (3 : Int32)) fun v102 =>
    gIf (v102 = (1 : Int32))
    (gB (gFR a0 7 1) fun v103 =>
    gB (gAI v103 0 (305 : Int32)) fun v104 =>
    gIf (v104 ≤ x3)
    (f_X8_sumOf_73 x2)
    (gB (gFR a0 7 1) fun v105 =>
    gB (gAI v105 0 ((306 : Int32) + ((4 : Int32) * x3))) fun v106 =>
    gIf (v106 = x1)
    (gB (gCk a0 7) fun _ =>
    gB (f_X8_holdsLine a0 x3) fun r107 =>
    gIf (r107 = 0)
    (f_X8_sumOf_67 (f_X8_sumOf_4 n) a0 x1 x2 x3)
    (gB (gFR a0 7 1) fun v108 =>
    gB (gAI v108 0 (((306 : Int32) + ((4 : Int32) * x3)) + (1 : Int32))) fun v109 =>
    f_X8_sumOf_67 (f_X8_sumOf_4 n) a0 x1 (x2 + v109) x3))
    (f_X8_sumOf_67 (f_X8_sumOf_4 n) a0 x1 x2 x3)))
    (f_X8_sumOf_73 x2)
set_option maxHeartbeats 4000000 in
set_option maxRecDepth 100000 in
theorem b_X8_sumOf_4 {G : gG} {l : Launch} {p : Program} {e : Env} {s : State} {m : MethodId} {args : Array Value} {below : List Frame} {meth : Method} {c : Code} {h0 : g_H} {r : Int32} {h' : g_H} (X : gX G l yX8_sumOf.cls cX8_sumOf 4 (some .int) [] yX8_sumOf.name p s m args meth c) : ∀ n : Nat, w_X8_sumOf_4 G l p e s m args below meth c h0 r h' (f_X8_sumOf_4 n) := by
  have hx := X.1
  have hb := X.2.1
  have hown := X.2.2.2.1
  have hts := X.2.2.2.2.1
  intro n
  induction n with
  | zero =>
    intro a0 x1 x2 x3 h H locs cells slots ls hf hI hl
    exact (gFail_f hf).elim
  | succ n ih =>
    intro a0 x1 x2 x3 h H locs cells slots ls hf hI hl
    rw [f_X8_sumOf_4] at hf
    refine lv_aload_n hx hb dX8_sumOf_4 rfl (lv_at hl 0 rfl) ?_
    refine g_fr X hI hf fX8_1 q1445 rfl rfl dX8_sumOf_5 (fun v101 hf => ?_)
    refine lv_iconst (v := (3 : Int32)) hx hb dX8_sumOf_8 (by decide) ?_
    refine g_ai0 X hI hf dX8_sumOf_9 (fun v102 hf => ?_)
    refine lv_iconst (v := (1 : Int32)) hx hb dX8_sumOf_10 (by decide) ?_
    refine lv_icmp_ne (tgt := 73) hx hb dX8_sumOf_11 (by decide) (fun c11 => ?_) (fun c11 => ?_)
    · have hf := g_f c11 hf
      exact b_X8_sumOf_73 X _ _ _ _ _ _ _ hf hI (lv_sub hl [2] rfl)
    · have hf := g_t c11 hf
      refine lv_iload_n hx hb dX8_sumOf_14 rfl (lv_at hl 3 rfl) ?_
      refine lv_aload_n hx hb dX8_sumOf_15 rfl (lv_at hl 0 rfl) ?_
      refine g_fr X hI hf fX8_1 q1445 rfl rfl dX8_sumOf_16 (fun v103 hf => ?_)
      refine lv_sipush (v := (305 : Int32)) hx hb dX8_sumOf_19 (by decide) ?_
      refine g_ai0 X hI hf dX8_sumOf_22 (fun v104 hf => ?_)
      refine lv_icmp_ge (tgt := 73) hx hb dX8_sumOf_23 (by decide) (fun c23 => ?_) (fun c23 => ?_)
      · have hf := g_t c23 hf
        exact b_X8_sumOf_73 X _ _ _ _ _ _ _ hf hI (lv_sub hl [2] rfl)
      · have hf := g_f c23 hf
        refine lv_aload_n hx hb dX8_sumOf_26 rfl (lv_at hl 0 rfl) ?_
        refine g_fr X hI hf fX8_1 q1445 rfl rfl dX8_sumOf_27 (fun v105 hf => ?_)
        refine lv_sipush (v := (306 : Int32)) hx hb dX8_sumOf_30 (by decide) ?_
        refine lv_iconst (v := (4 : Int32)) hx hb dX8_sumOf_33 (by decide) ?_
        refine lv_iload_n hx hb dX8_sumOf_34 rfl (lv_at hl 3 rfl) ?_
        refine lv_imul hx hb dX8_sumOf_35 ?_
        refine lv_iadd hx hb dX8_sumOf_36 ?_
        refine g_ai0 X hI hf dX8_sumOf_37 (fun v106 hf => ?_)
        refine lv_iload_n hx hb dX8_sumOf_38 rfl (lv_at hl 1 rfl) ?_
        refine lv_icmp_ne (tgt := 67) hx hb dX8_sumOf_39 (by decide) (fun c39 => ?_) (fun c39 => ?_)
        · have hf := g_f c39 hf
          exact b_X8_sumOf_67 X ih _ _ _ _ _ _ _ _ _ _ hf hI (lv_sub hl [0, 1, 2, 3] rfl)
        · have hf := g_t c39 hf
          refine lv_aload_n hx hb dX8_sumOf_42 rfl (lv_at hl 0 rfl) ?_
          refine lv_iload_n hx hb dX8_sumOf_43 rfl (lv_at hl 3 rfl) ?_
          obtain ⟨hs, hf⟩ := gCk_b hf
          refine g_cBI hI hf (fun v9 h9 e9 l9 l9' => g_rV X hI l9 l9' ⟨Nat.le_refl _, Nat.le_refl _⟩ (As := [.int x3]) (m_X8_holdsLine X.2.2.2.2.2.2.2.2.2.2.1 e9) ydX8_holdsLine hs rfl rfl q1787 q1789 qs79 q131 q1790 rfl (Nat.le_of_ble_eq_true rfl) (Nat.le_of_ble_eq_true rfl) hl.1 rfl (Nat.le_of_ble_eq_true rfl) dX8_sumOf_44) (fun r107 h H locs cells slots hf hI => ?_)
          refine lv_if_eq (tgt := 67) hx hb dX8_sumOf_47 (by decide) (fun c47 => ?_) (fun c47 => ?_)
          · have hf := g_t c47 hf
            exact b_X8_sumOf_67 X ih _ _ _ _ _ _ _ _ _ _ hf hI (lv_sub hl [0, 1, 2, 3] rfl)
          · have hf := g_f c47 hf
            refine lv_iload_n hx hb dX8_sumOf_50 rfl (lv_at hl 2 rfl) ?_
            refine lv_aload_n hx hb dX8_sumOf_51 rfl (lv_at hl 0 rfl) ?_
            refine g_fr X hI hf fX8_1 q1445 rfl rfl dX8_sumOf_52 (fun v108 hf => ?_)
            refine lv_sipush (v := (306 : Int32)) hx hb dX8_sumOf_55 (by decide) ?_
            refine lv_iconst (v := (4 : Int32)) hx hb dX8_sumOf_58 (by decide) ?_
            refine lv_iload_n hx hb dX8_sumOf_59 rfl (lv_at hl 3 rfl) ?_
            refine lv_imul hx hb dX8_sumOf_60 ?_
            refine lv_iadd hx hb dX8_sumOf_61 ?_
            refine lv_iconst (v := (1 : Int32)) hx hb dX8_sumOf_62 (by decide) ?_
            refine lv_iadd hx hb dX8_sumOf_63 ?_
            refine g_ai0 X hI hf dX8_sumOf_64 (fun v109 hf => ?_)
            refine lv_iadd hx hb dX8_sumOf_65 ?_
            refine lv_istore_n (lv' := [(2, .int (x2 + v109)), (0, .ref a0), (1, .int x1), (3, .int x3)]) hx hb dX8_sumOf_66 rfl hl (by decide) rfl (fun ls hl => ?_)
            exact b_X8_sumOf_67 X ih _ _ _ _ _ _ _ _ _ _ hf hI (lv_sub hl [1, 2, 0, 3] rfl)
def f_X8_sumOf (a0 : Nat) (x1 : Int32) : gM Int32 :=
    f_X8_sumOf_4 gN a0 x1 (0 : Int32) (0 : Int32)
set_option maxHeartbeats 4000000 in
set_option maxRecDepth 100000 in
theorem m_X8_sumOf {G : gG} {l : Launch} (hfl : l.stackTraces = false) {a0 : Nat} {x1 : Int32} {h h' : g_H} {r : Int32} (hf : (f_X8_sumOf a0 x1).1 h = some (r, h')) : gMet G l yX8_sumOf (Cond.code yX8_sumOf cX8_sumOf 4 (some .int)) 5 113 [.ref a0, .int x1] h (.inl (g_wI r)) h' := by
  refine g_head hfl ((f_X8_sumOf a0 x1).2 h r h' hf) (plainFor_of_name (by decide)) (Nat.le_of_ble_eq_true rfl) (fun p e s m below meth c H locs cells slots ls X hI hl9 => ?_)
  have hl : lv_has ls 4 [(0, .ref a0), (1, .int x1)] := hl9
  have hx := X.1
  have hb := X.2.1
  have hown := X.2.2.2.1
  have hts := X.2.2.2.2.1
  unfold f_X8_sumOf at hf
  refine lv_iconst (v := (0 : Int32)) hx hb dX8_sumOf_0 (by decide) ?_
  refine lv_istore_n (lv' := [(2, .int (0 : Int32)), (0, .ref a0), (1, .int x1)]) hx hb dX8_sumOf_1 rfl hl (by decide) rfl (fun ls hl => ?_)
  refine lv_iconst (v := (0 : Int32)) hx hb dX8_sumOf_2 (by decide) ?_
  refine lv_istore_n (lv' := [(3, .int (0 : Int32)), (2, .int (0 : Int32)), (0, .ref a0), (1, .int x1)]) hx hb dX8_sumOf_3 rfl hl (by decide) rfl (fun ls hl => ?_)
  exact b_X8_sumOf_4 X gN _ _ _ _ _ _ _ _ _ _ hf hI (lv_sub hl [2, 3, 1, 0] rfl)
/-! X8_wearsBy -/
def f_X8_wearsBy (a0 : Nat) (x1 : Int32) (x2 : Int32) : gM Int32 :=
    gB (gPI a0 7 21 x1) fun _ =>
    gB (gPI a0 7 22 x2) fun _ =>
    gB (gCk a0 7) fun _ =>
    gB (f_X8_sumOf a0 (2 : Int32)) fun r1 =>
    (gRet ((1 : Int32) + r1))
set_option maxHeartbeats 4000000 in
set_option maxRecDepth 100000 in
theorem m_X8_wearsBy {G : gG} {l : Launch} (hfl : l.stackTraces = false) {a0 : Nat} {x1 : Int32} {x2 : Int32} {h h' : g_H} {r : Int32} (hf : (f_X8_wearsBy a0 x1 x2).1 h = some (r, h')) : gMet G l yX8_wearsBy (Cond.code yX8_wearsBy cX8_wearsBy 3 (some .int)) 6 136 [.ref a0, .int x1, .int x2] h (.inl (g_wI r)) h' := by
  refine g_head hfl ((f_X8_wearsBy a0 x1 x2).2 h r h' hf) (plainFor_of_name (by decide)) (Nat.le_of_ble_eq_true rfl) (fun p e s m below meth c H locs cells slots ls X hI hl9 => ?_)
  have hl : lv_has ls 3 [(0, .ref a0), (1, .int x1), (2, .int x2)] := hl9
  have hx := X.1
  have hb := X.2.1
  have hown := X.2.2.2.1
  have hts := X.2.2.2.2.1
  unfold f_X8_wearsBy at hf
  refine lv_aload_n hx hb dX8_wearsBy_0 rfl (lv_at hl 0 rfl) ?_
  refine lv_iload_n hx hb dX8_wearsBy_1 rfl (lv_at hl 1 rfl) ?_
  refine g_pi X hI hf fX8_21 q1465 rfl dX8_wearsBy_2 (fun h H locs hf hI => ?_)
  refine lv_aload_n hx hb dX8_wearsBy_5 rfl (lv_at hl 0 rfl) ?_
  refine lv_iload_n hx hb dX8_wearsBy_6 rfl (lv_at hl 2 rfl) ?_
  refine g_pi X hI hf fX8_22 q1466 rfl dX8_wearsBy_7 (fun h H locs hf hI => ?_)
  refine lv_iconst (v := (1 : Int32)) hx hb dX8_wearsBy_10 (by decide) ?_
  refine lv_aload_n hx hb dX8_wearsBy_11 rfl (lv_at hl 0 rfl) ?_
  refine lv_iconst (v := (2 : Int32)) hx hb dX8_wearsBy_12 (by decide) ?_
  obtain ⟨hs, hf⟩ := gCk_b hf
  refine g_cBI hI hf (fun v9 h9 e9 l9 l9' => g_rV X hI l9 l9' ⟨Nat.le_refl _, Nat.le_refl _⟩ (As := [.int (2 : Int32)]) (m_X8_sumOf X.2.2.2.2.2.2.2.2.2.2.1 e9) ydX8_sumOf hs rfl rfl q1783 q1785 qs78 q131 q1786 rfl (Nat.le_of_ble_eq_true rfl) (Nat.le_of_ble_eq_true rfl) hl.1 rfl (Nat.le_of_ble_eq_true rfl) dX8_wearsBy_13) (fun r1 h H locs cells slots hf hI => ?_)
  refine lv_iadd hx hb dX8_wearsBy_16 ?_
  cases gRet_e hf
  exact g_retI X hI rfl dX8_wearsBy_17
/-! X8_frightsBy -/
def f_X8_frightsBy (a0 : Nat) (x1 : Int32) (x2 : Int32) : gM Int32 :=
    gB (gPI a0 7 21 x1) fun _ =>
    gB (gPI a0 7 22 x2) fun _ =>
    gB (gCk a0 7) fun _ =>
    gB (f_X8_ofProp a0 x1 (1 : Int32)) fun r1 =>
    gB (gCk a0 7) fun _ =>
    gB (f_X8_ofProp a0 x1 (2 : Int32)) fun r2 =>
    gB (gCk a0 7) fun _ =>
    gB (f_X8_sumOf a0 (0 : Int32)) fun r3 =>
    gB (gCk a0 7) fun _ =>
    gB (f_X8_sumOf a0 (1 : Int32)) fun r4 =>
    gB (f_J13_max (0 : Int32) (((r1 - (r2 / (10 : Int32))) + r3) - r4)) fun r5 =>
    (gRet r5)
set_option maxHeartbeats 4000000 in
set_option maxRecDepth 100000 in
theorem m_X8_frightsBy {G : gG} {l : Launch} (hfl : l.stackTraces = false) {a0 : Nat} {x1 : Int32} {x2 : Int32} {h h' : g_H} {r : Int32} (hf : (f_X8_frightsBy a0 x1 x2).1 h = some (r, h')) : gMet G l yX8_frightsBy (Cond.code yX8_frightsBy cX8_frightsBy 3 (some .int)) 6 136 [.ref a0, .int x1, .int x2] h (.inl (g_wI r)) h' := by
  refine g_head hfl ((f_X8_frightsBy a0 x1 x2).2 h r h' hf) (plainFor_of_name (by decide)) (Nat.le_of_ble_eq_true rfl) (fun p e s m below meth c H locs cells slots ls X hI hl9 => ?_)
  have hl : lv_has ls 3 [(0, .ref a0), (1, .int x1), (2, .int x2)] := hl9
  have hx := X.1
  have hb := X.2.1
  have hown := X.2.2.2.1
  have hts := X.2.2.2.2.1
  unfold f_X8_frightsBy at hf
  refine lv_aload_n hx hb dX8_frightsBy_0 rfl (lv_at hl 0 rfl) ?_
  refine lv_iload_n hx hb dX8_frightsBy_1 rfl (lv_at hl 1 rfl) ?_
  refine g_pi X hI hf fX8_21 q1465 rfl dX8_frightsBy_2 (fun h H locs hf hI => ?_)
  refine lv_aload_n hx hb dX8_frightsBy_5 rfl (lv_at hl 0 rfl) ?_
  refine lv_iload_n hx hb dX8_frightsBy_6 rfl (lv_at hl 2 rfl) ?_
  refine g_pi X hI hf fX8_22 q1466 rfl dX8_frightsBy_7 (fun h H locs hf hI => ?_)
  refine lv_iconst (v := (0 : Int32)) hx hb dX8_frightsBy_10 (by decide) ?_
  refine lv_aload_n hx hb dX8_frightsBy_11 rfl (lv_at hl 0 rfl) ?_
  refine lv_iload_n hx hb dX8_frightsBy_12 rfl (lv_at hl 1 rfl) ?_
  refine lv_iconst (v := (1 : Int32)) hx hb dX8_frightsBy_13 (by decide) ?_
  obtain ⟨hs, hf⟩ := gCk_b hf
  refine g_cBI hI hf (fun v9 h9 e9 l9 l9' => g_rV X hI l9 l9' ⟨Nat.le_refl _, Nat.le_refl _⟩ (As := [.int x1, .int (1 : Int32)]) (m_X8_ofProp X.2.2.2.2.2.2.2.2.2.2.1 e9) ydX8_ofProp hs rfl rfl q1659 q1661 qs59 q131 q1662 rfl (Nat.le_of_ble_eq_true rfl) (Nat.le_of_ble_eq_true rfl) hl.1 rfl (Nat.le_of_ble_eq_true rfl) dX8_frightsBy_14) (fun r1 h H locs cells slots hf hI => ?_)
  refine lv_aload_n hx hb dX8_frightsBy_17 rfl (lv_at hl 0 rfl) ?_
  refine lv_iload_n hx hb dX8_frightsBy_18 rfl (lv_at hl 1 rfl) ?_
  refine lv_iconst (v := (2 : Int32)) hx hb dX8_frightsBy_19 (by decide) ?_
  obtain ⟨hs, hf⟩ := gCk_b hf
  refine g_cBI hI hf (fun v9 h9 e9 l9 l9' => g_rV X hI l9 l9' ⟨Nat.le_refl _, Nat.le_refl _⟩ (As := [.int x1, .int (2 : Int32)]) (m_X8_ofProp X.2.2.2.2.2.2.2.2.2.2.1 e9) ydX8_ofProp hs rfl rfl q1659 q1661 qs59 q131 q1662 rfl (Nat.le_of_ble_eq_true rfl) (Nat.le_of_ble_eq_true rfl) hl.1 rfl (Nat.le_of_ble_eq_true rfl) dX8_frightsBy_20) (fun r2 h H locs cells slots hf hI => ?_)
  refine lv_bipush (v := (10 : Int32)) hx hb dX8_frightsBy_23 (by decide) ?_
  refine lv_idiv hx hb dX8_frightsBy_25 (by decide) ?_
  refine lv_isub hx hb dX8_frightsBy_26 ?_
  refine lv_aload_n hx hb dX8_frightsBy_27 rfl (lv_at hl 0 rfl) ?_
  refine lv_iconst (v := (0 : Int32)) hx hb dX8_frightsBy_28 (by decide) ?_
  obtain ⟨hs, hf⟩ := gCk_b hf
  refine g_cBI hI hf (fun v9 h9 e9 l9 l9' => g_rV X hI l9 l9' ⟨Nat.le_refl _, Nat.le_refl _⟩ (As := [.int (0 : Int32)]) (m_X8_sumOf X.2.2.2.2.2.2.2.2.2.2.1 e9) ydX8_sumOf hs rfl rfl q1783 q1785 qs78 q131 q1786 rfl (Nat.le_of_ble_eq_true rfl) (Nat.le_of_ble_eq_true rfl) hl.1 rfl (Nat.le_of_ble_eq_true rfl) dX8_frightsBy_29) (fun r3 h H locs cells slots hf hI => ?_)
  refine lv_iadd hx hb dX8_frightsBy_32 ?_
  refine lv_aload_n hx hb dX8_frightsBy_33 rfl (lv_at hl 0 rfl) ?_
  refine lv_iconst (v := (1 : Int32)) hx hb dX8_frightsBy_34 (by decide) ?_
  obtain ⟨hs, hf⟩ := gCk_b hf
  refine g_cBI hI hf (fun v9 h9 e9 l9 l9' => g_rV X hI l9 l9' ⟨Nat.le_refl _, Nat.le_refl _⟩ (As := [.int (1 : Int32)]) (m_X8_sumOf X.2.2.2.2.2.2.2.2.2.2.1 e9) ydX8_sumOf hs rfl rfl q1783 q1785 qs78 q131 q1786 rfl (Nat.le_of_ble_eq_true rfl) (Nat.le_of_ble_eq_true rfl) hl.1 rfl (Nat.le_of_ble_eq_true rfl) dX8_frightsBy_35) (fun r4 h H locs cells slots hf hI => ?_)
  refine lv_isub hx hb dX8_frightsBy_38 ?_
  refine g_cBI hI hf (fun v9 h9 e9 l9 l9' => g_rS (b := 0) X hI l9 l9' ⟨Nat.le_refl _, Nat.le_refl _⟩ (As := [.int (0 : Int32), .int (((r1 - (r2 / (10 : Int32))) + r3) - r4)]) (m_J13_max X.2.2.2.2.2.2.2.2.2.2.1 e9) ydJ13_max q1799 q564 q151 q565 rfl (Nat.le_of_ble_eq_true rfl) (Nat.le_of_ble_eq_true rfl) hl.1 rfl (Nat.le_of_ble_eq_true rfl) dX8_frightsBy_39) (fun r5 h H locs cells slots hf hI => ?_)
  cases gRet_e hf
  exact g_retI X hI rfl dX8_frightsBy_42
/-! X8_comesTo -/
abbrev w_X8_comesTo_44 (G : gG) (l : Launch) (p : Program) (e : Env) (s : State) (m : MethodId) (args : Array Value) (below : List Frame) (meth : Method) (c : Code) (h0 : g_H) (r : Unit) (h' : g_H) (k : Nat → Int32 → Int32 → Int32 → Nat → Int32 → Int32 → gM Unit) : Prop := ∀ (a0 : Nat) (x1 : Int32) (x2 : Int32) (x3 : Int32) (b0 : Nat) (u1 : Int32) (u2 : Int32) (h : g_H) (H : Heap) (locs : List Loc) (cells slots : Nat) (ls : Array Slot), (k a0 x1 x2 x3 b0 u1 u2).1 h = some (r, h') → gI G h0 h H locs cells slots → lv_has ls 4 [(0, .ref a0), (1, .int x1), (2, .int x2), (3, .int x3)] → W p l e (g_rm 7 158 h0 h') s m args below meth c H locs cells slots (gQ G below args s h0 h' (.inl (g_wU r))) (F0 m 44 ls [.int u2, .int u1, .ref b0])
def f_X8_comesTo_44 (a0 : Nat) (x1 : Int32) (x2 : Int32) (x3 : Int32) (b0 : Nat) (u1 : Int32) (u2 : Int32) : gM Unit :=
    gB (gSI b0 0 u1 u2) fun _ =>
    gB (gFI a0 7 29) fun v101 =>
    gB (gPI a0 7 29 (v101 ||| ((1 : Int32) <<< (x1 &&& 31)))) fun _ =>
    gB (gFI a0 7 30) fun v102 =>
    gB (gFR a0 7 26) fun v103 =>
    gB (gAI v103 0 x2) fun v104 =>
    gB (gPI a0 7 30 (v102 + (v104 + x3))) fun _ =>
    gRet ()
set_option maxHeartbeats 4000000 in
set_option maxRecDepth 100000 in
theorem b_X8_comesTo_44 {G : gG} {l : Launch} {p : Program} {e : Env} {s : State} {m : MethodId} {args : Array Value} {below : List Frame} {meth : Method} {c : Code} {h0 : g_H} {r : Unit} {h' : g_H} (X : gX G l yX8_comesTo.cls cX8_comesTo 4 none [] yX8_comesTo.name p s m args meth c) : w_X8_comesTo_44 G l p e s m args below meth c h0 r h' (f_X8_comesTo_44) := by
  have hx := X.1
  have hb := X.2.1
  have hown := X.2.2.2.1
  have hts := X.2.2.2.2.1
  intro a0 x1 x2 x3 b0 u1 u2 h H locs cells slots ls hf hI hl
  unfold f_X8_comesTo_44 at hf
  refine g_si0 X hI hf dX8_comesTo_44 (fun h H locs hf hI => ?_)
  refine lv_aload_n hx hb dX8_comesTo_45 rfl (lv_at hl 0 rfl) ?_
  refine lv_dup hx hb dX8_comesTo_46 rfl ?_
  refine g_fi X hI hf fX8_29 q1473 rfl rfl dX8_comesTo_47 (fun v101 hf => ?_)
  refine lv_iconst (v := (1 : Int32)) hx hb dX8_comesTo_50 (by decide) ?_
  refine lv_iload_n hx hb dX8_comesTo_51 rfl (lv_at hl 1 rfl) ?_
  refine lv_ishl hx hb dX8_comesTo_52 ?_
  refine lv_ior hx hb dX8_comesTo_53 ?_
  refine g_pi X hI hf fX8_29 q1473 rfl dX8_comesTo_54 (fun h H locs hf hI => ?_)
  refine lv_aload_n hx hb dX8_comesTo_57 rfl (lv_at hl 0 rfl) ?_
  refine lv_dup hx hb dX8_comesTo_58 rfl ?_
  refine g_fi X hI hf fX8_30 q1474 rfl rfl dX8_comesTo_59 (fun v102 hf => ?_)
  refine lv_aload_n hx hb dX8_comesTo_62 rfl (lv_at hl 0 rfl) ?_
  refine g_fr X hI hf fX8_26 q1470 rfl rfl dX8_comesTo_63 (fun v103 hf => ?_)
  refine lv_iload_n hx hb dX8_comesTo_66 rfl (lv_at hl 2 rfl) ?_
  refine g_ai0 X hI hf dX8_comesTo_67 (fun v104 hf => ?_)
  refine lv_iload_n hx hb dX8_comesTo_68 rfl (lv_at hl 3 rfl) ?_
  refine lv_iadd hx hb dX8_comesTo_69 ?_
  refine lv_iadd hx hb dX8_comesTo_70 ?_
  refine g_pi X hI hf fX8_30 q1474 rfl dX8_comesTo_71 (fun h H locs hf hI => ?_)
  cases gRet_e hf
  exact g_retU X hI rfl dX8_comesTo_74
def f_X8_comesTo (a0 : Nat) (x1 : Int32) (x2 : Int32) (x3 : Int32) : gM Unit :=
    gB (gFR a0 7 27) fun v1 =>
    gB (gFI a0 7 30) fun v2 =>
    gB (gCk a0 7) fun _ =>
    gB (f_X8_wearsBy a0 x1 v2) fun r3 =>
    gB (gSI v1 0 x1 r3) fun _ =>
    gB (gFR a0 7 26) fun v4 =>
    gB (gFI a0 7 24) fun v5 =>
    gB (f_X8_has v5 x1) fun r6 =>
    gIf (r6 = 0)
    (gB (gFI a0 7 30) fun v7 =>
    gB (gCk a0 7) fun _ =>
    gB (f_X8_frightsBy a0 x1 v7) fun r8 =>
    f_X8_comesTo_44 a0 x1 x2 x3 v4 x2 r8)
    (f_X8_comesTo_44 a0 x1 x2 x3 v4 x2 (0 : Int32))
set_option maxHeartbeats 4000000 in
set_option maxRecDepth 100000 in
theorem m_X8_comesTo {G : gG} {l : Launch} (hfl : l.stackTraces = false) {a0 : Nat} {x1 : Int32} {x2 : Int32} {x3 : Int32} {h h' : g_H} {r : Unit} (hf : (f_X8_comesTo a0 x1 x2 x3).1 h = some (r, h')) : gMet G l yX8_comesTo (Cond.code yX8_comesTo cX8_comesTo 4 none) 7 158 [.ref a0, .int x1, .int x2, .int x3] h (.inl (g_wU r)) h' := by
  refine g_head hfl ((f_X8_comesTo a0 x1 x2 x3).2 h r h' hf) (plainFor_of_name (by decide)) (Nat.le_of_ble_eq_true rfl) (fun p e s m below meth c H locs cells slots ls X hI hl9 => ?_)
  have hl : lv_has ls 4 [(0, .ref a0), (1, .int x1), (2, .int x2), (3, .int x3)] := hl9
  have hx := X.1
  have hb := X.2.1
  have hown := X.2.2.2.1
  have hts := X.2.2.2.2.1
  unfold f_X8_comesTo at hf
  refine lv_aload_n hx hb dX8_comesTo_0 rfl (lv_at hl 0 rfl) ?_
  refine g_fr X hI hf fX8_27 q1471 rfl rfl dX8_comesTo_1 (fun v1 hf => ?_)
  refine lv_iload_n hx hb dX8_comesTo_4 rfl (lv_at hl 1 rfl) ?_
  refine lv_aload_n hx hb dX8_comesTo_5 rfl (lv_at hl 0 rfl) ?_
  refine lv_iload_n hx hb dX8_comesTo_6 rfl (lv_at hl 1 rfl) ?_
  refine lv_aload_n hx hb dX8_comesTo_7 rfl (lv_at hl 0 rfl) ?_
  refine g_fi X hI hf fX8_30 q1474 rfl rfl dX8_comesTo_8 (fun v2 hf => ?_)
  obtain ⟨hs, hf⟩ := gCk_b hf
  refine g_cBI hI hf (fun v9 h9 e9 l9 l9' => g_rV X hI l9 l9' ⟨Nat.le_refl _, Nat.le_refl _⟩ (As := [.int x1, .int v2]) (m_X8_wearsBy X.2.2.2.2.2.2.2.2.2.2.1 e9) ydX8_wearsBy hs rfl rfl q1779 q1781 qs77 q131 q1782 rfl (Nat.le_of_ble_eq_true rfl) (Nat.le_of_ble_eq_true rfl) hl.1 rfl (Nat.le_of_ble_eq_true rfl) dX8_comesTo_11) (fun r3 h H locs cells slots hf hI => ?_)
  refine g_si0 X hI hf dX8_comesTo_14 (fun h H locs hf hI => ?_)
  refine lv_aload_n hx hb dX8_comesTo_15 rfl (lv_at hl 0 rfl) ?_
  refine g_fr X hI hf fX8_26 q1470 rfl rfl dX8_comesTo_16 (fun v4 hf => ?_)
  refine lv_iload_n hx hb dX8_comesTo_19 rfl (lv_at hl 2 rfl) ?_
  refine lv_aload_n hx hb dX8_comesTo_20 rfl (lv_at hl 0 rfl) ?_
  refine g_fi X hI hf fX8_24 q1468 rfl rfl dX8_comesTo_21 (fun v5 hf => ?_)
  refine lv_iload_n hx hb dX8_comesTo_24 rfl (lv_at hl 1 rfl) ?_
  refine g_cBI hI hf (fun v9 h9 e9 l9 l9' => g_rS (b := 0) X hI l9 l9' ⟨Nat.le_refl _, Nat.le_refl _⟩ (As := [.int v5, .int x1]) (m_X8_has X.2.2.2.2.2.2.2.2.2.2.1 e9) ydX8_has q1637 q1638 q131 q1639 rfl (Nat.le_of_ble_eq_true rfl) (Nat.le_of_ble_eq_true rfl) hl.1 rfl (Nat.le_of_ble_eq_true rfl) dX8_comesTo_25) (fun r6 h H locs cells slots hf hI => ?_)
  refine lv_if_eq (tgt := 35) hx hb dX8_comesTo_28 (by decide) (fun c28 => ?_) (fun c28 => ?_)
  · have hf := g_t c28 hf
    refine lv_aload_n hx hb dX8_comesTo_35 rfl (lv_at hl 0 rfl) ?_
    refine lv_iload_n hx hb dX8_comesTo_36 rfl (lv_at hl 1 rfl) ?_
    refine lv_aload_n hx hb dX8_comesTo_37 rfl (lv_at hl 0 rfl) ?_
    refine g_fi X hI hf fX8_30 q1474 rfl rfl dX8_comesTo_38 (fun v7 hf => ?_)
    obtain ⟨hs, hf⟩ := gCk_b hf
    refine g_cBI hI hf (fun v9 h9 e9 l9 l9' => g_rV X hI l9 l9' ⟨Nat.le_refl _, Nat.le_refl _⟩ (As := [.int x1, .int v7]) (m_X8_frightsBy X.2.2.2.2.2.2.2.2.2.2.1 e9) ydX8_frightsBy hs rfl rfl q1795 q1797 qs81 q131 q1798 rfl (Nat.le_of_ble_eq_true rfl) (Nat.le_of_ble_eq_true rfl) hl.1 rfl (Nat.le_of_ble_eq_true rfl) dX8_comesTo_41) (fun r8 h H locs cells slots hf hI => ?_)
    exact b_X8_comesTo_44 X _ _ _ _ _ _ _ _ _ _ _ _ _ hf hI (lv_sub hl [0, 1, 2, 3] rfl)
  · have hf := g_f c28 hf
    refine lv_iconst (v := (0 : Int32)) hx hb dX8_comesTo_31 (by decide) ?_
    refine lv_goto (tgt := 44) hx hb dX8_comesTo_32 (by decide) ?_
    exact b_X8_comesTo_44 X _ _ _ _ _ _ _ _ _ _ _ _ _ hf hI (lv_sub hl [0, 1, 2, 3] rfl)
/-! X8_rideSlot -/
abbrev w_X8_rideSlot_85 (G : gG) (l : Launch) (p : Program) (e : Env) (s : State) (m : MethodId) (args : Array Value) (below : List Frame) (meth : Method) (c : Code) (h0 : g_H) (r : Unit) (h' : g_H) (k : gM Unit) : Prop := ∀ (h : g_H) (H : Heap) (locs : List Loc) (cells slots : Nat) (ls : Array Slot), (k).1 h = some (r, h') → gI G h0 h H locs cells slots → lv_has ls 5 [] → W p l e (g_rm 8 181 h0 h') s m args below meth c H locs cells slots (gQ G below args s h0 h' (.inl (g_wU r))) (F0 m 85 ls [])
abbrev w_X8_rideSlot_55 (G : gG) (l : Launch) (p : Program) (e : Env) (s : State) (m : MethodId) (args : Array Value) (below : List Frame) (meth : Method) (c : Code) (h0 : g_H) (r : Unit) (h' : g_H) (k : Nat → Int32 → Int32 → gM Unit) : Prop := ∀ (a0 : Nat) (x1 : Int32) (x3 : Int32) (h : g_H) (H : Heap) (locs : List Loc) (cells slots : Nat) (ls : Array Slot), (k a0 x1 x3).1 h = some (r, h') → gI G h0 h H locs cells slots → lv_has ls 5 [(0, .ref a0), (1, .int x1), (3, .int x3)] → W p l e (g_rm 8 181 h0 h') s m args below meth c H locs cells slots (gQ G below args s h0 h' (.inl (g_wU r))) (F0 m 55 ls [])
abbrev w_X8_rideSlot_52 (G : gG) (l : Launch) (p : Program) (e : Env) (s : State) (m : MethodId) (args : Array Value) (below : List Frame) (meth : Method) (c : Code) (h0 : g_H) (r : Unit) (h' : g_H) (k : Nat → Int32 → Int32 → Nat → Int32 → Int32 → Int32 → gM Unit) : Prop := ∀ (a0 : Nat) (x1 : Int32) (x3 : Int32) (b0 : Nat) (u1 : Int32) (u2 : Int32) (u3 : Int32) (h : g_H) (H : Heap) (locs : List Loc) (cells slots : Nat) (ls : Array Slot), (k a0 x1 x3 b0 u1 u2 u3).1 h = some (r, h') → gI G h0 h H locs cells slots → lv_has ls 5 [(0, .ref a0), (1, .int x1), (3, .int x3)] → W p l e (g_rm 8 181 h0 h') s m args below meth c H locs cells slots (gQ G below args s h0 h' (.inl (g_wU r))) (F0 m 52 ls [.int u3, .int u2, .int u1, .ref b0])
def f_X8_rideSlot_85 : gM Unit :=
    gRet ()
set_option maxHeartbeats 4000000 in
set_option maxRecDepth 100000 in
theorem b_X8_rideSlot_85 {G : gG} {l : Launch} {p : Program} {e : Env} {s : State} {m : MethodId} {args : Array Value} {below : List Frame} {meth : Method} {c : Code} {h0 : g_H} {r : Unit} {h' : g_H} (X : gX G l yX8_rideSlot.cls cX8_rideSlot 5 none [] yX8_rideSlot.name p s m args meth c) : w_X8_rideSlot_85 G l p e s m args below meth c h0 r h' (f_X8_rideSlot_85) := by
  have hx := X.1
  have hb := X.2.1
  have hown := X.2.2.2.1
  have hts := X.2.2.2.2.1
  intro h H locs cells slots ls hf hI hl
  unfold f_X8_rideSlot_85 at hf
  cases gRet_e hf
  exact g_retU X hI rfl dX8_rideSlot_85
def f_X8_rideSlot_55 (a0 : Nat) (x1 : Int32) (x3 : Int32) : gM Unit :=
    gB (gFR a0 7 25) fun v101 =>
    gB (gFI a0 7 30) fun v102 =>
    gB (gSI v101 0 x1 v102) fun _ =>
    gB (gFI a0 7 30) fun v103 =>
    gB (gFI a0 7 19) fun v104 =>
    gIf (v103 ≤ v104)
    (f_X8_rideSlot_85)
    (gIf (x3 = 0)
    (gB (gPI a0 7 28 x1) fun _ =>
    f_X8_rideSlot_85)
    (f_X8_rideSlot_85))
set_option maxHeartbeats 4000000 in
set_option maxRecDepth 100000 in
theorem b_X8_rideSlot_55 {G : gG} {l : Launch} {p : Program} {e : Env} {s : State} {m : MethodId} {args : Array Value} {below : List Frame} {meth : Method} {c : Code} {h0 : g_H} {r : Unit} {h' : g_H} (X : gX G l yX8_rideSlot.cls cX8_rideSlot 5 none [] yX8_rideSlot.name p s m args meth c) : w_X8_rideSlot_55 G l p e s m args below meth c h0 r h' (f_X8_rideSlot_55) := by
  have hx := X.1
  have hb := X.2.1
  have hown := X.2.2.2.1
  have hts := X.2.2.2.2.1
  intro a0 x1 x3 h H locs cells slots ls hf hI hl
  unfold f_X8_rideSlot_55 at hf
  refine lv_aload_n hx hb dX8_rideSlot_55 rfl (lv_at hl 0 rfl) ?_
  refine g_fr X hI hf fX8_25 q1469 rfl rfl dX8_rideSlot_56 (fun v101 hf => ?_)
  refine lv_iload_n hx hb dX8_rideSlot_59 rfl (lv_at hl 1 rfl) ?_
  refine lv_aload_n hx hb dX8_rideSlot_60 rfl (lv_at hl 0 rfl) ?_
  refine g_fi X hI hf fX8_30 q1474 rfl rfl dX8_rideSlot_61 (fun v102 hf => ?_)
  refine g_si0 X hI hf dX8_rideSlot_64 (fun h H locs hf hI => ?_)
  refine lv_aload_n hx hb dX8_rideSlot_65 rfl (lv_at hl 0 rfl) ?_
  refine g_fi X hI hf fX8_30 q1474 rfl rfl dX8_rideSlot_66 (fun v103 hf => ?_)
  refine lv_aload_n hx hb dX8_rideSlot_69 rfl (lv_at hl 0 rfl) ?_
  refine g_fi X hI hf fX8_19 q1463 rfl rfl dX8_rideSlot_70 (fun v104 hf => ?_)
  refine lv_icmp_le (tgt := 85) hx hb dX8_rideSlot_73 (by decide) (fun c73 => ?_) (fun c73 => ?_)
  · have hf := g_t c73 hf
    exact b_X8_rideSlot_85 X _ _ _ _ _ _ hf hI (lv_sub hl [] rfl)
  · have hf := g_f c73 hf
    refine lv_iload_n hx hb dX8_rideSlot_76 rfl (lv_at hl 2 rfl) ?_
    refine lv_if_ne (tgt := 85) hx hb dX8_rideSlot_77 (by decide) (fun c77 => ?_) (fun c77 => ?_)
    · have hf := g_f c77 hf
      exact b_X8_rideSlot_85 X _ _ _ _ _ _ hf hI (lv_sub hl [] rfl)
    · have hf := g_t c77 hf
      refine lv_aload_n hx hb dX8_rideSlot_80 rfl (lv_at hl 0 rfl) ?_
      refine lv_iload_n hx hb dX8_rideSlot_81 rfl (lv_at hl 1 rfl) ?_
      refine g_pi X hI hf fX8_28 q1472 rfl dX8_rideSlot_82 (fun h H locs hf hI => ?_)
      exact b_X8_rideSlot_85 X _ _ _ _ _ _ hf hI (lv_sub hl [] rfl)
def f_X8_rideSlot_52 (a0 : Nat) (x1 : Int32) (x3 : Int32) (b0 : Nat) (u1 : Int32) (u2 : Int32) (u3 : Int32) : gM Unit :=
    gB (gCk b0 7) fun _ =>
    gB (f_X8_comesTo b0 u1 u2 u3) fun _ =>
    f_X8_rideSlot_55 a0 x1 x3
set_option maxHeartbeats 4000000 in
set_option maxRecDepth 100000 in
theorem b_X8_rideSlot_52 {G : gG} {l : Launch} {p : Program} {e : Env} {s : State} {m : MethodId} {args : Array Value} {below : List Frame} {meth : Method} {c : Code} {h0 : g_H} {r : Unit} {h' : g_H} (X : gX G l yX8_rideSlot.cls cX8_rideSlot 5 none [] yX8_rideSlot.name p s m args meth c) : w_X8_rideSlot_52 G l p e s m args below meth c h0 r h' (f_X8_rideSlot_52) := by
  have hx := X.1
  have hb := X.2.1
  have hown := X.2.2.2.1
  have hts := X.2.2.2.2.1
  intro a0 x1 x3 b0 u1 u2 u3 h H locs cells slots ls hf hI hl
  unfold f_X8_rideSlot_52 at hf
  obtain ⟨hs, hf⟩ := gCk_b hf
  refine g_cBU hI hf (fun v9 h9 e9 l9 l9' => g_rV X hI l9 l9' ⟨Nat.le_refl _, Nat.le_refl _⟩ (As := [.int u1, .int u2, .int u3]) (m_X8_comesTo X.2.2.2.2.2.2.2.2.2.2.1 e9) ydX8_comesTo hs rfl rfl q1837 q1839 qs90 q131 q1840 rfl (Nat.le_of_ble_eq_true rfl) (Nat.le_of_ble_eq_true rfl) hl.1 rfl (Nat.le_of_ble_eq_true rfl) dX8_rideSlot_52) (fun r101 h H locs cells slots hf hI => ?_)
  exact b_X8_rideSlot_55 X _ _ _ _ _ _ _ _ _ hf hI (lv_sub hl [0, 1, 2] rfl)
def f_X8_rideSlot (a0 : Nat) (x1 : Int32) (x2 : Int32) (x3 : Int32) : gM Unit :=
    gB (gCk a0 7) fun _ =>
    gB (f_X8_propOnTheWay a0 x1) fun r1 =>
    gB (gFR a0 7 26) fun v2 =>
    gB (gSI v2 0 x1 (0 : Int32)) fun _ =>
    gIf (r1 = (-1 : Int32))
    (gB (gFI a0 7 30) fun v4 =>
    gB (gCk a0 7) fun _ =>
    gB (f_X8_calmer a0 v4) fun r5 =>
    gB (gPI a0 7 30 r5) fun _ =>
    f_X8_rideSlot_55 a0 x1 x3)
    (gIf (x2 = 0)
    (f_X8_rideSlot_52 a0 x1 x3 a0 r1 x1 (1 : Int32))
    (gB (gCk a0 7) fun _ =>
    gB (f_X8_drawn a0 (3 : Int32)) fun r3 =>
    f_X8_rideSlot_52 a0 x1 x3 a0 r1 x1 r3))
set_option maxHeartbeats 4000000 in
set_option maxRecDepth 100000 in
theorem m_X8_rideSlot {G : gG} {l : Launch} (hfl : l.stackTraces = false) {a0 : Nat} {x1 : Int32} {x2 : Int32} {x3 : Int32} {h h' : g_H} {r : Unit} (hf : (f_X8_rideSlot a0 x1 x2 x3).1 h = some (r, h')) : gMet G l yX8_rideSlot (Cond.code yX8_rideSlot cX8_rideSlot 5 none) 8 181 [.ref a0, .int x1, .int x2, .int x3] h (.inl (g_wU r)) h' := by
  refine g_head hfl ((f_X8_rideSlot a0 x1 x2 x3).2 h r h' hf) (plainFor_of_name (by decide)) (Nat.le_of_ble_eq_true rfl) (fun p e s m below meth c H locs cells slots ls X hI hl9 => ?_)
  have hl : lv_has ls 5 [(0, .ref a0), (1, .int x1), (2, .int x2), (3, .int x3)] := hl9
  have hx := X.1
  have hb := X.2.1
  have hown := X.2.2.2.1
  have hts := X.2.2.2.2.1
  unfold f_X8_rideSlot at hf
  refine lv_aload_n hx hb dX8_rideSlot_0 rfl (lv_at hl 0 rfl) ?_
  refine lv_iload_n hx hb dX8_rideSlot_1 rfl (lv_at hl 1 rfl) ?_
  obtain ⟨hs, hf⟩ := gCk_b hf
  refine g_cBI hI hf (fun v9 h9 e9 l9 l9' => g_rV X hI l9 l9' ⟨Nat.le_refl _, Nat.le_refl _⟩ (As := [.int x1]) (m_X8_propOnTheWay X.2.2.2.2.2.2.2.2.2.2.1 e9) ydX8_propOnTheWay hs rfl rfl q1824 q1826 qs87 q131 q1827 rfl (Nat.le_of_ble_eq_true rfl) (Nat.le_of_ble_eq_true rfl) hl.1 rfl (Nat.le_of_ble_eq_true rfl) dX8_rideSlot_2) (fun r1 h H locs cells slots hf hI => ?_)
  refine lv_istore (lv' := [(4, .int r1), (0, .ref a0), (1, .int x1), (2, .int x2), (3, .int x3)]) hx hb dX8_rideSlot_5 hl (by decide) rfl (fun ls hl => ?_)
  refine lv_aload_n hx hb dX8_rideSlot_7 rfl (lv_at hl 1 rfl) ?_
  refine g_fr X hI hf fX8_26 q1470 rfl rfl dX8_rideSlot_8 (fun v2 hf => ?_)
  refine lv_iload_n hx hb dX8_rideSlot_11 rfl (lv_at hl 2 rfl) ?_
  refine lv_iconst (v := (0 : Int32)) hx hb dX8_rideSlot_12 (by decide) ?_
  refine g_si0 X hI hf dX8_rideSlot_13 (fun h H locs hf hI => ?_)
  refine lv_iload hx hb dX8_rideSlot_14 (lv_at hl 0 rfl) ?_
  refine lv_iconst (v := (-1 : Int32)) hx hb dX8_rideSlot_16 (by decide) ?_
  refine lv_icmp_ne (tgt := 35) hx hb dX8_rideSlot_17 (by decide) (fun c17 => ?_) (fun c17 => ?_)
  · have hf := g_f c17 hf
    refine lv_aload_n hx hb dX8_rideSlot_35 rfl (lv_at hl 1 rfl) ?_
    refine lv_iload hx hb dX8_rideSlot_36 (lv_at hl 0 rfl) ?_
    refine lv_iload_n hx hb dX8_rideSlot_38 rfl (lv_at hl 2 rfl) ?_
    refine lv_iload_n hx hb dX8_rideSlot_39 rfl (lv_at hl 3 rfl) ?_
    refine lv_if_eq (tgt := 51) hx hb dX8_rideSlot_40 (by decide) (fun c40 => ?_) (fun c40 => ?_)
    · have hf := g_t c40 hf
      refine lv_iconst (v := (1 : Int32)) hx hb dX8_rideSlot_51 (by decide) ?_
      exact b_X8_rideSlot_52 X _ _ _ _ _ _ _ _ _ _ _ _ _ hf hI (lv_sub hl [1, 2, 4] rfl)
    · have hf := g_f c40 hf
      refine lv_aload_n hx hb dX8_rideSlot_43 rfl (lv_at hl 1 rfl) ?_
      refine lv_iconst (v := (3 : Int32)) hx hb dX8_rideSlot_44 (by decide) ?_
      obtain ⟨hs, hf⟩ := gCk_b hf
      refine g_cBI hI hf (fun v9 h9 e9 l9 l9' => g_rV X hI l9 l9' ⟨Nat.le_refl _, Nat.le_refl _⟩ (As := [.int (3 : Int32)]) (m_X8_drawn X.2.2.2.2.2.2.2.2.2.2.1 e9) ydX8_drawn hs rfl rfl q1832 q1834 qs89 q131 q1835 rfl (Nat.le_of_ble_eq_true rfl) (Nat.le_of_ble_eq_true rfl) hl.1 rfl (Nat.le_of_ble_eq_true rfl) dX8_rideSlot_45) (fun r3 h H locs cells slots hf hI => ?_)
      refine lv_goto (tgt := 52) hx hb dX8_rideSlot_48 (by decide) ?_
      exact b_X8_rideSlot_52 X _ _ _ _ _ _ _ _ _ _ _ _ _ hf hI (lv_sub hl [1, 2, 4] rfl)
  · have hf := g_t c17 hf
    refine lv_aload_n hx hb dX8_rideSlot_20 rfl (lv_at hl 1 rfl) ?_
    refine lv_aload_n hx hb dX8_rideSlot_21 rfl (lv_at hl 1 rfl) ?_
    refine lv_aload_n hx hb dX8_rideSlot_22 rfl (lv_at hl 1 rfl) ?_
    refine g_fi X hI hf fX8_30 q1474 rfl rfl dX8_rideSlot_23 (fun v4 hf => ?_)
    obtain ⟨hs, hf⟩ := gCk_b hf
    refine g_cBI hI hf (fun v9 h9 e9 l9 l9' => g_rV X hI l9 l9' ⟨Nat.le_refl _, Nat.le_refl _⟩ (As := [.int v4]) (m_X8_calmer X.2.2.2.2.2.2.2.2.2.2.1 e9) ydX8_calmer hs rfl rfl q1828 q1830 qs88 q131 q1831 rfl (Nat.le_of_ble_eq_true rfl) (Nat.le_of_ble_eq_true rfl) hl.1 rfl (Nat.le_of_ble_eq_true rfl) dX8_rideSlot_26) (fun r5 h H locs cells slots hf hI => ?_)
    refine g_pi X hI hf fX8_30 q1474 rfl dX8_rideSlot_29 (fun h H locs hf hI => ?_)
    refine lv_goto (tgt := 55) hx hb dX8_rideSlot_32 (by decide) ?_
    exact b_X8_rideSlot_55 X _ _ _ _ _ _ _ _ _ hf hI (lv_sub hl [1, 2, 4] rfl)
/-! X8_rides -/
abbrev w_X8_rides_41 (G : gG) (l : Launch) (p : Program) (e : Env) (s : State) (m : MethodId) (args : Array Value) (below : List Frame) (meth : Method) (c : Code) (h0 : g_H) (r : Int32) (h' : g_H) (k : Nat → Int32 → Int32 → Int32 → gM Int32) : Prop := ∀ (a0 : Nat) (x1 : Int32) (x2 : Int32) (x3 : Int32) (h : g_H) (H : Heap) (locs : List Loc) (cells slots : Nat) (ls : Array Slot), (k a0 x1 x2 x3).1 h = some (r, h') → gI G h0 h H locs cells slots → lv_has ls 4 [(0, .ref a0), (1, .int x1), (2, .int x2), (3, .int x3)] → W p l e (g_rm 9 205 h0 h') s m args below meth c H locs cells slots (gQ G below args s h0 h' (.inl (g_wI r))) (F0 m 41 ls [])
abbrev w_X8_rides_47 (G : gG) (l : Launch) (p : Program) (e : Env) (s : State) (m : MethodId) (args : Array Value) (below : List Frame) (meth : Method) (c : Code) (h0 : g_H) (r : Int32) (h' : g_H) (k : Nat → gM Int32) : Prop := ∀ (a0 : Nat) (h : g_H) (H : Heap) (locs : List Loc) (cells slots : Nat) (ls : Array Slot), (k a0).1 h = some (r, h') → gI G h0 h H locs cells slots → lv_has ls 4 [(0, .ref a0)] → W p l e (g_rm 9 205 h0 h') s m args below meth c H locs cells slots (gQ G below args s h0 h' (.inl (g_wI r))) (F0 m 47 ls [])
abbrev w_X8_rides_6 (G : gG) (l : Launch) (p : Program) (e : Env) (s : State) (m : MethodId) (args : Array Value) (below : List Frame) (meth : Method) (c : Code) (h0 : g_H) (r : Int32) (h' : g_H) (k : Nat → Int32 → Int32 → Int32 → gM Int32) : Prop := ∀ (a0 : Nat) (x1 : Int32) (x2 : Int32) (x3 : Int32) (h : g_H) (H : Heap) (locs : List Loc) (cells slots : Nat) (ls : Array Slot), (k a0 x1 x2 x3).1 h = some (r, h') → gI G h0 h H locs cells slots → lv_has ls 4 [(0, .ref a0), (1, .int x1), (2, .int x2), (3, .int x3)] → W p l e (g_rm 9 205 h0 h') s m args below meth c H locs cells slots (gQ G below args s h0 h' (.inl (g_wI r))) (F0 m 6 ls [])
def f_X8_rides_41 (k6 : Nat → Int32 → Int32 → Int32 → gM Int32) (a0 : Nat) (x1 : Int32) (x2 : Int32) (x3 : Int32) : gM Int32 :=
    k6 a0 x1 x2 (x3 + (1 : Int32))
set_option maxHeartbeats 4000000 in
set_option maxRecDepth 100000 in
theorem b_X8_rides_41 {G : gG} {l : Launch} {p : Program} {e : Env} {s : State} {m : MethodId} {args : Array Value} {below : List Frame} {meth : Method} {c : Code} {h0 : g_H} {r : Int32} {h' : g_H} (X : gX G l yX8_rides.cls cX8_rides 4 (some .int) [] yX8_rides.name p s m args meth c) {k6 : Nat → Int32 → Int32 → Int32 → gM Int32} (K6 : w_X8_rides_6 G l p e s m args below meth c h0 r h' k6) : w_X8_rides_41 G l p e s m args below meth c h0 r h' (f_X8_rides_41 k6) := by
  have hx := X.1
  have hb := X.2.1
  have hown := X.2.2.2.1
  have hts := X.2.2.2.2.1
  intro a0 x1 x2 x3 h H locs cells slots ls hf hI hl
  unfold f_X8_rides_41 at hf
  refine lv_iinc (v := (x3 + (1 : Int32))) (lv' := [(3, .int (x3 + (1 : Int32))), (0, .ref a0), (1, .int x1), (2, .int x2)]) hx hb dX8_rides_41 hl (k := 3) rfl rfl (by decide) rfl (fun ls hl => ?_)
  refine lv_goto (tgt := 6) hx hb dX8_rides_44 (by decide) ?_
  exact K6 _ _ _ _ _ _ _ _ _ _ hf hI (lv_sub hl [1, 2, 3, 0] rfl)
def f_X8_rides_47 (a0 : Nat) : gM Int32 :=
    gB (gFI a0 7 28) fun v101 =>
    (gRet v101)
set_option maxHeartbeats 4000000 in
set_option maxRecDepth 100000 in
theorem b_X8_rides_47 {G : gG} {l : Launch} {p : Program} {e : Env} {s : State} {m : MethodId} {args : Array Value} {below : List Frame} {meth : Method} {c : Code} {h0 : g_H} {r : Int32} {h' : g_H} (X : gX G l yX8_rides.cls cX8_rides 4 (some .int) [] yX8_rides.name p s m args meth c) : w_X8_rides_47 G l p e s m args below meth c h0 r h' (f_X8_rides_47) := by
  have hx := X.1
  have hb := X.2.1
  have hown := X.2.2.2.1
  have hts := X.2.2.2.2.1
  intro a0 h H locs cells slots ls hf hI hl
  unfold f_X8_rides_47 at hf
  refine lv_aload_n hx hb dX8_rides_47 rfl (lv_at hl 0 rfl) ?_
  refine g_fi X hI hf fX8_28 q1472 rfl rfl dX8_rides_48 (fun v101 hf => ?_)
  cases gRet_e hf
  exact g_retI X hI rfl dX8_rides_51
def f_X8_rides_6 : Nat → Nat → Int32 → Int32 → Int32 → gM Int32
  | 0, _, _, _, _ => gFail
  | n + 1, a0, x1, x2, x3 =>
    gIf ((10 : Int32) ≤ x3)
    (f_X8_rides_47 a0)
    (gB (gFR a0 7 25) fun v101 =>
    gB (gSI v101 0 x3 (-1 : Int32)) fun _ =>
    gB (gFR a0 7 26) fun v102 =>
    gB (gSI v102 0 x3 (0 : Int32)) fun _ =>
    gB (gFI a0 7 28) fun v103 =>
    gIf (v103 = (-1 : Int32))
    (gB (gCk a0 7) fun _ =>
    gB (f_X8_rideSlot a0 x3 x1 x2) fun _ =>
    f_X8_rides_41 (f_X8_rides_6 n) a0 x1 x2 x3)
    (f_X8_rides_41 (f_X8_rides_6 n) a0 x1 x2 x3))
set_option maxHeartbeats 4000000 in
set_option maxRecDepth 100000 in
theorem b_X8_rides_6 {G : gG} {l : Launch} {p : Program} {e : Env} {s : State} {m : MethodId} {args : Array Value} {below : List Frame} {meth : Method} {c : Code} {h0 : g_H} {r : Int32} {h' : g_H} (X : gX G l yX8_rides.cls cX8_rides 4 (some .int) [] yX8_rides.name p s m args meth c) : ∀ n : Nat, w_X8_rides_6 G l p e s m args below meth c h0 r h' (f_X8_rides_6 n) := by
  have hx := X.1
  have hb := X.2.1
  have hown := X.2.2.2.1
  have hts := X.2.2.2.2.1
  intro n
  induction n with
  | zero =>
    intro a0 x1 x2 x3 h H locs cells slots ls hf hI hl
    exact (gFail_f hf).elim
  | succ n ih =>
    intro a0 x1 x2 x3 h H locs cells slots ls hf hI hl
    rw [f_X8_rides_6] at hf
    refine lv_iload_n hx hb dX8_rides_6 rfl (lv_at hl 3 rfl) ?_
    refine lv_bipush (v := (10 : Int32)) hx hb dX8_rides_7 (by decide) ?_
    refine lv_icmp_ge (tgt := 47) hx hb dX8_rides_9 (by decide) (fun c9 => ?_) (fun c9 => ?_)
    · have hf := g_t c9 hf
      exact b_X8_rides_47 X _ _ _ _ _ _ _ hf hI (lv_sub hl [0] rfl)
    · have hf := g_f c9 hf
      refine lv_aload_n hx hb dX8_rides_12 rfl (lv_at hl 0 rfl) ?_
      refine g_fr X hI hf fX8_25 q1469 rfl rfl dX8_rides_13 (fun v101 hf => ?_)
      refine lv_iload_n hx hb dX8_rides_16 rfl (lv_at hl 3 rfl) ?_
      refine lv_iconst (v := (-1 : Int32)) hx hb dX8_rides_17 (by decide) ?_
      refine g_si0 X hI hf dX8_rides_18 (fun h H locs hf hI => ?_)
      refine lv_aload_n hx hb dX8_rides_19 rfl (lv_at hl 0 rfl) ?_
      refine g_fr X hI hf fX8_26 q1470 rfl rfl dX8_rides_20 (fun v102 hf => ?_)
      refine lv_iload_n hx hb dX8_rides_23 rfl (lv_at hl 3 rfl) ?_
      refine lv_iconst (v := (0 : Int32)) hx hb dX8_rides_24 (by decide) ?_
      refine g_si0 X hI hf dX8_rides_25 (fun h H locs hf hI => ?_)
      refine lv_aload_n hx hb dX8_rides_26 rfl (lv_at hl 0 rfl) ?_
      refine g_fi X hI hf fX8_28 q1472 rfl rfl dX8_rides_27 (fun v103 hf => ?_)
      refine lv_iconst (v := (-1 : Int32)) hx hb dX8_rides_30 (by decide) ?_
      refine lv_icmp_ne (tgt := 41) hx hb dX8_rides_31 (by decide) (fun c31 => ?_) (fun c31 => ?_)
      · have hf := g_f c31 hf
        exact b_X8_rides_41 X ih _ _ _ _ _ _ _ _ _ _ hf hI (lv_sub hl [0, 1, 2, 3] rfl)
      · have hf := g_t c31 hf
        refine lv_aload_n hx hb dX8_rides_34 rfl (lv_at hl 0 rfl) ?_
        refine lv_iload_n hx hb dX8_rides_35 rfl (lv_at hl 3 rfl) ?_
        refine lv_iload_n hx hb dX8_rides_36 rfl (lv_at hl 1 rfl) ?_
        refine lv_iload_n hx hb dX8_rides_37 rfl (lv_at hl 2 rfl) ?_
        obtain ⟨hs, hf⟩ := gCk_b hf
        refine g_cBU hI hf (fun v9 h9 e9 l9 l9' => g_rV X hI l9 l9' ⟨Nat.le_refl _, Nat.le_refl _⟩ (As := [.int x3, .int x1, .int x2]) (m_X8_rideSlot X.2.2.2.2.2.2.2.2.2.2.1 e9) ydX8_rideSlot hs rfl rfl q1820 q1822 qs86 q131 q1823 rfl (Nat.le_of_ble_eq_true rfl) (Nat.le_of_ble_eq_true rfl) hl.1 rfl (Nat.le_of_ble_eq_true rfl) dX8_rides_38) (fun r104 h H locs cells slots hf hI => ?_)
        exact b_X8_rides_41 X ih _ _ _ _ _ _ _ _ _ _ hf hI (lv_sub hl [0, 1, 2, 3] rfl)
def f_X8_rides (a0 : Nat) (x1 : Int32) (x2 : Int32) : gM Int32 :=
    gB (gCk a0 7) fun _ =>
    gB (f_X8_begins a0) fun _ =>
    f_X8_rides_6 gN a0 x1 x2 (0 : Int32)
set_option maxHeartbeats 4000000 in
set_option maxRecDepth 100000 in
theorem m_X8_rides {G : gG} {l : Launch} (hfl : l.stackTraces = false) {a0 : Nat} {x1 : Int32} {x2 : Int32} {h h' : g_H} {r : Int32} (hf : (f_X8_rides a0 x1 x2).1 h = some (r, h')) : gMet G l yX8_rides (Cond.code yX8_rides cX8_rides 4 (some .int)) 9 205 [.ref a0, .int x1, .int x2] h (.inl (g_wI r)) h' := by
  refine g_head hfl ((f_X8_rides a0 x1 x2).2 h r h' hf) (plainFor_of_name (by decide)) (Nat.le_of_ble_eq_true rfl) (fun p e s m below meth c H locs cells slots ls X hI hl9 => ?_)
  have hl : lv_has ls 4 [(0, .ref a0), (1, .int x1), (2, .int x2)] := hl9
  have hx := X.1
  have hb := X.2.1
  have hown := X.2.2.2.1
  have hts := X.2.2.2.2.1
  unfold f_X8_rides at hf
  refine lv_aload_n hx hb dX8_rides_0 rfl (lv_at hl 0 rfl) ?_
  obtain ⟨hs, hf⟩ := gCk_b hf
  refine g_cBU hI hf (fun v9 h9 e9 l9 l9' => g_rV X hI l9 l9' ⟨Nat.le_refl _, Nat.le_refl _⟩ (As := []) (m_X8_begins X.2.2.2.2.2.2.2.2.2.2.1 e9) ydX8_begins hs rfl rfl q1816 q1818 qs85 q131 q1819 rfl (Nat.le_of_ble_eq_true rfl) (Nat.le_of_ble_eq_true rfl) hl.1 rfl (Nat.le_of_ble_eq_true rfl) dX8_rides_1) (fun r1 h H locs cells slots hf hI => ?_)
  refine lv_iconst (v := (0 : Int32)) hx hb dX8_rides_4 (by decide) ?_
  refine lv_istore_n (lv' := [(3, .int (0 : Int32)), (0, .ref a0), (1, .int x1), (2, .int x2)]) hx hb dX8_rides_5 rfl hl (by decide) rfl (fun ls hl => ?_)
  exact b_X8_rides_6 X gN _ _ _ _ _ _ _ _ _ _ hf hI (lv_sub hl [1, 2, 3, 0] rfl)
/-! X8_screamsBy -/
abbrev w_X8_screamsBy_57 (G : gG) (l : Launch) (p : Program) (e : Env) (s : State) (m : MethodId) (args : Array Value) (below : List Frame) (meth : Method) (c : Code) (h0 : g_H) (r : Int32) (h' : g_H) (k : Nat → Int32 → Int32 → Int32 → Int32 → gM Int32) : Prop := ∀ (a0 : Nat) (x1 : Int32) (x2 : Int32) (x3 : Int32) (x4 : Int32) (h : g_H) (H : Heap) (locs : List Loc) (cells slots : Nat) (ls : Array Slot), (k a0 x1 x2 x3 x4).1 h = some (r, h') → gI G h0 h H locs cells slots → lv_has ls 5 [(0, .ref a0), (1, .int x1), (2, .int x2), (3, .int x3), (4, .int x4)] → W p l e (g_rm 10 228 h0 h') s m args below meth c H locs cells slots (gQ G below args s h0 h' (.inl (g_wI r))) (F0 m 57 ls [])
abbrev w_X8_screamsBy_55 (G : gG) (l : Launch) (p : Program) (e : Env) (s : State) (m : MethodId) (args : Array Value) (below : List Frame) (meth : Method) (c : Code) (h0 : g_H) (r : Int32) (h' : g_H) (k : Nat → Int32 → Int32 → Int32 → Int32 → Int32 → gM Int32) : Prop := ∀ (a0 : Nat) (x1 : Int32) (x3 : Int32) (x4 : Int32) (u0 : Int32) (u1 : Int32) (h : g_H) (H : Heap) (locs : List Loc) (cells slots : Nat) (ls : Array Slot), (k a0 x1 x3 x4 u0 u1).1 h = some (r, h') → gI G h0 h H locs cells slots → lv_has ls 5 [(0, .ref a0), (1, .int x1), (3, .int x3), (4, .int x4)] → W p l e (g_rm 10 228 h0 h') s m args below meth c H locs cells slots (gQ G below args s h0 h' (.inl (g_wI r))) (F0 m 55 ls [.int u1, .int u0])
abbrev w_X8_screamsBy_63 (G : gG) (l : Launch) (p : Program) (e : Env) (s : State) (m : MethodId) (args : Array Value) (below : List Frame) (meth : Method) (c : Code) (h0 : g_H) (r : Int32) (h' : g_H) (k : Nat → Int32 → Int32 → Int32 → gM Int32) : Prop := ∀ (a0 : Nat) (x1 : Int32) (x2 : Int32) (x3 : Int32) (h : g_H) (H : Heap) (locs : List Loc) (cells slots : Nat) (ls : Array Slot), (k a0 x1 x2 x3).1 h = some (r, h') → gI G h0 h H locs cells slots → lv_has ls 5 [(0, .ref a0), (1, .int x1), (2, .int x2), (3, .int x3)] → W p l e (g_rm 10 228 h0 h') s m args below meth c H locs cells slots (gQ G below args s h0 h' (.inl (g_wI r))) (F0 m 63 ls [])
abbrev w_X8_screamsBy_12 (G : gG) (l : Launch) (p : Program) (e : Env) (s : State) (m : MethodId) (args : Array Value) (below : List Frame) (meth : Method) (c : Code) (h0 : g_H) (r : Int32) (h' : g_H) (k : Nat → Int32 → Int32 → Int32 → Int32 → gM Int32) : Prop := ∀ (a0 : Nat) (x1 : Int32) (x2 : Int32) (x3 : Int32) (x4 : Int32) (h : g_H) (H : Heap) (locs : List Loc) (cells slots : Nat) (ls : Array Slot), (k a0 x1 x2 x3 x4).1 h = some (r, h') → gI G h0 h H locs cells slots → lv_has ls 5 [(0, .ref a0), (1, .int x1), (2, .int x2), (3, .int x3), (4, .int x4)] → W p l e (g_rm 10 228 h0 h') s m args below meth c H locs cells slots (gQ G below args s h0 h' (.inl (g_wI r))) (F0 m 12 ls [])
abbrev w_X8_screamsBy_69 (G : gG) (l : Launch) (p : Program) (e : Env) (s : State) (m : MethodId) (args : Array Value) (below : List Frame) (meth : Method) (c : Code) (h0 : g_H) (r : Int32) (h' : g_H) (k : Int32 → gM Int32) : Prop := ∀ (x2 : Int32) (h : g_H) (H : Heap) (locs : List Loc) (cells slots : Nat) (ls : Array Slot), (k x2).1 h = some (r, h') → gI G h0 h H locs cells slots → lv_has ls 5 [(2, .int x2)] → W p l e (g_rm 10 228 h0 h') s m args below meth c H locs cells slots (gQ G below args s h0 h' (.inl (g_wI r))) (F0 m 69 ls [])
abbrev w_X8_screamsBy_4 (G : gG) (l : Launch) (p : Program) (e : Env) (s : State) (m : MethodId) (args : Array Value) (below : List Frame) (meth : Method) (c : Code) (h0 : g_H) (r : Int32) (h' : g_H) (k : Nat → Int32 → Int32 → Int32 → gM Int32) : Prop := ∀ (a0 : Nat) (x1 : Int32) (x2 : Int32) (x3 : Int32) (h : g_H) (H : Heap) (locs : List Loc) (cells slots : Nat) (ls : Array Slot), (k a0 x1 x2 x3).1 h = some (r, h') → gI G h0 h H locs cells slots → lv_has ls 5 [(0, .ref a0), (1, .int x1), (2, .int x2), (3, .int x3)] → W p l e (g_rm 10 228 h0 h') s m args below meth c H locs cells slots (gQ G below args s h0 h' (.inl (g_wI r))) (F0 m 4 ls [])
def f_X8_screamsBy_57 (k12 : Nat → Int32 → Int32 → Int32 → Int32 → gM Int32) (a0 : Nat) (x1 : Int32) (x2 : Int32) (x3 : Int32) (x4 : Int32) : gM Int32 :=
    k12 a0 x1 x2 x3 (x4 + (1 : Int32))
set_option maxHeartbeats 4000000 in
set_option maxRecDepth 100000 in
theorem b_X8_screamsBy_57 {G : gG} {l : Launch} {p : Program} {e : Env} {s : State} {m : MethodId} {args : Array Value} {below : List Frame} {meth : Method} {c : Code} {h0 : g_H} {r : Int32} {h' : g_H} (X : gX G l yX8_screamsBy.cls cX8_screamsBy 5 (some .int) [] yX8_screamsBy.name p s m args meth c) {k12 : Nat → Int32 → Int32 → Int32 → Int32 → gM Int32} (K12 : w_X8_screamsBy_12 G l p e s m args below meth c h0 r h' k12) : w_X8_screamsBy_57 G l p e s m args below meth c h0 r h' (f_X8_screamsBy_57 k12) := by
  have hx := X.1
  have hb := X.2.1
  have hown := X.2.2.2.1
  have hts := X.2.2.2.2.1
  intro a0 x1 x2 x3 x4 h H locs cells slots ls hf hI hl
  unfold f_X8_screamsBy_57 at hf
  refine lv_iinc (v := (x4 + (1 : Int32))) (lv' := [(4, .int (x4 + (1 : Int32))), (0, .ref a0), (1, .int x1), (2, .int x2), (3, .int x3)]) hx hb dX8_screamsBy_57 hl (k := 4) rfl rfl (by decide) rfl (fun ls hl => ?_)
  refine lv_goto (tgt := 12) hx hb dX8_screamsBy_60 (by decide) ?_
  exact K12 _ _ _ _ _ _ _ _ _ _ _ hf hI (lv_sub hl [1, 2, 3, 4, 0] rfl)
def f_X8_screamsBy_55 (k12 : Nat → Int32 → Int32 → Int32 → Int32 → gM Int32) (a0 : Nat) (x1 : Int32) (x3 : Int32) (x4 : Int32) (u0 : Int32) (u1 : Int32) : gM Int32 :=
    f_X8_screamsBy_57 k12 a0 x1 (u0 + u1) x3 x4
set_option maxHeartbeats 4000000 in
set_option maxRecDepth 100000 in
theorem b_X8_screamsBy_55 {G : gG} {l : Launch} {p : Program} {e : Env} {s : State} {m : MethodId} {args : Array Value} {below : List Frame} {meth : Method} {c : Code} {h0 : g_H} {r : Int32} {h' : g_H} (X : gX G l yX8_screamsBy.cls cX8_screamsBy 5 (some .int) [] yX8_screamsBy.name p s m args meth c) {k12 : Nat → Int32 → Int32 → Int32 → Int32 → gM Int32} (K12 : w_X8_screamsBy_12 G l p e s m args below meth c h0 r h' k12) : w_X8_screamsBy_55 G l p e s m args below meth c h0 r h' (f_X8_screamsBy_55 k12) := by
  have hx := X.1
  have hb := X.2.1
  have hown := X.2.2.2.1
  have hts := X.2.2.2.2.1
  intro a0 x1 x3 x4 u0 u1 h H locs cells slots ls hf hI hl
  unfold f_X8_screamsBy_55 at hf
  refine lv_iadd hx hb dX8_screamsBy_55 ?_
  refine lv_istore_n (lv' := [(2, .int (u0 + u1)), (0, .ref a0), (1, .int x1), (3, .int x3), (4, .int x4)]) hx hb dX8_screamsBy_56 rfl hl (by decide) rfl (fun ls hl => ?_)
  exact b_X8_screamsBy_57 X K12 _ _ _ _ _ _ _ _ _ _ _ hf hI (lv_sub hl [1, 2, 0, 3, 4] rfl)
def f_X8_screamsBy_63 (k4 : Nat → Int32 → Int32 → Int32 → gM Int32) (a0 : Nat) (x1 : Int32) (x2 : Int32) (x3 : Int32) : gM Int32 :=
    k4 a0 x1 x2 (x3 + (1 : Int32))
set_option maxHeartbeats 4000000 in
set_option maxRecDepth 100000 in
theorem b_X8_screamsBy_63 {G : gG} {l : Launch} {p : Program} {e : Env} {s : State} {m : MethodId} {args : Array Value} {below : List Frame} {meth : Method} {c : Code} {h0 : g_H} {r : Int32} {h' : g_H} (X : gX G l yX8_screamsBy.cls cX8_screamsBy 5 (some .int) [] yX8_screamsBy.name p s m args meth c) {k4 : Nat → Int32 → Int32 → Int32 → gM Int32} (K4 : w_X8_screamsBy_4 G l p e s m args below meth c h0 r h' k4) : w_X8_screamsBy_63 G l p e s m args below meth c h0 r h' (f_X8_screamsBy_63 k4) := by
  have hx := X.1
  have hb := X.2.1
  have hown := X.2.2.2.1
  have hts := X.2.2.2.2.1
  intro a0 x1 x2 x3 h H locs cells slots ls hf hI hl
  unfold f_X8_screamsBy_63 at hf
  refine lv_iinc (v := (x3 + (1 : Int32))) (lv' := [(3, .int (x3 + (1 : Int32))), (0, .ref a0), (1, .int x1), (2, .int x2)]) hx hb dX8_screamsBy_63 hl (k := 3) rfl rfl (by decide) rfl (fun ls hl => ?_)
  refine lv_goto (tgt := 4) hx hb dX8_screamsBy_66 (by decide) ?_
  exact K4 _ _ _ _ _ _ _ _ _ _ hf hI (lv_sub hl [1, 2, 3, 0] rfl)
def f_X8_screamsBy_12 (k4 : Nat → Int32 → Int32 → Int32 → gM Int32) : Nat → Nat → Int32 → Int32 → Int32 → Int32 → gM Int32
  | 0, _, _, _, _, _ => gFail
  | n + 1, a0, x1, x2, x3, x4 =>
    gB (gCk a0 7) fun _ =>
    gB (f_X8_oneCount a0) fun r101 =>
    gIf (r101 ≤ x4)
    (f_X8_screamsBy_63 k4 a0 x1 x2 x3)
    (gB (gCk a0 7) fun _ =>
    gB (f_X8_waits a0 x4) fun r102 =>
    gIf (r102 = 0)
    (f_X8_screamsBy_57 (f_X8_screamsBy_12 k4 n) a0 x1 x2 x3 x4)
    (gB (gCk a0 7) fun _ =>
    gB (f_X8_looksAt a0 x4) fun _ =>
    gB (gCk a0 7) fun _ =>
    gB (f_X8_rides a0 (1 : Int32) (0 : Int32)) fun r104 =>
    gIf (r104 = (-1 : Int32))
    (f_X8_screamsBy_55 (f_X8_screamsBy_12 k4 n) a0 x1 x3 x4 x2 (0 : Int32))
    (f_X8_screamsBy_55 (f_X8_screamsBy_12 k4 n) a0 x1 x3 x4 x2 (1 : Int32))))
set_option maxHeartbeats 4000000 in
set_option maxRecDepth 100000 in
theorem b_X8_screamsBy_12 {G : gG} {l : Launch} {p : Program} {e : Env} {s : State} {m : MethodId} {args : Array Value} {below : List Frame} {meth : Method} {c : Code} {h0 : g_H} {r : Int32} {h' : g_H} (X : gX G l yX8_screamsBy.cls cX8_screamsBy 5 (some .int) [] yX8_screamsBy.name p s m args meth c) {k4 : Nat → Int32 → Int32 → Int32 → gM Int32} (K4 : w_X8_screamsBy_4 G l p e s m args below meth c h0 r h' k4) : ∀ n : Nat, w_X8_screamsBy_12 G l p e s m args below meth c h0 r h' (f_X8_screamsBy_12 k4 n) := by
  have hx := X.1
  have hb := X.2.1
  have hown := X.2.2.2.1
  have hts := X.2.2.2.2.1
  intro n
  induction n with
  | zero =>
    intro a0 x1 x2 x3 x4 h H locs cells slots ls hf hI hl
    exact (gFail_f hf).elim
  | succ n ih =>
    intro a0 x1 x2 x3 x4 h H locs cells slots ls hf hI hl
    rw [f_X8_screamsBy_12] at hf
    refine lv_iload hx hb dX8_screamsBy_12 (lv_at hl 4 rfl) ?_
    refine lv_aload_n hx hb dX8_screamsBy_14 rfl (lv_at hl 0 rfl) ?_
    obtain ⟨hs, hf⟩ := gCk_b hf
    refine g_cBI hI hf (fun v9 h9 e9 l9 l9' => g_rV X hI l9 l9' ⟨Nat.le_refl _, Nat.le_refl _⟩ (As := []) (m_X8_oneCount X.2.2.2.2.2.2.2.2.2.2.1 e9) ydX8_oneCount hs rfl rfl q1673 q1675 qs61 q131 q1676 rfl (Nat.le_of_ble_eq_true rfl) (Nat.le_of_ble_eq_true rfl) hl.1 rfl (Nat.le_of_ble_eq_true rfl) dX8_screamsBy_15) (fun r101 h H locs cells slots hf hI => ?_)
    refine lv_icmp_ge (tgt := 63) hx hb dX8_screamsBy_18 (by decide) (fun c18 => ?_) (fun c18 => ?_)
    · have hf := g_t c18 hf
      exact b_X8_screamsBy_63 X K4 _ _ _ _ _ _ _ _ _ _ hf hI (lv_sub hl [0, 1, 2, 3] rfl)
    · have hf := g_f c18 hf
      refine lv_aload_n hx hb dX8_screamsBy_21 rfl (lv_at hl 0 rfl) ?_
      refine lv_iload hx hb dX8_screamsBy_22 (lv_at hl 4 rfl) ?_
      obtain ⟨hs, hf⟩ := gCk_b hf
      refine g_cBI hI hf (fun v9 h9 e9 l9 l9' => g_rV X hI l9 l9' ⟨Nat.le_refl _, Nat.le_refl _⟩ (As := [.int x4]) (m_X8_waits X.2.2.2.2.2.2.2.2.2.2.1 e9) ydX8_waits hs rfl rfl q1804 q1806 qs82 q131 q1807 rfl (Nat.le_of_ble_eq_true rfl) (Nat.le_of_ble_eq_true rfl) hl.1 rfl (Nat.le_of_ble_eq_true rfl) dX8_screamsBy_24) (fun r102 h H locs cells slots hf hI => ?_)
      refine lv_if_ne (tgt := 33) hx hb dX8_screamsBy_27 (by decide) (fun c27 => ?_) (fun c27 => ?_)
      · have hf := g_f c27 hf
        refine lv_aload_n hx hb dX8_screamsBy_33 rfl (lv_at hl 0 rfl) ?_
        refine lv_iload hx hb dX8_screamsBy_34 (lv_at hl 4 rfl) ?_
        obtain ⟨hs, hf⟩ := gCk_b hf
        refine g_cBU hI hf (fun v9 h9 e9 l9 l9' => g_rV X hI l9 l9' ⟨Nat.le_refl _, Nat.le_refl _⟩ (As := [.int x4]) (m_X8_looksAt X.2.2.2.2.2.2.2.2.2.2.1 e9) ydX8_looksAt hs rfl rfl q1775 q1777 qs76 q131 q1778 rfl (Nat.le_of_ble_eq_true rfl) (Nat.le_of_ble_eq_true rfl) hl.1 rfl (Nat.le_of_ble_eq_true rfl) dX8_screamsBy_36) (fun r103 h H locs cells slots hf hI => ?_)
        refine lv_iload_n hx hb dX8_screamsBy_39 rfl (lv_at hl 2 rfl) ?_
        refine lv_aload_n hx hb dX8_screamsBy_40 rfl (lv_at hl 0 rfl) ?_
        refine lv_iconst (v := (1 : Int32)) hx hb dX8_screamsBy_41 (by decide) ?_
        refine lv_iconst (v := (0 : Int32)) hx hb dX8_screamsBy_42 (by decide) ?_
        obtain ⟨hs, hf⟩ := gCk_b hf
        refine g_cBI hI hf (fun v9 h9 e9 l9 l9' => g_rV X hI l9 l9' ⟨Nat.le_refl _, Nat.le_refl _⟩ (As := [.int (1 : Int32), .int (0 : Int32)]) (m_X8_rides X.2.2.2.2.2.2.2.2.2.2.1 e9) ydX8_rides hs rfl rfl q1812 q1814 qs84 q131 q1815 rfl (Nat.le_of_ble_eq_true rfl) (Nat.le_of_ble_eq_true rfl) hl.1 rfl (Nat.le_of_ble_eq_true rfl) dX8_screamsBy_43) (fun r104 h H locs cells slots hf hI => ?_)
        refine lv_iconst (v := (-1 : Int32)) hx hb dX8_screamsBy_46 (by decide) ?_
        refine lv_icmp_ne (tgt := 54) hx hb dX8_screamsBy_47 (by decide) (fun c47 => ?_) (fun c47 => ?_)
        · have hf := g_f c47 hf
          refine lv_iconst (v := (1 : Int32)) hx hb dX8_screamsBy_54 (by decide) ?_
          exact b_X8_screamsBy_55 X ih _ _ _ _ _ _ _ _ _ _ _ _ hf hI (lv_sub hl [0, 1, 3, 4] rfl)
        · have hf := g_t c47 hf
          refine lv_iconst (v := (0 : Int32)) hx hb dX8_screamsBy_50 (by decide) ?_
          refine lv_goto (tgt := 55) hx hb dX8_screamsBy_51 (by decide) ?_
          exact b_X8_screamsBy_55 X ih _ _ _ _ _ _ _ _ _ _ _ _ hf hI (lv_sub hl [0, 1, 3, 4] rfl)
      · have hf := g_t c27 hf
        refine lv_goto (tgt := 57) hx hb dX8_screamsBy_30 (by decide) ?_
        exact b_X8_screamsBy_57 X ih _ _ _ _ _ _ _ _ _ _ _ hf hI (lv_sub hl [0, 1, 2, 3, 4] rfl)
def f_X8_screamsBy_69 (x2 : Int32) : gM Int32 :=
    (gRet x2)
set_option maxHeartbeats 4000000 in
set_option maxRecDepth 100000 in
theorem b_X8_screamsBy_69 {G : gG} {l : Launch} {p : Program} {e : Env} {s : State} {m : MethodId} {args : Array Value} {below : List Frame} {meth : Method} {c : Code} {h0 : g_H} {r : Int32} {h' : g_H} (X : gX G l yX8_screamsBy.cls cX8_screamsBy 5 (some .int) [] yX8_screamsBy.name p s m args meth c) : w_X8_screamsBy_69 G l p e s m args below meth c h0 r h' (f_X8_screamsBy_69) := by
  have hx := X.1
  have hb := X.2.1
  have hown := X.2.2.2.1
  have hts := X.2.2.2.2.1
  intro x2 h H locs cells slots ls hf hI hl
  unfold f_X8_screamsBy_69 at hf
  refine lv_iload_n hx hb dX8_screamsBy_69 rfl (lv_at hl 0 rfl) ?_
  cases gRet_e hf
  exact g_retI X hI rfl dX8_screamsBy_70
def f_X8_screamsBy_4 : Nat → Nat → Int32 → Int32 → Int32 → gM Int32
  | 0, _, _, _, _ => gFail
  | n + 1, a0, x1, x2, x3 =>
    gIf (x1 ≤ x3)
    (f_X8_screamsBy_69 x2)
    (f_X8_screamsBy_12 (f_X8_screamsBy_4 n) gN a0 x1 x2 x3 (0 : Int32))
set_option maxHeartbeats 4000000 in
set_option maxRecDepth 100000 in
theorem b_X8_screamsBy_4 {G : gG} {l : Launch} {p : Program} {e : Env} {s : State} {m : MethodId} {args : Array Value} {below : List Frame} {meth : Method} {c : Code} {h0 : g_H} {r : Int32} {h' : g_H} (X : gX G l yX8_screamsBy.cls cX8_screamsBy 5 (some .int) [] yX8_screamsBy.name p s m args meth c) : ∀ n : Nat, w_X8_screamsBy_4 G l p e s m args below meth c h0 r h' (f_X8_screamsBy_4 n) := by
  have hx := X.1
  have hb := X.2.1
  have hown := X.2.2.2.1
  have hts := X.2.2.2.2.1
  intro n
  induction n with
  | zero =>
    intro a0 x1 x2 x3 h H locs cells slots ls hf hI hl
    exact (gFail_f hf).elim
  | succ n ih =>
    intro a0 x1 x2 x3 h H locs cells slots ls hf hI hl
    rw [f_X8_screamsBy_4] at hf
    refine lv_iload_n hx hb dX8_screamsBy_4 rfl (lv_at hl 3 rfl) ?_
    refine lv_iload_n hx hb dX8_screamsBy_5 rfl (lv_at hl 1 rfl) ?_
    refine lv_icmp_ge (tgt := 69) hx hb dX8_screamsBy_6 (by decide) (fun c6 => ?_) (fun c6 => ?_)
    · have hf := g_t c6 hf
      exact b_X8_screamsBy_69 X _ _ _ _ _ _ _ hf hI (lv_sub hl [2] rfl)
    · have hf := g_f c6 hf
      refine lv_iconst (v := (0 : Int32)) hx hb dX8_screamsBy_9 (by decide) ?_
      refine lv_istore (lv' := [(4, .int (0 : Int32)), (0, .ref a0), (1, .int x1), (2, .int x2), (3, .int x3)]) hx hb dX8_screamsBy_10 hl (by decide) rfl (fun ls hl => ?_)
      exact b_X8_screamsBy_12 X ih gN _ _ _ _ _ _ _ _ _ _ _ hf hI (lv_sub hl [1, 2, 3, 4, 0] rfl)
def f_X8_screamsBy (a0 : Nat) (x1 : Int32) : gM Int32 :=
    f_X8_screamsBy_4 gN a0 x1 (0 : Int32) (0 : Int32)
set_option maxHeartbeats 4000000 in
set_option maxRecDepth 100000 in
theorem m_X8_screamsBy {G : gG} {l : Launch} (hfl : l.stackTraces = false) {a0 : Nat} {x1 : Int32} {h h' : g_H} {r : Int32} (hf : (f_X8_screamsBy a0 x1).1 h = some (r, h')) : gMet G l yX8_screamsBy (Cond.code yX8_screamsBy cX8_screamsBy 5 (some .int)) 10 228 [.ref a0, .int x1] h (.inl (g_wI r)) h' := by
  refine g_head hfl ((f_X8_screamsBy a0 x1).2 h r h' hf) (plainFor_of_name (by decide)) (Nat.le_of_ble_eq_true rfl) (fun p e s m below meth c H locs cells slots ls X hI hl9 => ?_)
  have hl : lv_has ls 5 [(0, .ref a0), (1, .int x1)] := hl9
  have hx := X.1
  have hb := X.2.1
  have hown := X.2.2.2.1
  have hts := X.2.2.2.2.1
  unfold f_X8_screamsBy at hf
  refine lv_iconst (v := (0 : Int32)) hx hb dX8_screamsBy_0 (by decide) ?_
  refine lv_istore_n (lv' := [(2, .int (0 : Int32)), (0, .ref a0), (1, .int x1)]) hx hb dX8_screamsBy_1 rfl hl (by decide) rfl (fun ls hl => ?_)
  refine lv_iconst (v := (0 : Int32)) hx hb dX8_screamsBy_2 (by decide) ?_
  refine lv_istore_n (lv' := [(3, .int (0 : Int32)), (2, .int (0 : Int32)), (0, .ref a0), (1, .int x1)]) hx hb dX8_screamsBy_3 rfl hl (by decide) rfl (fun ls hl => ?_)
  exact b_X8_screamsBy_4 X gN _ _ _ _ _ _ _ _ _ _ hf hI (lv_sub hl [2, 3, 1, 0] rfl)
/-! X8_span -/
abbrev w_X8_span_98 (G : gG) (l : Launch) (p : Program) (e : Env) (s : State) (m : MethodId) (args : Array Value) (below : List Frame) (meth : Method) (c : Code) (h0 : g_H) (r : Int32) (h' : g_H) (k : Nat → Int32 → Int32 → Int32 → Int32 → Int32 → gM Int32) : Prop := ∀ (a0 : Nat) (x1 : Int32) (x2 : Int32) (x3 : Int32) (x5 : Int32) (u0 : Int32) (h : g_H) (H : Heap) (locs : List Loc) (cells slots : Nat) (ls : Array Slot), (k a0 x1 x2 x3 x5 u0).1 h = some (r, h') → gI G h0 h H locs cells slots → lv_has ls 7 [(0, .ref a0), (1, .int x1), (2, .int x2), (3, .int x3), (5, .int x5)] → W p l e (g_rm 11 252 h0 h') s m args below meth c H locs cells slots (gQ G below args s h0 h' (.inl (g_wI r))) (F0 m 98 ls [.int u0])
abbrev w_X8_span_106 (G : gG) (l : Launch) (p : Program) (e : Env) (s : State) (m : MethodId) (args : Array Value) (below : List Frame) (meth : Method) (c : Code) (h0 : g_H) (r : Int32) (h' : g_H) (k : Nat → Int32 → Int32 → gM Int32) : Prop := ∀ (a0 : Nat) (x3 : Int32) (x4 : Int32) (h : g_H) (H : Heap) (locs : List Loc) (cells slots : Nat) (ls : Array Slot), (k a0 x3 x4).1 h = some (r, h') → gI G h0 h H locs cells slots → lv_has ls 7 [(0, .ref a0), (3, .int x3), (4, .int x4)] → W p l e (g_rm 11 252 h0 h') s m args below meth c H locs cells slots (gQ G below args s h0 h' (.inl (g_wI r))) (F0 m 106 ls [])
abbrev w_X8_span_44 (G : gG) (l : Launch) (p : Program) (e : Env) (s : State) (m : MethodId) (args : Array Value) (below : List Frame) (meth : Method) (c : Code) (h0 : g_H) (r : Int32) (h' : g_H) (k : Nat → Int32 → Int32 → Int32 → Int32 → Int32 → gM Int32) : Prop := ∀ (a0 : Nat) (x1 : Int32) (x2 : Int32) (x3 : Int32) (x4 : Int32) (x5 : Int32) (h : g_H) (H : Heap) (locs : List Loc) (cells slots : Nat) (ls : Array Slot), (k a0 x1 x2 x3 x4 x5).1 h = some (r, h') → gI G h0 h H locs cells slots → lv_has ls 7 [(0, .ref a0), (1, .int x1), (2, .int x2), (3, .int x3), (4, .int x4), (5, .int x5)] → W p l e (g_rm 11 252 h0 h') s m args below meth c H locs cells slots (gQ G below args s h0 h' (.inl (g_wI r))) (F0 m 44 ls [])
abbrev w_X8_span_21 (G : gG) (l : Launch) (p : Program) (e : Env) (s : State) (m : MethodId) (args : Array Value) (below : List Frame) (meth : Method) (c : Code) (h0 : g_H) (r : Int32) (h' : g_H) (k : Nat → Int32 → Int32 → Nat → Int32 → gM Int32) : Prop := ∀ (a0 : Nat) (x1 : Int32) (x2 : Int32) (b0 : Nat) (u1 : Int32) (h : g_H) (H : Heap) (locs : List Loc) (cells slots : Nat) (ls : Array Slot), (k a0 x1 x2 b0 u1).1 h = some (r, h') → gI G h0 h H locs cells slots → lv_has ls 7 [(0, .ref a0), (1, .int x1), (2, .int x2)] → W p l e (g_rm 11 252 h0 h') s m args below meth c H locs cells slots (gQ G below args s h0 h' (.inl (g_wI r))) (F0 m 21 ls [.int u1, .ref b0])
def f_X8_span_98 (k44 : Nat → Int32 → Int32 → Int32 → Int32 → Int32 → gM Int32) (a0 : Nat) (x1 : Int32) (x2 : Int32) (x3 : Int32) (x5 : Int32) (u0 : Int32) : gM Int32 :=
    k44 a0 x1 x2 x3 u0 (x5 + (1 : Int32))
set_option maxHeartbeats 4000000 in
set_option maxRecDepth 100000 in
theorem b_X8_span_98 {G : gG} {l : Launch} {p : Program} {e : Env} {s : State} {m : MethodId} {args : Array Value} {below : List Frame} {meth : Method} {c : Code} {h0 : g_H} {r : Int32} {h' : g_H} (X : gX G l yX8_span.cls cX8_span 7 (some .int) [] yX8_span.name p s m args meth c) {k44 : Nat → Int32 → Int32 → Int32 → Int32 → Int32 → gM Int32} (K44 : w_X8_span_44 G l p e s m args below meth c h0 r h' k44) : w_X8_span_98 G l p e s m args below meth c h0 r h' (f_X8_span_98 k44) := by
  have hx := X.1
  have hb := X.2.1
  have hown := X.2.2.2.1
  have hts := X.2.2.2.2.1
  intro a0 x1 x2 x3 x5 u0 h H locs cells slots ls hf hI hl
  unfold f_X8_span_98 at hf
  refine lv_istore (lv' := [(4, .int u0), (0, .ref a0), (1, .int x1), (2, .int x2), (3, .int x3), (5, .int x5)]) hx hb dX8_span_98 hl (by decide) rfl (fun ls hl => ?_)
  refine lv_iinc (v := (x5 + (1 : Int32))) (lv' := [(5, .int (x5 + (1 : Int32))), (4, .int u0), (0, .ref a0), (1, .int x1), (2, .int x2), (3, .int x3)]) hx hb dX8_span_100 hl (k := 5) rfl rfl (by decide) rfl (fun ls hl => ?_)
  refine lv_goto (tgt := 44) hx hb dX8_span_103 (by decide) ?_
  exact K44 _ _ _ _ _ _ _ _ _ _ _ _ hf hI (lv_sub hl [2, 3, 4, 5, 1, 0] rfl)
def f_X8_span_106 (a0 : Nat) (x3 : Int32) (x4 : Int32) : gM Int32 :=
    gB (gFR a0 7 1) fun v101 =>
    gB (gSI v101 0 (8 : Int32) x3) fun _ =>
    (gRet x4)
set_option maxHeartbeats 4000000 in
set_option maxRecDepth 100000 in
theorem b_X8_span_106 {G : gG} {l : Launch} {p : Program} {e : Env} {s : State} {m : MethodId} {args : Array Value} {below : List Frame} {meth : Method} {c : Code} {h0 : g_H} {r : Int32} {h' : g_H} (X : gX G l yX8_span.cls cX8_span 7 (some .int) [] yX8_span.name p s m args meth c) : w_X8_span_106 G l p e s m args below meth c h0 r h' (f_X8_span_106) := by
  have hx := X.1
  have hb := X.2.1
  have hown := X.2.2.2.1
  have hts := X.2.2.2.2.1
  intro a0 x3 x4 h H locs cells slots ls hf hI hl
  unfold f_X8_span_106 at hf
  refine lv_aload_n hx hb dX8_span_106 rfl (lv_at hl 0 rfl) ?_
  refine g_fr X hI hf fX8_1 q1445 rfl rfl dX8_span_107 (fun v101 hf => ?_)
  refine lv_bipush (v := (8 : Int32)) hx hb dX8_span_110 (by decide) ?_
  refine lv_iload_n hx hb dX8_span_112 rfl (lv_at hl 1 rfl) ?_
  refine g_si0 X hI hf dX8_span_113 (fun h H locs hf hI => ?_)
  refine lv_iload hx hb dX8_span_114 (lv_at hl 2 rfl) ?_
  cases gRet_e hf
  exact g_retI X hI rfl dX8_span_116
def f_X8_span_44 : Nat → Nat → Int32 → Int32 → Int32 → Int32 → Int32 → gM Int32
  | 0, _, _, _, _, _, _ => gFail
  | n + 1, a0, x1, x2, x3, x4, x5 =>
    gIf ((6 : Int32) < x5)
    (f_X8_span_106 a0 x3 x4)
    (gB (gFR a0 7 1) fun v101 =>
    gB (gSI v101 0 (8 : Int32) x5) fun _ =>
    gB (gCk a0 7) fun _ =>
    gB (f_X8_screamsBy a0 x1) fun r102 =>
    gIf (0 ≤ x4)
    (gIf (x2 = 0)
    (gB (f_J13_min x4 r102) fun r103 =>
    f_X8_span_98 (f_X8_span_44 n) a0 x1 x2 x3 x5 r103)
    (gB (f_J13_max x4 r102) fun r104 =>
    f_X8_span_98 (f_X8_span_44 n) a0 x1 x2 x3 x5 r104))
    (f_X8_span_98 (f_X8_span_44 n) a0 x1 x2 x3 x5 r102))
set_option maxHeartbeats 4000000 in
set_option maxRecDepth 100000 in
theorem b_X8_span_44 {G : gG} {l : Launch} {p : Program} {e : Env} {s : State} {m : MethodId} {args : Array Value} {below : List Frame} {meth : Method} {c : Code} {h0 : g_H} {r : Int32} {h' : g_H} (X : gX G l yX8_span.cls cX8_span 7 (some .int) [] yX8_span.name p s m args meth c) : ∀ n : Nat, w_X8_span_44 G l p e s m args below meth c h0 r h' (f_X8_span_44 n) := by
  have hx := X.1
  have hb := X.2.1
  have hown := X.2.2.2.1
  have hts := X.2.2.2.2.1
  intro n
  induction n with
  | zero =>
    intro a0 x1 x2 x3 x4 x5 h H locs cells slots ls hf hI hl
    exact (gFail_f hf).elim
  | succ n ih =>
    intro a0 x1 x2 x3 x4 x5 h H locs cells slots ls hf hI hl
    rw [f_X8_span_44] at hf
    refine lv_iload hx hb dX8_span_44 (lv_at hl 5 rfl) ?_
    refine lv_bipush (v := (6 : Int32)) hx hb dX8_span_46 (by decide) ?_
    refine lv_icmp_gt (tgt := 106) hx hb dX8_span_48 (by decide) (fun c48 => ?_) (fun c48 => ?_)
    · have hf := g_t c48 hf
      exact b_X8_span_106 X _ _ _ _ _ _ _ _ _ hf hI (lv_sub hl [0, 3, 4] rfl)
    · have hf := g_f c48 hf
      refine lv_aload_n hx hb dX8_span_51 rfl (lv_at hl 0 rfl) ?_
      refine g_fr X hI hf fX8_1 q1445 rfl rfl dX8_span_52 (fun v101 hf => ?_)
      refine lv_bipush (v := (8 : Int32)) hx hb dX8_span_55 (by decide) ?_
      refine lv_iload hx hb dX8_span_57 (lv_at hl 5 rfl) ?_
      refine g_si0 X hI hf dX8_span_59 (fun h H locs hf hI => ?_)
      refine lv_aload_n hx hb dX8_span_60 rfl (lv_at hl 0 rfl) ?_
      refine lv_iload_n hx hb dX8_span_61 rfl (lv_at hl 1 rfl) ?_
      obtain ⟨hs, hf⟩ := gCk_b hf
      refine g_cBI hI hf (fun v9 h9 e9 l9 l9' => g_rV X hI l9 l9' ⟨Nat.le_refl _, Nat.le_refl _⟩ (As := [.int x1]) (m_X8_screamsBy X.2.2.2.2.2.2.2.2.2.2.1 e9) ydX8_screamsBy hs rfl rfl q2065 q2067 qs116 q131 q2068 rfl (Nat.le_of_ble_eq_true rfl) (Nat.le_of_ble_eq_true rfl) hl.1 rfl (Nat.le_of_ble_eq_true rfl) dX8_span_62) (fun r102 h H locs cells slots hf hI => ?_)
      refine lv_istore (lv' := [(6, .int r102), (0, .ref a0), (1, .int x1), (2, .int x2), (3, .int x3), (4, .int x4), (5, .int x5)]) hx hb dX8_span_65 hl (by decide) rfl (fun ls hl => ?_)
      refine lv_iload hx hb dX8_span_67 (lv_at hl 5 rfl) ?_
      refine lv_if_ge (tgt := 77) hx hb dX8_span_69 (by decide) (fun c69 => ?_) (fun c69 => ?_)
      · have hf := g_t c69 hf
        refine lv_iload_n hx hb dX8_span_77 rfl (lv_at hl 3 rfl) ?_
        refine lv_if_eq (tgt := 91) hx hb dX8_span_78 (by decide) (fun c78 => ?_) (fun c78 => ?_)
        · have hf := g_t c78 hf
          refine lv_iload hx hb dX8_span_91 (lv_at hl 5 rfl) ?_
          refine lv_iload hx hb dX8_span_93 (lv_at hl 0 rfl) ?_
          refine g_cBI hI hf (fun v9 h9 e9 l9 l9' => g_rS (b := 0) X hI l9 l9' ⟨Nat.le_refl _, Nat.le_refl _⟩ (As := [.int x4, .int r102]) (m_J13_min X.2.2.2.2.2.2.2.2.2.2.1 e9) ydJ13_min q1845 q740 q151 q741 rfl (Nat.le_of_ble_eq_true rfl) (Nat.le_of_ble_eq_true rfl) hl.1 rfl (Nat.le_of_ble_eq_true rfl) dX8_span_95) (fun r103 h H locs cells slots hf hI => ?_)
          exact b_X8_span_98 X ih _ _ _ _ _ _ _ _ _ _ _ _ hf hI (lv_sub hl [1, 2, 3, 4, 6] rfl)
        · have hf := g_f c78 hf
          refine lv_iload hx hb dX8_span_81 (lv_at hl 5 rfl) ?_
          refine lv_iload hx hb dX8_span_83 (lv_at hl 0 rfl) ?_
          refine g_cBI hI hf (fun v9 h9 e9 l9 l9' => g_rS (b := 0) X hI l9 l9' ⟨Nat.le_refl _, Nat.le_refl _⟩ (As := [.int x4, .int r102]) (m_J13_max X.2.2.2.2.2.2.2.2.2.2.1 e9) ydJ13_max q1799 q564 q151 q565 rfl (Nat.le_of_ble_eq_true rfl) (Nat.le_of_ble_eq_true rfl) hl.1 rfl (Nat.le_of_ble_eq_true rfl) dX8_span_85) (fun r104 h H locs cells slots hf hI => ?_)
          refine lv_goto (tgt := 98) hx hb dX8_span_88 (by decide) ?_
          exact b_X8_span_98 X ih _ _ _ _ _ _ _ _ _ _ _ _ hf hI (lv_sub hl [1, 2, 3, 4, 6] rfl)
      · have hf := g_f c69 hf
        refine lv_iload hx hb dX8_span_72 (lv_at hl 0 rfl) ?_
        refine lv_goto (tgt := 98) hx hb dX8_span_74 (by decide) ?_
        exact b_X8_span_98 X ih _ _ _ _ _ _ _ _ _ _ _ _ hf hI (lv_sub hl [1, 2, 3, 4, 6] rfl)
def f_X8_span_21 (a0 : Nat) (x1 : Int32) (x2 : Int32) (b0 : Nat) (u1 : Int32) : gM Int32 :=
    gB (gCk b0 7) fun _ =>
    gB (f_X8_throwsIf b0 u1 (1 : Int32)) fun r101 =>
    gIf (r101 = 0)
    (gB (gFR a0 7 1) fun v102 =>
    gB (gAI v102 0 (8 : Int32)) fun v103 =>
    f_X8_span_44 gN a0 x1 x2 v103 (-1 : Int32) (1 : Int32))
    ((gRet (0 : Int32)))
set_option maxHeartbeats 4000000 in
set_option maxRecDepth 100000 in
theorem b_X8_span_21 {G : gG} {l : Launch} {p : Program} {e : Env} {s : State} {m : MethodId} {args : Array Value} {below : List Frame} {meth : Method} {c : Code} {h0 : g_H} {r : Int32} {h' : g_H} (X : gX G l yX8_span.cls cX8_span 7 (some .int) [] yX8_span.name p s m args meth c) : w_X8_span_21 G l p e s m args below meth c h0 r h' (f_X8_span_21) := by
  have hx := X.1
  have hb := X.2.1
  have hown := X.2.2.2.1
  have hts := X.2.2.2.2.1
  intro a0 x1 x2 b0 u1 h H locs cells slots ls hf hI hl
  unfold f_X8_span_21 at hf
  refine lv_iconst (v := (1 : Int32)) hx hb dX8_span_21 (by decide) ?_
  obtain ⟨hs, hf⟩ := gCk_b hf
  refine g_cBI hI hf (fun v9 h9 e9 l9 l9' => g_rV X hI l9 l9' ⟨Nat.le_refl _, Nat.le_refl _⟩ (As := [.int u1, .int (1 : Int32)]) (m_X8_throwsIf X.2.2.2.2.2.2.2.2.2.2.1 e9) ydX8_throwsIf hs rfl rfl q1736 q1738 qs72 q131 q1739 rfl (Nat.le_of_ble_eq_true rfl) (Nat.le_of_ble_eq_true rfl) hl.1 rfl (Nat.le_of_ble_eq_true rfl) dX8_span_22) (fun r101 h H locs cells slots hf hI => ?_)
  refine lv_if_eq (tgt := 30) hx hb dX8_span_25 (by decide) (fun c25 => ?_) (fun c25 => ?_)
  · have hf := g_t c25 hf
    refine lv_aload_n hx hb dX8_span_30 rfl (lv_at hl 0 rfl) ?_
    refine g_fr X hI hf fX8_1 q1445 rfl rfl dX8_span_31 (fun v102 hf => ?_)
    refine lv_bipush (v := (8 : Int32)) hx hb dX8_span_34 (by decide) ?_
    refine g_ai0 X hI hf dX8_span_36 (fun v103 hf => ?_)
    refine lv_istore_n (lv' := [(3, .int v103), (0, .ref a0), (1, .int x1), (2, .int x2)]) hx hb dX8_span_37 rfl hl (by decide) rfl (fun ls hl => ?_)
    refine lv_iconst (v := (-1 : Int32)) hx hb dX8_span_38 (by decide) ?_
    refine lv_istore (lv' := [(4, .int (-1 : Int32)), (3, .int v103), (0, .ref a0), (1, .int x1), (2, .int x2)]) hx hb dX8_span_39 hl (by decide) rfl (fun ls hl => ?_)
    refine lv_iconst (v := (1 : Int32)) hx hb dX8_span_41 (by decide) ?_
    refine lv_istore (lv' := [(5, .int (1 : Int32)), (4, .int (-1 : Int32)), (3, .int v103), (0, .ref a0), (1, .int x1), (2, .int x2)]) hx hb dX8_span_42 hl (by decide) rfl (fun ls hl => ?_)
    exact b_X8_span_44 X gN _ _ _ _ _ _ _ _ _ _ _ _ hf hI (lv_sub hl [3, 4, 5, 2, 1, 0] rfl)
  · have hf := g_f c25 hf
    refine lv_iconst (v := (0 : Int32)) hx hb dX8_span_28 (by decide) ?_
    cases gRet_e hf
    exact g_retI X hI rfl dX8_span_29
def f_X8_span (a0 : Nat) (x1 : Int32) (x2 : Int32) : gM Int32 :=
    gB (gPI a0 7 0 (0 : Int32)) fun _ =>
    gB (f_X8_in x1 (0 : Int32) (20 : Int32)) fun r1 =>
    gIf (r1 = 0)
    (f_X8_span_21 a0 x1 x2 a0 (1 : Int32))
    (f_X8_span_21 a0 x1 x2 a0 (0 : Int32))
set_option maxHeartbeats 4000000 in
set_option maxRecDepth 100000 in
theorem m_X8_span {G : gG} {l : Launch} (hfl : l.stackTraces = false) {a0 : Nat} {x1 : Int32} {x2 : Int32} {h h' : g_H} {r : Int32} (hf : (f_X8_span a0 x1 x2).1 h = some (r, h')) : gMet G l yX8_span (Cond.code yX8_span cX8_span 7 (some .int)) 11 252 [.ref a0, .int x1, .int x2] h (.inl (g_wI r)) h' := by
  refine g_head hfl ((f_X8_span a0 x1 x2).2 h r h' hf) (plainFor_of_name (by decide)) (Nat.le_of_ble_eq_true rfl) (fun p e s m below meth c H locs cells slots ls X hI hl9 => ?_)
  have hl : lv_has ls 7 [(0, .ref a0), (1, .int x1), (2, .int x2)] := hl9
  have hx := X.1
  have hb := X.2.1
  have hown := X.2.2.2.1
  have hts := X.2.2.2.2.1
  unfold f_X8_span at hf
  refine lv_aload_n hx hb dX8_span_0 rfl (lv_at hl 0 rfl) ?_
  refine lv_iconst (v := (0 : Int32)) hx hb dX8_span_1 (by decide) ?_
  refine g_pi X hI hf fX8_0 q1444 rfl dX8_span_2 (fun h H locs hf hI => ?_)
  refine lv_aload_n hx hb dX8_span_5 rfl (lv_at hl 0 rfl) ?_
  refine lv_iload_n hx hb dX8_span_6 rfl (lv_at hl 1 rfl) ?_
  refine lv_iconst (v := (0 : Int32)) hx hb dX8_span_7 (by decide) ?_
  refine lv_bipush (v := (20 : Int32)) hx hb dX8_span_8 (by decide) ?_
  refine g_cBI hI hf (fun v9 h9 e9 l9 l9' => g_rS (b := 0) X hI l9 l9' ⟨Nat.le_refl _, Nat.le_refl _⟩ (As := [.int x1, .int (0 : Int32), .int (20 : Int32)]) (m_X8_in X.2.2.2.2.2.2.2.2.2.2.1 e9) ydX8_in q1634 q1635 q131 q1636 rfl (Nat.le_of_ble_eq_true rfl) (Nat.le_of_ble_eq_true rfl) hl.1 rfl (Nat.le_of_ble_eq_true rfl) dX8_span_10) (fun r1 h H locs cells slots hf hI => ?_)
  refine lv_if_ne (tgt := 20) hx hb dX8_span_13 (by decide) (fun c13 => ?_) (fun c13 => ?_)
  · have hf := g_f c13 hf
    refine lv_iconst (v := (0 : Int32)) hx hb dX8_span_20 (by decide) ?_
    exact b_X8_span_21 X _ _ _ _ _ _ _ _ _ _ _ hf hI (lv_sub hl [0, 1, 2] rfl)
  · have hf := g_t c13 hf
    refine lv_iconst (v := (1 : Int32)) hx hb dX8_span_16 (by decide) ?_
    refine lv_goto (tgt := 21) hx hb dX8_span_17 (by decide) ?_
    exact b_X8_span_21 X _ _ _ _ _ _ _ _ _ _ _ hf hI (lv_sub hl [0, 1, 2] rfl)
/-! X1_trial -/
def f_X1_trial (a0 : Nat) (x1 : Int32) : gM (Int32 ⊕ gE) :=
    gB (f_X1_isIn x1 (0 : Int32) (20 : Int32)) fun r1 =>
    gT (f_X1_must r1) fun _ =>
    gB (gFR a0 0 1) fun v3 =>
    gB (gFI v3 2 13) fun v4 =>
    gB (gCk a0 0) fun _ =>
    gB (f_X1_goOn a0 x1) fun r5 =>
    gB (gFR a0 0 1) fun v6 =>
    gB (gPI v6 2 13 v4) fun _ =>
    (gRet (.inl r5))
set_option maxHeartbeats 4000000 in
set_option maxRecDepth 100000 in
theorem m_X1_trial {G : gG} {l : Launch} (hfl : l.stackTraces = false) {a0 : Nat} {x1 : Int32} {h h' : g_H} {r : (Int32 ⊕ gE)} (hf : (f_X1_trial a0 x1).1 h = some (r, h')) : gMet G l yX1_trial (Cond.code yX1_trial cX1_trial 4 (some .int)) 103 1916 [.ref a0, .int x1] h (g_w g_wI r) h' := by
  refine g_head hfl ((f_X1_trial a0 x1).2 h r h' hf) (plainFor_of_name (by decide)) (Nat.le_of_ble_eq_true rfl) (fun p e s m below meth c H locs cells slots ls X hI hl9 => ?_)
  have hl : lv_has ls 4 [(0, .ref a0), (1, .int x1)] := hl9
  have hx := X.1
  have hb := X.2.1
  have hown := X.2.2.2.1
  have hts := X.2.2.2.2.1
  unfold f_X1_trial at hf
  refine lv_iload_n hx hb dX1_trial_0 rfl (lv_at hl 1 rfl) ?_
  refine lv_iconst (v := (0 : Int32)) hx hb dX1_trial_1 (by decide) ?_
  refine lv_bipush (v := (20 : Int32)) hx hb dX1_trial_2 (by decide) ?_
  refine g_cBI hI hf (fun v9 h9 e9 l9 l9' => g_rS (b := 0) X hI l9 l9' ⟨Nat.le_refl _, Nat.le_refl _⟩ (As := [.int x1, .int (0 : Int32), .int (20 : Int32)]) (m_X1_isIn X.2.2.2.2.2.2.2.2.2.2.1 e9) ydX1_isIn q532 q533 q121 q534 rfl (Nat.le_of_ble_eq_true rfl) (Nat.le_of_ble_eq_true rfl) hl.1 rfl (Nat.le_of_ble_eq_true rfl) dX1_trial_4) (fun r1 h H locs cells slots hf hI => ?_)
  refine g_cTU X hI (by decide) hf (fun v9 h9 e9 l9 l9' => g_rS (b := 0) X hI l9 l9' ⟨Nat.le_refl _, Nat.le_refl _⟩ (As := [.int r1]) (m_X1_must X.2.2.2.2.2.2.2.2.2.2.1 e9) ydX1_must q1200 q1201 q121 q1202 rfl (Nat.le_of_ble_eq_true rfl) (Nat.le_of_ble_eq_true rfl) hl.1 rfl (Nat.le_of_ble_eq_true rfl) dX1_trial_7) (fun r2 h H locs cells slots hf hI => ?_)
  refine lv_aload_n hx hb dX1_trial_10 rfl (lv_at hl 0 rfl) ?_
  refine g_fr X hI hf fX1_1 q461 rfl rfl dX1_trial_11 (fun v3 hf => ?_)
  refine g_fiN X hI hf fX3_13 q287 rfl rfl dX1_trial_14 (fun v4 hf => ?_)
  refine lv_istore_n (lv' := [(2, .int v4), (0, .ref a0), (1, .int x1)]) hx hb dX1_trial_17 rfl hl (by decide) rfl (fun ls hl => ?_)
  refine lv_aload_n hx hb dX1_trial_18 rfl (lv_at hl 1 rfl) ?_
  refine lv_iload_n hx hb dX1_trial_19 rfl (lv_at hl 2 rfl) ?_
  obtain ⟨hs, hf⟩ := gCk_b hf
  refine g_cBI hI hf (fun v9 h9 e9 l9 l9' => g_rV X hI l9 l9' ⟨Nat.le_refl _, Nat.le_refl _⟩ (As := [.int x1]) (m_X1_goOn X.2.2.2.2.2.2.2.2.2.2.1 e9) ydX1_goOn hs rfl rfl q1396 q1398 qs43 q121 q1399 rfl (Nat.le_of_ble_eq_true rfl) (Nat.le_of_ble_eq_true rfl) hl.1 rfl (Nat.le_of_ble_eq_true rfl) dX1_trial_20) (fun r5 h H locs cells slots hf hI => ?_)
  refine lv_istore_n (lv' := [(3, .int r5), (2, .int v4), (0, .ref a0), (1, .int x1)]) hx hb dX1_trial_23 rfl hl (by decide) rfl (fun ls hl => ?_)
  refine lv_aload_n hx hb dX1_trial_24 rfl (lv_at hl 2 rfl) ?_
  refine g_fr X hI hf fX1_1 q461 rfl rfl dX1_trial_25 (fun v6 hf => ?_)
  refine lv_iload_n hx hb dX1_trial_28 rfl (lv_at hl 1 rfl) ?_
  refine g_piN X hI hf fX3_13 q287 rfl dX1_trial_29 (fun h H locs hf hI => ?_)
  refine lv_iload_n hx hb dX1_trial_32 rfl (lv_at hl 0 rfl) ?_
  cases gRet_e hf
  exact g_retI X hI rfl dX1_trial_33
/-! X0_trial -/
def f_X0_trial (a0 : Nat) (x1 : Int32) (a2 : Nat) : gM Int32 :=
    gB (gCk a0 0) fun _ =>
    gB (f_X1_trial a0 x1) fun r9 => match r9 with
    | .inl r1 => (gB (gSI a2 2 (0 : Int32) (r1)) fun _ =>
    (gRet (0 : Int32)))
    | .inr x9 => (gIf (x9.1 = 17)
    ((gRet (1 : Int32)))
    (gFail))
set_option maxHeartbeats 4000000 in
set_option maxRecDepth 100000 in
theorem m_X0_trial {G : gG} {l : Launch} (hfl : l.stackTraces = false) {a0 : Nat} {x1 : Int32} {a2 : Nat} {h h' : g_H} {r : Int32} (hf : (f_X0_trial a0 x1 a2).1 h = some (r, h')) : gMet G l yX0_trial (Cond.codeWith yX0_trial cX0_trial 4 (some .int) [(0, 9, 12, 13)]) 104 1939 [.ref a0, .int x1, .ref a2] h (.inl (g_wI r)) h' := by
  refine g_headW hfl ((f_X0_trial a0 x1 a2).2 h r h' hf) (plainFor_of_name (by decide)) (Nat.le_of_ble_eq_true rfl) (fun p e s m below meth c H locs cells slots ls X hI hl9 => ?_)
  have hl : lv_has ls 4 [(0, .ref a0), (1, .int x1), (2, .ref a2)] := hl9
  have hx := X.1
  have hb := X.2.1
  have hown := X.2.2.2.1
  have hts := X.2.2.2.2.1
  unfold f_X0_trial at hf
  refine lv_aload_n hx hb dX0_trial_0 rfl (lv_at hl 2 rfl) ?_
  refine lv_iconst (v := (0 : Int32)) hx hb dX0_trial_1 (by decide) ?_
  refine lv_aload_n hx hb dX0_trial_2 rfl (lv_at hl 0 rfl) ?_
  refine lv_iload_n hx hb dX0_trial_3 rfl (lv_at hl 1 rfl) ?_
  obtain ⟨hs, hf⟩ := gCk_b hf
  refine g_cHI hI hf (fun v9 h9 e9 l9 l9' => g_rV X hI l9 l9' ⟨Nat.le_refl _, Nat.le_refl _⟩ (As := [.int x1]) (m_X1_trial X.2.2.2.2.2.2.2.2.2.2.1 e9) ydX1_trial hs rfl rfl q1392 q1393 q1394 q121 q1395 rfl (Nat.le_of_ble_eq_true rfl) (Nat.le_of_ble_eq_true rfl) hl.1 rfl (Nat.le_of_ble_eq_true rfl) dX0_trial_4) (fun r1 h H locs cells slots hf hI => ?_) ?_
  · refine lv_i2l hx hb dX0_trial_7 rfl ?_
    refine g_si2 X hI hf dX0_trial_8 (fun h H locs hf hI => ?_)
    refine lv_goto (tgt := 15) hx hb dX0_trial_9 (by decide) ?_
    refine lv_iconst (v := (0 : Int32)) hx hb dX0_trial_15 (by decide) ?_
    cases gRet_e hf
    exact g_retI X hI rfl dX0_trial_16
  · intro ci9 x9 h H locs cells slots r9 ce9 hf hr9 hI hce hcv hcl
    by_cases k0 : ci9 = 17
    · subst k0
      cases hr9
      have hf := g_t rfl hf
      refine g_catch0 X hI (name := "java/lang/IllegalArgumentException") rfl (by rfl) (by decide) (by decide) q785 q922 hce hcv hcl ?_
      refine lv_astore_n (lv' := [(3, .ref x9), (0, .ref a0), (1, .int x1), (2, .ref a2)]) hx hb dX0_trial_12 rfl hl (by decide) rfl (fun ls hl => ?_)
      refine lv_iconst (v := (1 : Int32)) hx hb dX0_trial_13 (by decide) ?_
      cases gRet_e hf
      exact g_retI X hI rfl dX0_trial_14
    have hf := g_f k0 hf
    exact (gFail_f hf).elim
/-! X8_trial -/
abbrev w_X8_trial_21 (G : gG) (l : Launch) (p : Program) (e : Env) (s : State) (m : MethodId) (args : Array Value) (below : List Frame) (meth : Method) (c : Code) (h0 : g_H) (r : Int32) (h' : g_H) (k : Nat → Int32 → Nat → Int32 → gM Int32) : Prop := ∀ (a0 : Nat) (x1 : Int32) (b0 : Nat) (u1 : Int32) (h : g_H) (H : Heap) (locs : List Loc) (cells slots : Nat) (ls : Array Slot), (k a0 x1 b0 u1).1 h = some (r, h') → gI G h0 h H locs cells slots → lv_has ls 4 [(0, .ref a0), (1, .int x1)] → W p l e (g_rm 11 252 h0 h') s m args below meth c H locs cells slots (gQ G below args s h0 h' (.inl (g_wI r))) (F0 m 21 ls [.int u1, .ref b0])
def f_X8_trial_21 (a0 : Nat) (x1 : Int32) (b0 : Nat) (u1 : Int32) : gM Int32 :=
    gB (gCk b0 7) fun _ =>
    gB (f_X8_throwsIf b0 u1 (1 : Int32)) fun r101 =>
    gIf (r101 = 0)
    (gB (gFR a0 7 1) fun v102 =>
    gB (gAI v102 0 (8 : Int32)) fun v103 =>
    gB (gCk a0 7) fun _ =>
    gB (f_X8_screamsBy a0 x1) fun r104 =>
    gB (gFR a0 7 1) fun v105 =>
    gB (gSI v105 0 (8 : Int32) v103) fun _ =>
    (gRet r104))
    ((gRet (0 : Int32)))
set_option maxHeartbeats 4000000 in
set_option maxRecDepth 100000 in
theorem b_X8_trial_21 {G : gG} {l : Launch} {p : Program} {e : Env} {s : State} {m : MethodId} {args : Array Value} {below : List Frame} {meth : Method} {c : Code} {h0 : g_H} {r : Int32} {h' : g_H} (X : gX G l yX8_trial.cls cX8_trial 4 (some .int) [] yX8_trial.name p s m args meth c) : w_X8_trial_21 G l p e s m args below meth c h0 r h' (f_X8_trial_21) := by
  have hx := X.1
  have hb := X.2.1
  have hown := X.2.2.2.1
  have hts := X.2.2.2.2.1
  intro a0 x1 b0 u1 h H locs cells slots ls hf hI hl
  unfold f_X8_trial_21 at hf
  refine lv_iconst (v := (1 : Int32)) hx hb dX8_trial_21 (by decide) ?_
  obtain ⟨hs, hf⟩ := gCk_b hf
  refine g_cBI hI hf (fun v9 h9 e9 l9 l9' => g_rV X hI l9 l9' ⟨Nat.le_refl _, Nat.le_refl _⟩ (As := [.int u1, .int (1 : Int32)]) (m_X8_throwsIf X.2.2.2.2.2.2.2.2.2.2.1 e9) ydX8_throwsIf hs rfl rfl q1736 q1738 qs72 q131 q1739 rfl (Nat.le_of_ble_eq_true rfl) (Nat.le_of_ble_eq_true rfl) hl.1 rfl (Nat.le_of_ble_eq_true rfl) dX8_trial_22) (fun r101 h H locs cells slots hf hI => ?_)
  refine lv_if_eq (tgt := 30) hx hb dX8_trial_25 (by decide) (fun c25 => ?_) (fun c25 => ?_)
  · have hf := g_t c25 hf
    refine lv_aload_n hx hb dX8_trial_30 rfl (lv_at hl 0 rfl) ?_
    refine g_fr X hI hf fX8_1 q1445 rfl rfl dX8_trial_31 (fun v102 hf => ?_)
    refine lv_bipush (v := (8 : Int32)) hx hb dX8_trial_34 (by decide) ?_
    refine g_ai0 X hI hf dX8_trial_36 (fun v103 hf => ?_)
    refine lv_istore_n (lv' := [(2, .int v103), (0, .ref a0), (1, .int x1)]) hx hb dX8_trial_37 rfl hl (by decide) rfl (fun ls hl => ?_)
    refine lv_aload_n hx hb dX8_trial_38 rfl (lv_at hl 1 rfl) ?_
    refine lv_iload_n hx hb dX8_trial_39 rfl (lv_at hl 2 rfl) ?_
    obtain ⟨hs, hf⟩ := gCk_b hf
    refine g_cBI hI hf (fun v9 h9 e9 l9 l9' => g_rV X hI l9 l9' ⟨Nat.le_refl _, Nat.le_refl _⟩ (As := [.int x1]) (m_X8_screamsBy X.2.2.2.2.2.2.2.2.2.2.1 e9) ydX8_screamsBy hs rfl rfl q2065 q2067 qs116 q131 q2068 rfl (Nat.le_of_ble_eq_true rfl) (Nat.le_of_ble_eq_true rfl) hl.1 rfl (Nat.le_of_ble_eq_true rfl) dX8_trial_40) (fun r104 h H locs cells slots hf hI => ?_)
    refine lv_istore_n (lv' := [(3, .int r104), (2, .int v103), (0, .ref a0), (1, .int x1)]) hx hb dX8_trial_43 rfl hl (by decide) rfl (fun ls hl => ?_)
    refine lv_aload_n hx hb dX8_trial_44 rfl (lv_at hl 2 rfl) ?_
    refine g_fr X hI hf fX8_1 q1445 rfl rfl dX8_trial_45 (fun v105 hf => ?_)
    refine lv_bipush (v := (8 : Int32)) hx hb dX8_trial_48 (by decide) ?_
    refine lv_iload_n hx hb dX8_trial_50 rfl (lv_at hl 1 rfl) ?_
    refine g_si0 X hI hf dX8_trial_51 (fun h H locs hf hI => ?_)
    refine lv_iload_n hx hb dX8_trial_52 rfl (lv_at hl 0 rfl) ?_
    cases gRet_e hf
    exact g_retI X hI rfl dX8_trial_53
  · have hf := g_f c25 hf
    refine lv_iconst (v := (0 : Int32)) hx hb dX8_trial_28 (by decide) ?_
    cases gRet_e hf
    exact g_retI X hI rfl dX8_trial_29
def f_X8_trial (a0 : Nat) (x1 : Int32) : gM Int32 :=
    gB (gPI a0 7 0 (0 : Int32)) fun _ =>
    gB (f_X8_in x1 (0 : Int32) (20 : Int32)) fun r1 =>
    gIf (r1 = 0)
    (f_X8_trial_21 a0 x1 a0 (1 : Int32))
    (f_X8_trial_21 a0 x1 a0 (0 : Int32))
set_option maxHeartbeats 4000000 in
set_option maxRecDepth 100000 in
theorem m_X8_trial {G : gG} {l : Launch} (hfl : l.stackTraces = false) {a0 : Nat} {x1 : Int32} {h h' : g_H} {r : Int32} (hf : (f_X8_trial a0 x1).1 h = some (r, h')) : gMet G l yX8_trial (Cond.code yX8_trial cX8_trial 4 (some .int)) 11 252 [.ref a0, .int x1] h (.inl (g_wI r)) h' := by
  refine g_head hfl ((f_X8_trial a0 x1).2 h r h' hf) (plainFor_of_name (by decide)) (Nat.le_of_ble_eq_true rfl) (fun p e s m below meth c H locs cells slots ls X hI hl9 => ?_)
  have hl : lv_has ls 4 [(0, .ref a0), (1, .int x1)] := hl9
  have hx := X.1
  have hb := X.2.1
  have hown := X.2.2.2.1
  have hts := X.2.2.2.2.1
  unfold f_X8_trial at hf
  refine lv_aload_n hx hb dX8_trial_0 rfl (lv_at hl 0 rfl) ?_
  refine lv_iconst (v := (0 : Int32)) hx hb dX8_trial_1 (by decide) ?_
  refine g_pi X hI hf fX8_0 q1444 rfl dX8_trial_2 (fun h H locs hf hI => ?_)
  refine lv_aload_n hx hb dX8_trial_5 rfl (lv_at hl 0 rfl) ?_
  refine lv_iload_n hx hb dX8_trial_6 rfl (lv_at hl 1 rfl) ?_
  refine lv_iconst (v := (0 : Int32)) hx hb dX8_trial_7 (by decide) ?_
  refine lv_bipush (v := (20 : Int32)) hx hb dX8_trial_8 (by decide) ?_
  refine g_cBI hI hf (fun v9 h9 e9 l9 l9' => g_rS (b := 0) X hI l9 l9' ⟨Nat.le_refl _, Nat.le_refl _⟩ (As := [.int x1, .int (0 : Int32), .int (20 : Int32)]) (m_X8_in X.2.2.2.2.2.2.2.2.2.2.1 e9) ydX8_in q1634 q1635 q131 q1636 rfl (Nat.le_of_ble_eq_true rfl) (Nat.le_of_ble_eq_true rfl) hl.1 rfl (Nat.le_of_ble_eq_true rfl) dX8_trial_10) (fun r1 h H locs cells slots hf hI => ?_)
  refine lv_if_ne (tgt := 20) hx hb dX8_trial_13 (by decide) (fun c13 => ?_) (fun c13 => ?_)
  · have hf := g_f c13 hf
    refine lv_iconst (v := (0 : Int32)) hx hb dX8_trial_20 (by decide) ?_
    exact b_X8_trial_21 X _ _ _ _ _ _ _ _ _ _ hf hI (lv_sub hl [0, 1] rfl)
  · have hf := g_t c13 hf
    refine lv_iconst (v := (1 : Int32)) hx hb dX8_trial_16 (by decide) ?_
    refine lv_goto (tgt := 21) hx hb dX8_trial_17 (by decide) ?_
    exact b_X8_trial_21 X _ _ _ _ _ _ _ _ _ _ hf hI (lv_sub hl [0, 1] rfl)
/-! X3_nailed -/
abbrev w_X3_nailed_26 (G : gG) (l : Launch) (p : Program) (e : Env) (s : State) (m : MethodId) (args : Array Value) (below : List Frame) (meth : Method) (c : Code) (h0 : g_H) (r : Int32) (h' : g_H) (k : Nat → Int32 → Int32 → Int32 → gM Int32) : Prop := ∀ (a0 : Nat) (x2 : Int32) (u0 : Int32) (u1 : Int32) (h : g_H) (H : Heap) (locs : List Loc) (cells slots : Nat) (ls : Array Slot), (k a0 x2 u0 u1).1 h = some (r, h') → gI G h0 h H locs cells slots → lv_has ls 3 [(0, .ref a0), (2, .int x2)] → W p l e (g_rm 1 20 h0 h') s m args below meth c H locs cells slots (gQ G below args s h0 h' (.inl (g_wI r))) (F0 m 26 ls [.int u1, .int u0])
abbrev w_X3_nailed_34 (G : gG) (l : Launch) (p : Program) (e : Env) (s : State) (m : MethodId) (args : Array Value) (below : List Frame) (meth : Method) (c : Code) (h0 : g_H) (r : Int32) (h' : g_H) (k : Int32 → gM Int32) : Prop := ∀ (x1 : Int32) (h : g_H) (H : Heap) (locs : List Loc) (cells slots : Nat) (ls : Array Slot), (k x1).1 h = some (r, h') → gI G h0 h H locs cells slots → lv_has ls 3 [(1, .int x1)] → W p l e (g_rm 1 20 h0 h') s m args below meth c H locs cells slots (gQ G below args s h0 h' (.inl (g_wI r))) (F0 m 34 ls [])
abbrev w_X3_nailed_4 (G : gG) (l : Launch) (p : Program) (e : Env) (s : State) (m : MethodId) (args : Array Value) (below : List Frame) (meth : Method) (c : Code) (h0 : g_H) (r : Int32) (h' : g_H) (k : Nat → Int32 → Int32 → gM Int32) : Prop := ∀ (a0 : Nat) (x1 : Int32) (x2 : Int32) (h : g_H) (H : Heap) (locs : List Loc) (cells slots : Nat) (ls : Array Slot), (k a0 x1 x2).1 h = some (r, h') → gI G h0 h H locs cells slots → lv_has ls 3 [(0, .ref a0), (1, .int x1), (2, .int x2)] → W p l e (g_rm 1 20 h0 h') s m args below meth c H locs cells slots (gQ G below args s h0 h' (.inl (g_wI r))) (F0 m 4 ls [])
def f_X3_nailed_26 (k4 : Nat → Int32 → Int32 → gM Int32) (a0 : Nat) (x2 : Int32) (u0 : Int32) (u1 : Int32) : gM Int32 :=
    k4 a0 (u0 + u1) (x2 + (1 : Int32))
set_option maxHeartbeats 4000000 in
set_option maxRecDepth 100000 in
theorem b_X3_nailed_26 {G : gG} {l : Launch} {p : Program} {e : Env} {s : State} {m : MethodId} {args : Array Value} {below : List Frame} {meth : Method} {c : Code} {h0 : g_H} {r : Int32} {h' : g_H} (X : gX G l yX3_nailed.cls cX3_nailed 3 (some .int) [] yX3_nailed.name p s m args meth c) {k4 : Nat → Int32 → Int32 → gM Int32} (K4 : w_X3_nailed_4 G l p e s m args below meth c h0 r h' k4) : w_X3_nailed_26 G l p e s m args below meth c h0 r h' (f_X3_nailed_26 k4) := by
  have hx := X.1
  have hb := X.2.1
  have hown := X.2.2.2.1
  have hts := X.2.2.2.2.1
  intro a0 x2 u0 u1 h H locs cells slots ls hf hI hl
  unfold f_X3_nailed_26 at hf
  refine lv_iadd hx hb dX3_nailed_26 ?_
  refine lv_istore_n (lv' := [(1, .int (u0 + u1)), (0, .ref a0), (2, .int x2)]) hx hb dX3_nailed_27 rfl hl (by decide) rfl (fun ls hl => ?_)
  refine lv_iinc (v := (x2 + (1 : Int32))) (lv' := [(2, .int (x2 + (1 : Int32))), (1, .int (u0 + u1)), (0, .ref a0)]) hx hb dX3_nailed_28 hl (k := 2) rfl rfl (by decide) rfl (fun ls hl => ?_)
  refine lv_goto (tgt := 4) hx hb dX3_nailed_31 (by decide) ?_
  exact K4 _ _ _ _ _ _ _ _ _ hf hI (lv_sub hl [2, 1, 0] rfl)
def f_X3_nailed_34 (x1 : Int32) : gM Int32 :=
    (gRet x1)
set_option maxHeartbeats 4000000 in
set_option maxRecDepth 100000 in
theorem b_X3_nailed_34 {G : gG} {l : Launch} {p : Program} {e : Env} {s : State} {m : MethodId} {args : Array Value} {below : List Frame} {meth : Method} {c : Code} {h0 : g_H} {r : Int32} {h' : g_H} (X : gX G l yX3_nailed.cls cX3_nailed 3 (some .int) [] yX3_nailed.name p s m args meth c) : w_X3_nailed_34 G l p e s m args below meth c h0 r h' (f_X3_nailed_34) := by
  have hx := X.1
  have hb := X.2.1
  have hown := X.2.2.2.1
  have hts := X.2.2.2.2.1
  intro x1 h H locs cells slots ls hf hI hl
  unfold f_X3_nailed_34 at hf
  refine lv_iload_n hx hb dX3_nailed_34 rfl (lv_at hl 0 rfl) ?_
  cases gRet_e hf
  exact g_retI X hI rfl dX3_nailed_35
def f_X3_nailed_4 : Nat → Nat → Int32 → Int32 → gM Int32
  | 0, _, _, _ => gFail
  | n + 1, a0, x1, x2 =>
    gIf ((10 : Int32) ≤ x2)
    (f_X3_nailed_34 x1)
    (gB (gFR a0 2 3) fun v101 =>
    gB (gAI v101 0 x2) fun v102 =>
    gIf (v102 = (-1 : Int32))
    (f_X3_nailed_26 (f_X3_nailed_4 n) a0 x2 x1 (0 : Int32))
    (f_X3_nailed_26 (f_X3_nailed_4 n) a0 x2 x1 (1 : Int32)))
set_option maxHeartbeats 4000000 in
set_option maxRecDepth 100000 in
theorem b_X3_nailed_4 {G : gG} {l : Launch} {p : Program} {e : Env} {s : State} {m : MethodId} {args : Array Value} {below : List Frame} {meth : Method} {c : Code} {h0 : g_H} {r : Int32} {h' : g_H} (X : gX G l yX3_nailed.cls cX3_nailed 3 (some .int) [] yX3_nailed.name p s m args meth c) : ∀ n : Nat, w_X3_nailed_4 G l p e s m args below meth c h0 r h' (f_X3_nailed_4 n) := by
  have hx := X.1
  have hb := X.2.1
  have hown := X.2.2.2.1
  have hts := X.2.2.2.2.1
  intro n
  induction n with
  | zero =>
    intro a0 x1 x2 h H locs cells slots ls hf hI hl
    exact (gFail_f hf).elim
  | succ n ih =>
    intro a0 x1 x2 h H locs cells slots ls hf hI hl
    rw [f_X3_nailed_4] at hf
    refine lv_iload_n hx hb dX3_nailed_4 rfl (lv_at hl 2 rfl) ?_
    refine lv_bipush (v := (10 : Int32)) hx hb dX3_nailed_5 (by decide) ?_
    refine lv_icmp_ge (tgt := 34) hx hb dX3_nailed_7 (by decide) (fun c7 => ?_) (fun c7 => ?_)
    · have hf := g_t c7 hf
      exact b_X3_nailed_34 X _ _ _ _ _ _ _ hf hI (lv_sub hl [1] rfl)
    · have hf := g_f c7 hf
      refine lv_iload_n hx hb dX3_nailed_10 rfl (lv_at hl 1 rfl) ?_
      refine lv_aload_n hx hb dX3_nailed_11 rfl (lv_at hl 0 rfl) ?_
      refine g_fr X hI hf fX3_3 q261 rfl rfl dX3_nailed_12 (fun v101 hf => ?_)
      refine lv_iload_n hx hb dX3_nailed_15 rfl (lv_at hl 2 rfl) ?_
      refine g_ai0 X hI hf dX3_nailed_16 (fun v102 hf => ?_)
      refine lv_iconst (v := (-1 : Int32)) hx hb dX3_nailed_17 (by decide) ?_
      refine lv_icmp_eq (tgt := 25) hx hb dX3_nailed_18 (by decide) (fun c18 => ?_) (fun c18 => ?_)
      · have hf := g_t c18 hf
        refine lv_iconst (v := (0 : Int32)) hx hb dX3_nailed_25 (by decide) ?_
        exact b_X3_nailed_26 X ih _ _ _ _ _ _ _ _ _ _ hf hI (lv_sub hl [0, 2] rfl)
      · have hf := g_f c18 hf
        refine lv_iconst (v := (1 : Int32)) hx hb dX3_nailed_21 (by decide) ?_
        refine lv_goto (tgt := 26) hx hb dX3_nailed_22 (by decide) ?_
        exact b_X3_nailed_26 X ih _ _ _ _ _ _ _ _ _ _ hf hI (lv_sub hl [0, 2] rfl)
def f_X3_nailed (a0 : Nat) : gM Int32 :=
    f_X3_nailed_4 gN a0 (0 : Int32) (0 : Int32)
set_option maxHeartbeats 4000000 in
set_option maxRecDepth 100000 in
theorem m_X3_nailed {G : gG} {l : Launch} (hfl : l.stackTraces = false) {a0 : Nat} {h h' : g_H} {r : Int32} (hf : (f_X3_nailed a0).1 h = some (r, h')) : gMet G l yX3_nailed (Cond.code yX3_nailed cX3_nailed 3 (some .int)) 1 20 [.ref a0] h (.inl (g_wI r)) h' := by
  refine g_head hfl ((f_X3_nailed a0).2 h r h' hf) (plainFor_of_name (by decide)) (Nat.le_of_ble_eq_true rfl) (fun p e s m below meth c H locs cells slots ls X hI hl9 => ?_)
  have hl : lv_has ls 3 [(0, .ref a0)] := hl9
  have hx := X.1
  have hb := X.2.1
  have hown := X.2.2.2.1
  have hts := X.2.2.2.2.1
  unfold f_X3_nailed at hf
  refine lv_iconst (v := (0 : Int32)) hx hb dX3_nailed_0 (by decide) ?_
  refine lv_istore_n (lv' := [(1, .int (0 : Int32)), (0, .ref a0)]) hx hb dX3_nailed_1 rfl hl (by decide) rfl (fun ls hl => ?_)
  refine lv_iconst (v := (0 : Int32)) hx hb dX3_nailed_2 (by decide) ?_
  refine lv_istore_n (lv' := [(2, .int (0 : Int32)), (1, .int (0 : Int32)), (0, .ref a0)]) hx hb dX3_nailed_3 rfl hl (by decide) rfl (fun ls hl => ?_)
  exact b_X3_nailed_4 X gN _ _ _ _ _ _ _ _ _ hf hI (lv_sub hl [2, 1, 0] rfl)
/-! X7_goes -/
abbrev w_X7_goes_78 (G : gG) (l : Launch) (p : Program) (e : Env) (s : State) (m : MethodId) (args : Array Value) (below : List Frame) (meth : Method) (c : Code) (h0 : g_H) (r : Unit) (h' : g_H) (k : Nat → Nat → Int32 → Int32 → Int32 → Int32 → Int32 → Int32 → gM Unit) : Prop := ∀ (a0 : Nat) (a1 : Nat) (x2 : Int32) (x3 : Int32) (x4 : Int32) (x5 : Int32) (x6 : Int32) (x7 : Int32) (h : g_H) (H : Heap) (locs : List Loc) (cells slots : Nat) (ls : Array Slot), (k a0 a1 x2 x3 x4 x5 x6 x7).1 h = some (r, h') → gI G h0 h H locs cells slots → lv_has ls 8 [(0, .ref a0), (1, .ref a1), (2, .int x2), (3, .int x3), (4, .int x4), (5, .int x5), (6, .int x6), (7, .int x7)] → W p l e (g_rm 101 1866 h0 h') s m args below meth c H locs cells slots (gQ G below args s h0 h' (.inl (g_wU r))) (F0 m 78 ls [])
abbrev w_X7_goes_19 (G : gG) (l : Launch) (p : Program) (e : Env) (s : State) (m : MethodId) (args : Array Value) (below : List Frame) (meth : Method) (c : Code) (h0 : g_H) (r : Unit) (h' : g_H) (k : Nat → Nat → Int32 → Int32 → Int32 → Int32 → Int32 → Int32 → gM Unit) : Prop := ∀ (a0 : Nat) (a1 : Nat) (x2 : Int32) (x3 : Int32) (x4 : Int32) (x5 : Int32) (x6 : Int32) (x7 : Int32) (h : g_H) (H : Heap) (locs : List Loc) (cells slots : Nat) (ls : Array Slot), (k a0 a1 x2 x3 x4 x5 x6 x7).1 h = some (r, h') → gI G h0 h H locs cells slots → lv_has ls 8 [(0, .ref a0), (1, .ref a1), (2, .int x2), (3, .int x3), (4, .int x4), (5, .int x5), (6, .int x6), (7, .int x7)] → W p l e (g_rm 101 1866 h0 h') s m args below meth c H locs cells slots (gQ G below args s h0 h' (.inl (g_wU r))) (F0 m 19 ls [])
def f_X7_goes_78 (k19 : Nat → Nat → Int32 → Int32 → Int32 → Int32 → Int32 → Int32 → gM Unit) (a0 : Nat) (a1 : Nat) (x2 : Int32) (x3 : Int32) (x4 : Int32) (x5 : Int32) (x6 : Int32) (x7 : Int32) : gM Unit :=
    k19 a0 a1 x2 x3 x4 x5 x6 (x7 + (1 : Int32))
set_option maxHeartbeats 4000000 in
set_option maxRecDepth 100000 in
theorem b_X7_goes_78 {G : gG} {l : Launch} {p : Program} {e : Env} {s : State} {m : MethodId} {args : Array Value} {below : List Frame} {meth : Method} {c : Code} {h0 : g_H} {r : Unit} {h' : g_H} (X : gX G l yX7_goes.cls cX7_goes 8 none [] yX7_goes.name p s m args meth c) {k19 : Nat → Nat → Int32 → Int32 → Int32 → Int32 → Int32 → Int32 → gM Unit} (K19 : w_X7_goes_19 G l p e s m args below meth c h0 r h' k19) : w_X7_goes_78 G l p e s m args below meth c h0 r h' (f_X7_goes_78 k19) := by
  have hx := X.1
  have hb := X.2.1
  have hown := X.2.2.2.1
  have hts := X.2.2.2.2.1
  intro a0 a1 x2 x3 x4 x5 x6 x7 h H locs cells slots ls hf hI hl
  unfold f_X7_goes_78 at hf
  refine lv_iinc (v := (x7 + (1 : Int32))) (lv' := [(7, .int (x7 + (1 : Int32))), (0, .ref a0), (1, .ref a1), (2, .int x2), (3, .int x3), (4, .int x4), (5, .int x5), (6, .int x6)]) hx hb dX7_goes_78 hl (k := 7) rfl rfl (by decide) rfl (fun ls hl => ?_)
  refine lv_goto (tgt := 19) hx hb dX7_goes_81 (by decide) ?_
  exact K19 _ _ _ _ _ _ _ _ _ _ _ _ _ _ hf hI (lv_sub hl [1, 2, 3, 4, 5, 6, 7, 0] rfl)
def f_X7_goes_19 : Nat → Nat → Nat → Int32 → Int32 → Int32 → Int32 → Int32 → Int32 → gM Unit
  | 0, _, _, _, _, _, _, _, _ => gFail
  | n + 1, a0, a1, x2, x3, x4, x5, x6, x7 =>
    gIf (x4 ≤ x7)
    (gRet ())
    (gB (gFI a1 4 1) fun v101 =>
    gIf ((x6 + x7) ≤ v101)
    (gB (gFR a0 6 1) fun v102 =>
    gB (gAI v102 0 (x6 + x7)) fun v103 =>
    gB (gFR a0 6 0) fun v104 =>
    gB (gAI v104 0 x3) fun v105 =>
    gB (gSI v102 0 (x6 + x7) (v103 + v105)) fun _ =>
    f_X7_goes_78 (f_X7_goes_19 n) a0 a1 x2 x3 x4 x5 x6 x7)
    (gB (gFR a0 6 2) fun v106 =>
    gB (gAI v106 0 x2) fun v107 =>
    gB (gFR a0 6 0) fun v108 =>
    gB (gAI v108 0 x3) fun v109 =>
    gB (gSI v106 0 x2 (v107 + (v109 * x5))) fun _ =>
    f_X7_goes_78 (f_X7_goes_19 n) a0 a1 x2 x3 x4 x5 x6 x7))
set_option maxHeartbeats 4000000 in
set_option maxRecDepth 100000 in
theorem b_X7_goes_19 {G : gG} {l : Launch} {p : Program} {e : Env} {s : State} {m : MethodId} {args : Array Value} {below : List Frame} {meth : Method} {c : Code} {h0 : g_H} {r : Unit} {h' : g_H} (X : gX G l yX7_goes.cls cX7_goes 8 none [] yX7_goes.name p s m args meth c) : ∀ n : Nat, w_X7_goes_19 G l p e s m args below meth c h0 r h' (f_X7_goes_19 n) := by
  have hx := X.1
  have hb := X.2.1
  have hown := X.2.2.2.1
  have hts := X.2.2.2.2.1
  intro n
  induction n with
  | zero =>
    intro a0 a1 x2 x3 x4 x5 x6 x7 h H locs cells slots ls hf hI hl
    exact (gFail_f hf).elim
  | succ n ih =>
    intro a0 a1 x2 x3 x4 x5 x6 x7 h H locs cells slots ls hf hI hl
    rw [f_X7_goes_19] at hf
    refine lv_iload hx hb dX7_goes_19 (lv_at hl 7 rfl) ?_
    refine lv_iload hx hb dX7_goes_21 (lv_at hl 4 rfl) ?_
    refine lv_icmp_ge (tgt := 84) hx hb dX7_goes_23 (by decide) (fun c23 => ?_) (fun c23 => ?_)
    · have hf := g_t c23 hf
      cases gRet_e hf
      exact g_retU X hI rfl dX7_goes_84
    · have hf := g_f c23 hf
      refine lv_iload hx hb dX7_goes_26 (lv_at hl 6 rfl) ?_
      refine lv_iload hx hb dX7_goes_28 (lv_at hl 7 rfl) ?_
      refine lv_iadd hx hb dX7_goes_30 ?_
      refine lv_aload_n hx hb dX7_goes_31 rfl (lv_at hl 1 rfl) ?_
      refine g_fiN X hI hf fX5_1 q232 rfl rfl dX7_goes_32 (fun v101 hf => ?_)
      refine lv_icmp_le (tgt := 59) hx hb dX7_goes_35 (by decide) (fun c35 => ?_) (fun c35 => ?_)
      · have hf := g_t c35 hf
        refine lv_aload_n hx hb dX7_goes_59 rfl (lv_at hl 0 rfl) ?_
        refine g_fr X hI hf fX7_1 q438 rfl rfl dX7_goes_60 (fun v102 hf => ?_)
        refine lv_iload hx hb dX7_goes_63 (lv_at hl 6 rfl) ?_
        refine lv_iload hx hb dX7_goes_65 (lv_at hl 7 rfl) ?_
        refine lv_iadd hx hb dX7_goes_67 ?_
        refine lv_dup2_11 hx hb dX7_goes_68 rfl rfl ?_
        refine g_ai0 X hI hf dX7_goes_69 (fun v103 hf => ?_)
        refine lv_aload_n hx hb dX7_goes_70 rfl (lv_at hl 0 rfl) ?_
        refine g_fr X hI hf fX7_0 q437 rfl rfl dX7_goes_71 (fun v104 hf => ?_)
        refine lv_iload_n hx hb dX7_goes_74 rfl (lv_at hl 3 rfl) ?_
        refine g_ai0 X hI hf dX7_goes_75 (fun v105 hf => ?_)
        refine lv_iadd hx hb dX7_goes_76 ?_
        refine g_si0 X hI hf dX7_goes_77 (fun h H locs hf hI => ?_)
        exact b_X7_goes_78 X ih _ _ _ _ _ _ _ _ _ _ _ _ _ _ hf hI (lv_sub hl [0, 1, 2, 3, 4, 5, 6, 7] rfl)
      · have hf := g_f c35 hf
        refine lv_aload_n hx hb dX7_goes_38 rfl (lv_at hl 0 rfl) ?_
        refine g_fr X hI hf fX7_2 q439 rfl rfl dX7_goes_39 (fun v106 hf => ?_)
        refine lv_iload_n hx hb dX7_goes_42 rfl (lv_at hl 2 rfl) ?_
        refine lv_dup2_11 hx hb dX7_goes_43 rfl rfl ?_
        refine g_ai0 X hI hf dX7_goes_44 (fun v107 hf => ?_)
        refine lv_aload_n hx hb dX7_goes_45 rfl (lv_at hl 0 rfl) ?_
        refine g_fr X hI hf fX7_0 q437 rfl rfl dX7_goes_46 (fun v108 hf => ?_)
        refine lv_iload_n hx hb dX7_goes_49 rfl (lv_at hl 3 rfl) ?_
        refine g_ai0 X hI hf dX7_goes_50 (fun v109 hf => ?_)
        refine lv_iload hx hb dX7_goes_51 (lv_at hl 5 rfl) ?_
        refine lv_imul hx hb dX7_goes_53 ?_
        refine lv_iadd hx hb dX7_goes_54 ?_
        refine g_si0 X hI hf dX7_goes_55 (fun h H locs hf hI => ?_)
        refine lv_goto (tgt := 78) hx hb dX7_goes_56 (by decide) ?_
        exact b_X7_goes_78 X ih _ _ _ _ _ _ _ _ _ _ _ _ _ _ hf hI (lv_sub hl [0, 1, 2, 3, 4, 5, 6, 7] rfl)
def f_X7_goes (a0 : Nat) (a1 : Nat) (x2 : Int32) (x3 : Int32) (x4 : Int32) (x5 : Int32) : gM Unit :=
    gB (gFR a0 6 5) fun v1 =>
    gB (gFR v1 0 1) fun v2 =>
    gB (gCk v2 2) fun _ =>
    gB (f_X3_behind v2 a1 x2 x3 (0 : Int32)) fun r3 =>
    f_X7_goes_19 gN a0 a1 x2 x3 x4 x5 r3 (0 : Int32)
set_option maxHeartbeats 4000000 in
set_option maxRecDepth 100000 in
theorem m_X7_goes {G : gG} {l : Launch} (hfl : l.stackTraces = false) {a0 : Nat} {a1 : Nat} {x2 : Int32} {x3 : Int32} {x4 : Int32} {x5 : Int32} {h h' : g_H} {r : Unit} (hf : (f_X7_goes a0 a1 x2 x3 x4 x5).1 h = some (r, h')) : gMet G l yX7_goes (Cond.code yX7_goes cX7_goes 8 none) 101 1866 [.ref a0, .ref a1, .int x2, .int x3, .int x4, .int x5] h (.inl (g_wU r)) h' := by
  refine g_head hfl ((f_X7_goes a0 a1 x2 x3 x4 x5).2 h r h' hf) (plainFor_of_name (by decide)) (Nat.le_of_ble_eq_true rfl) (fun p e s m below meth c H locs cells slots ls X hI hl9 => ?_)
  have hl : lv_has ls 8 [(0, .ref a0), (1, .ref a1), (2, .int x2), (3, .int x3), (4, .int x4), (5, .int x5)] := hl9
  have hx := X.1
  have hb := X.2.1
  have hown := X.2.2.2.1
  have hts := X.2.2.2.2.1
  unfold f_X7_goes at hf
  refine lv_aload_n hx hb dX7_goes_0 rfl (lv_at hl 0 rfl) ?_
  refine g_fr X hI hf fX7_5 q444 rfl rfl dX7_goes_1 (fun v1 hf => ?_)
  refine g_frN X hI hf fX1_1 q462 rfl rfl dX7_goes_4 (fun v2 hf => ?_)
  refine lv_aload_n hx hb dX7_goes_7 rfl (lv_at hl 1 rfl) ?_
  refine lv_iload_n hx hb dX7_goes_8 rfl (lv_at hl 2 rfl) ?_
  refine lv_iload_n hx hb dX7_goes_9 rfl (lv_at hl 3 rfl) ?_
  refine lv_iconst (v := (0 : Int32)) hx hb dX7_goes_10 (by decide) ?_
  obtain ⟨hs, hf⟩ := gCk_b hf
  refine g_cBI hI hf (fun v9 h9 e9 l9 l9' => g_rV X hI l9 l9' ⟨Nat.le_refl _, Nat.le_refl _⟩ (As := [.ref a1, .int x2, .int x3, .int (0 : Int32)]) (m_X3_behind X.2.2.2.2.2.2.2.2.2.2.1 e9) ydX3_behind hs rfl rfl q559 q560 q561 q123 q562 rfl (Nat.le_of_ble_eq_true rfl) (Nat.le_of_ble_eq_true rfl) hl.1 rfl (Nat.le_of_ble_eq_true rfl) dX7_goes_11) (fun r3 h H locs cells slots hf hI => ?_)
  refine lv_istore (lv' := [(6, .int r3), (0, .ref a0), (1, .ref a1), (2, .int x2), (3, .int x3), (4, .int x4), (5, .int x5)]) hx hb dX7_goes_14 hl (by decide) rfl (fun ls hl => ?_)
  refine lv_iconst (v := (0 : Int32)) hx hb dX7_goes_16 (by decide) ?_
  refine lv_istore (lv' := [(7, .int (0 : Int32)), (6, .int r3), (0, .ref a0), (1, .ref a1), (2, .int x2), (3, .int x3), (4, .int x4), (5, .int x5)]) hx hb dX7_goes_17 hl (by decide) rfl (fun ls hl => ?_)
  exact b_X7_goes_19 X gN _ _ _ _ _ _ _ _ _ _ _ _ _ _ hf hI (lv_sub hl [2, 3, 4, 5, 6, 7, 1, 0] rfl)
/-! X7_counts -/
abbrev w_X7_counts_190 (G : gG) (l : Launch) (p : Program) (e : Env) (s : State) (m : MethodId) (args : Array Value) (below : List Frame) (meth : Method) (c : Code) (h0 : g_H) (r : Unit) (h' : g_H) (k : Nat → Nat → Int32 → Int32 → Int32 → Int32 → gM Unit) : Prop := ∀ (a0 : Nat) (a1 : Nat) (x2 : Int32) (x3 : Int32) (x4 : Int32) (x5 : Int32) (h : g_H) (H : Heap) (locs : List Loc) (cells slots : Nat) (ls : Array Slot), (k a0 a1 x2 x3 x4 x5).1 h = some (r, h') → gI G h0 h H locs cells slots → lv_has ls 6 [(0, .ref a0), (1, .ref a1), (2, .int x2), (3, .int x3), (4, .int x4), (5, .int x5)] → W p l e (g_rm 102 1893 h0 h') s m args below meth c H locs cells slots (gQ G below args s h0 h' (.inl (g_wU r))) (F0 m 190 ls [])
abbrev w_X7_counts_186 (G : gG) (l : Launch) (p : Program) (e : Env) (s : State) (m : MethodId) (args : Array Value) (below : List Frame) (meth : Method) (c : Code) (h0 : g_H) (r : Unit) (h' : g_H) (k : Nat → Nat → Int32 → Int32 → Int32 → Int32 → Nat → Nat → Int32 → Int32 → Int32 → gM Unit) : Prop := ∀ (a0 : Nat) (a1 : Nat) (x2 : Int32) (x3 : Int32) (x4 : Int32) (x5 : Int32) (b0 : Nat) (b1 : Nat) (u2 : Int32) (u3 : Int32) (u4 : Int32) (h : g_H) (H : Heap) (locs : List Loc) (cells slots : Nat) (ls : Array Slot), (k a0 a1 x2 x3 x4 x5 b0 b1 u2 u3 u4).1 h = some (r, h') → gI G h0 h H locs cells slots → lv_has ls 6 [(0, .ref a0), (1, .ref a1), (2, .int x2), (3, .int x3), (4, .int x4), (5, .int x5)] → W p l e (g_rm 102 1893 h0 h') s m args below meth c H locs cells slots (gQ G below args s h0 h' (.inl (g_wU r))) (F0 m 186 ls [.int u4, .int u3, .int u2, .ref b1, .ref b0])
abbrev w_X7_counts_196 (G : gG) (l : Launch) (p : Program) (e : Env) (s : State) (m : MethodId) (args : Array Value) (below : List Frame) (meth : Method) (c : Code) (h0 : g_H) (r : Unit) (h' : g_H) (k : Nat → Nat → Int32 → Int32 → gM Unit) : Prop := ∀ (a0 : Nat) (a1 : Nat) (x2 : Int32) (x3 : Int32) (h : g_H) (H : Heap) (locs : List Loc) (cells slots : Nat) (ls : Array Slot), (k a0 a1 x2 x3).1 h = some (r, h') → gI G h0 h H locs cells slots → lv_has ls 6 [(0, .ref a0), (1, .ref a1), (2, .int x2), (3, .int x3)] → W p l e (g_rm 102 1893 h0 h') s m args below meth c H locs cells slots (gQ G below args s h0 h' (.inl (g_wU r))) (F0 m 196 ls [])
abbrev w_X7_counts_152 (G : gG) (l : Launch) (p : Program) (e : Env) (s : State) (m : MethodId) (args : Array Value) (below : List Frame) (meth : Method) (c : Code) (h0 : g_H) (r : Unit) (h' : g_H) (k : Nat → Nat → Int32 → Int32 → Int32 → Int32 → gM Unit) : Prop := ∀ (a0 : Nat) (a1 : Nat) (x2 : Int32) (x3 : Int32) (x4 : Int32) (x5 : Int32) (h : g_H) (H : Heap) (locs : List Loc) (cells slots : Nat) (ls : Array Slot), (k a0 a1 x2 x3 x4 x5).1 h = some (r, h') → gI G h0 h H locs cells slots → lv_has ls 6 [(0, .ref a0), (1, .ref a1), (2, .int x2), (3, .int x3), (4, .int x4), (5, .int x5)] → W p l e (g_rm 102 1893 h0 h') s m args below meth c H locs cells slots (gQ G below args s h0 h' (.inl (g_wU r))) (F0 m 152 ls [])
abbrev w_X7_counts_149 (G : gG) (l : Launch) (p : Program) (e : Env) (s : State) (m : MethodId) (args : Array Value) (below : List Frame) (meth : Method) (c : Code) (h0 : g_H) (r : Unit) (h' : g_H) (k : Nat → Nat → Int32 → Int32 → Int32 → gM Unit) : Prop := ∀ (a0 : Nat) (a1 : Nat) (x2 : Int32) (x3 : Int32) (x4 : Int32) (h : g_H) (H : Heap) (locs : List Loc) (cells slots : Nat) (ls : Array Slot), (k a0 a1 x2 x3 x4).1 h = some (r, h') → gI G h0 h H locs cells slots → lv_has ls 6 [(0, .ref a0), (1, .ref a1), (2, .int x2), (3, .int x3), (4, .int x4)] → W p l e (g_rm 102 1893 h0 h') s m args below meth c H locs cells slots (gQ G below args s h0 h' (.inl (g_wU r))) (F0 m 149 ls [])
abbrev w_X7_counts_128 (G : gG) (l : Launch) (p : Program) (e : Env) (s : State) (m : MethodId) (args : Array Value) (below : List Frame) (meth : Method) (c : Code) (h0 : g_H) (r : Unit) (h' : g_H) (k : Nat → Nat → Int32 → Int32 → Int32 → Int32 → gM Unit) : Prop := ∀ (a0 : Nat) (a1 : Nat) (x2 : Int32) (x3 : Int32) (x4 : Int32) (x5 : Int32) (h : g_H) (H : Heap) (locs : List Loc) (cells slots : Nat) (ls : Array Slot), (k a0 a1 x2 x3 x4 x5).1 h = some (r, h') → gI G h0 h H locs cells slots → lv_has ls 6 [(0, .ref a0), (1, .ref a1), (2, .int x2), (3, .int x3), (4, .int x4), (5, .int x5)] → W p l e (g_rm 102 1893 h0 h') s m args below meth c H locs cells slots (gQ G below args s h0 h' (.inl (g_wU r))) (F0 m 128 ls [])
abbrev w_X7_counts_116 (G : gG) (l : Launch) (p : Program) (e : Env) (s : State) (m : MethodId) (args : Array Value) (below : List Frame) (meth : Method) (c : Code) (h0 : g_H) (r : Unit) (h' : g_H) (k : Nat → Nat → Int32 → Int32 → Int32 → Int32 → gM Unit) : Prop := ∀ (a0 : Nat) (a1 : Nat) (x3 : Int32) (x4 : Int32) (u0 : Int32) (u1 : Int32) (h : g_H) (H : Heap) (locs : List Loc) (cells slots : Nat) (ls : Array Slot), (k a0 a1 x3 x4 u0 u1).1 h = some (r, h') → gI G h0 h H locs cells slots → lv_has ls 6 [(0, .ref a0), (1, .ref a1), (3, .int x3), (4, .int x4)] → W p l e (g_rm 102 1893 h0 h') s m args below meth c H locs cells slots (gQ G below args s h0 h' (.inl (g_wU r))) (F0 m 116 ls [.int u1, .int u0])
abbrev w_X7_counts_103 (G : gG) (l : Launch) (p : Program) (e : Env) (s : State) (m : MethodId) (args : Array Value) (below : List Frame) (meth : Method) (c : Code) (h0 : g_H) (r : Unit) (h' : g_H) (k : Nat → Nat → Int32 → Int32 → Int32 → gM Unit) : Prop := ∀ (a0 : Nat) (a1 : Nat) (x2 : Int32) (x3 : Int32) (u0 : Int32) (h : g_H) (H : Heap) (locs : List Loc) (cells slots : Nat) (ls : Array Slot), (k a0 a1 x2 x3 u0).1 h = some (r, h') → gI G h0 h H locs cells slots → lv_has ls 6 [(0, .ref a0), (1, .ref a1), (2, .int x2), (3, .int x3)] → W p l e (g_rm 102 1893 h0 h') s m args below meth c H locs cells slots (gQ G below args s h0 h' (.inl (g_wU r))) (F0 m 103 ls [.int u0])
abbrev w_X7_counts_76 (G : gG) (l : Launch) (p : Program) (e : Env) (s : State) (m : MethodId) (args : Array Value) (below : List Frame) (meth : Method) (c : Code) (h0 : g_H) (r : Unit) (h' : g_H) (k : Nat → Nat → Int32 → Int32 → gM Unit) : Prop := ∀ (a0 : Nat) (a1 : Nat) (x2 : Int32) (x3 : Int32) (h : g_H) (H : Heap) (locs : List Loc) (cells slots : Nat) (ls : Array Slot), (k a0 a1 x2 x3).1 h = some (r, h') → gI G h0 h H locs cells slots → lv_has ls 6 [(0, .ref a0), (1, .ref a1), (2, .int x2), (3, .int x3)] → W p l e (g_rm 102 1893 h0 h') s m args below meth c H locs cells slots (gQ G below args s h0 h' (.inl (g_wU r))) (F0 m 76 ls [])
abbrev w_X7_counts_69 (G : gG) (l : Launch) (p : Program) (e : Env) (s : State) (m : MethodId) (args : Array Value) (below : List Frame) (meth : Method) (c : Code) (h0 : g_H) (r : Unit) (h' : g_H) (k : Nat → Nat → gM Unit) : Prop := ∀ (a0 : Nat) (a1 : Nat) (h : g_H) (H : Heap) (locs : List Loc) (cells slots : Nat) (ls : Array Slot), (k a0 a1).1 h = some (r, h') → gI G h0 h H locs cells slots → lv_has ls 6 [(0, .ref a0), (1, .ref a1)] → W p l e (g_rm 102 1893 h0 h') s m args below meth c H locs cells slots (gQ G below args s h0 h' (.inl (g_wU r))) (F0 m 69 ls [])
abbrev w_X7_counts_49 (G : gG) (l : Launch) (p : Program) (e : Env) (s : State) (m : MethodId) (args : Array Value) (below : List Frame) (meth : Method) (c : Code) (h0 : g_H) (r : Unit) (h' : g_H) (k : Nat → Nat → Int32 → gM Unit) : Prop := ∀ (a0 : Nat) (a1 : Nat) (x2 : Int32) (h : g_H) (H : Heap) (locs : List Loc) (cells slots : Nat) (ls : Array Slot), (k a0 a1 x2).1 h = some (r, h') → gI G h0 h H locs cells slots → lv_has ls 6 [(0, .ref a0), (1, .ref a1), (2, .int x2)] → W p l e (g_rm 102 1893 h0 h') s m args below meth c H locs cells slots (gQ G below args s h0 h' (.inl (g_wU r))) (F0 m 49 ls [])
abbrev w_X7_counts_21 (G : gG) (l : Launch) (p : Program) (e : Env) (s : State) (m : MethodId) (args : Array Value) (below : List Frame) (meth : Method) (c : Code) (h0 : g_H) (r : Unit) (h' : g_H) (k : Nat → Nat → gM Unit) : Prop := ∀ (a0 : Nat) (a1 : Nat) (h : g_H) (H : Heap) (locs : List Loc) (cells slots : Nat) (ls : Array Slot), (k a0 a1).1 h = some (r, h') → gI G h0 h H locs cells slots → lv_has ls 6 [(0, .ref a0), (1, .ref a1)] → W p l e (g_rm 102 1893 h0 h') s m args below meth c H locs cells slots (gQ G below args s h0 h' (.inl (g_wU r))) (F0 m 21 ls [])
abbrev w_X7_counts_2 (G : gG) (l : Launch) (p : Program) (e : Env) (s : State) (m : MethodId) (args : Array Value) (below : List Frame) (meth : Method) (c : Code) (h0 : g_H) (r : Unit) (h' : g_H) (k : Nat → Nat → Int32 → gM Unit) : Prop := ∀ (a0 : Nat) (a1 : Nat) (x2 : Int32) (h : g_H) (H : Heap) (locs : List Loc) (cells slots : Nat) (ls : Array Slot), (k a0 a1 x2).1 h = some (r, h') → gI G h0 h H locs cells slots → lv_has ls 6 [(0, .ref a0), (1, .ref a1), (2, .int x2)] → W p l e (g_rm 102 1893 h0 h') s m args below meth c H locs cells slots (gQ G below args s h0 h' (.inl (g_wU r))) (F0 m 2 ls [])
def f_X7_counts_190 (k152 : Nat → Nat → Int32 → Int32 → Int32 → Int32 → gM Unit) (a0 : Nat) (a1 : Nat) (x2 : Int32) (x3 : Int32) (x4 : Int32) (x5 : Int32) : gM Unit :=
    k152 a0 a1 x2 x3 x4 (x5 + (1 : Int32))
set_option maxHeartbeats 4000000 in
set_option maxRecDepth 100000 in
theorem b_X7_counts_190 {G : gG} {l : Launch} {p : Program} {e : Env} {s : State} {m : MethodId} {args : Array Value} {below : List Frame} {meth : Method} {c : Code} {h0 : g_H} {r : Unit} {h' : g_H} (X : gX G l yX7_counts.cls cX7_counts 6 none [] yX7_counts.name p s m args meth c) {k152 : Nat → Nat → Int32 → Int32 → Int32 → Int32 → gM Unit} (K152 : w_X7_counts_152 G l p e s m args below meth c h0 r h' k152) : w_X7_counts_190 G l p e s m args below meth c h0 r h' (f_X7_counts_190 k152) := by
  have hx := X.1
  have hb := X.2.1
  have hown := X.2.2.2.1
  have hts := X.2.2.2.2.1
  intro a0 a1 x2 x3 x4 x5 h H locs cells slots ls hf hI hl
  unfold f_X7_counts_190 at hf
  refine lv_iinc (v := (x5 + (1 : Int32))) (lv' := [(5, .int (x5 + (1 : Int32))), (0, .ref a0), (1, .ref a1), (2, .int x2), (3, .int x3), (4, .int x4)]) hx hb dX7_counts_190 hl (k := 5) rfl rfl (by decide) rfl (fun ls hl => ?_)
  refine lv_goto (tgt := 152) hx hb dX7_counts_193 (by decide) ?_
  exact K152 _ _ _ _ _ _ _ _ _ _ _ _ hf hI (lv_sub hl [1, 2, 3, 4, 5, 0] rfl)
def f_X7_counts_186 (k152 : Nat → Nat → Int32 → Int32 → Int32 → Int32 → gM Unit) (a0 : Nat) (a1 : Nat) (x2 : Int32) (x3 : Int32) (x4 : Int32) (x5 : Int32) (b0 : Nat) (b1 : Nat) (u2 : Int32) (u3 : Int32) (u4 : Int32) : gM Unit :=
    gB (gCk b0 6) fun _ =>
    gB (f_X7_goes b0 b1 u2 u3 u4 x2) fun _ =>
    f_X7_counts_190 k152 a0 a1 x2 x3 x4 x5
set_option maxHeartbeats 4000000 in
set_option maxRecDepth 100000 in
theorem b_X7_counts_186 {G : gG} {l : Launch} {p : Program} {e : Env} {s : State} {m : MethodId} {args : Array Value} {below : List Frame} {meth : Method} {c : Code} {h0 : g_H} {r : Unit} {h' : g_H} (X : gX G l yX7_counts.cls cX7_counts 6 none [] yX7_counts.name p s m args meth c) {k152 : Nat → Nat → Int32 → Int32 → Int32 → Int32 → gM Unit} (K152 : w_X7_counts_152 G l p e s m args below meth c h0 r h' k152) : w_X7_counts_186 G l p e s m args below meth c h0 r h' (f_X7_counts_186 k152) := by
  have hx := X.1
  have hb := X.2.1
  have hown := X.2.2.2.1
  have hts := X.2.2.2.2.1
  intro a0 a1 x2 x3 x4 x5 b0 b1 u2 u3 u4 h H locs cells slots ls hf hI hl
  unfold f_X7_counts_186 at hf
  refine lv_iload_n hx hb dX7_counts_186 rfl (lv_at hl 2 rfl) ?_
  obtain ⟨hs, hf⟩ := gCk_b hf
  refine g_cBU hI hf (fun v9 h9 e9 l9 l9' => g_rV X hI l9 l9' ⟨Nat.le_refl _, Nat.le_refl _⟩ (As := [.ref b1, .int u2, .int u3, .int u4, .int x2]) (m_X7_goes X.2.2.2.2.2.2.2.2.2.2.1 e9) ydX7_goes hs rfl rfl q555 q557 qs3 q130 q558 rfl (Nat.le_of_ble_eq_true rfl) (Nat.le_of_ble_eq_true rfl) hl.1 rfl (Nat.le_of_ble_eq_true rfl) dX7_counts_187) (fun r101 h H locs cells slots hf hI => ?_)
  exact b_X7_counts_190 X K152 _ _ _ _ _ _ _ _ _ _ _ _ hf hI (lv_sub hl [0, 1, 2, 3, 4, 5] rfl)
def f_X7_counts_196 (k76 : Nat → Nat → Int32 → Int32 → gM Unit) (a0 : Nat) (a1 : Nat) (x2 : Int32) (x3 : Int32) : gM Unit :=
    gB (gFR a0 6 1) fun v101 =>
    gB (gFR a0 6 0) fun v102 =>
    gB (gCpI v101 (0 : Int32) v102 (0 : Int32) (61 : Int32)) fun _ =>
    gB (gFI a0 6 4) fun v103 =>
    gB (gFR a0 6 2) fun v104 =>
    gB (gAI v104 0 x3) fun v105 =>
    gB (gPI a0 6 4 (v103 + v105)) fun _ =>
    k76 a0 a1 x2 (x3 + (1 : Int32))
set_option maxHeartbeats 4000000 in
set_option maxRecDepth 100000 in
theorem b_X7_counts_196 {G : gG} {l : Launch} {p : Program} {e : Env} {s : State} {m : MethodId} {args : Array Value} {below : List Frame} {meth : Method} {c : Code} {h0 : g_H} {r : Unit} {h' : g_H} (X : gX G l yX7_counts.cls cX7_counts 6 none [] yX7_counts.name p s m args meth c) {k76 : Nat → Nat → Int32 → Int32 → gM Unit} (K76 : w_X7_counts_76 G l p e s m args below meth c h0 r h' k76) : w_X7_counts_196 G l p e s m args below meth c h0 r h' (f_X7_counts_196 k76) := by
  have hx := X.1
  have hb := X.2.1
  have hown := X.2.2.2.1
  have hts := X.2.2.2.2.1
  intro a0 a1 x2 x3 h H locs cells slots ls hf hI hl
  unfold f_X7_counts_196 at hf
  refine lv_aload_n hx hb dX7_counts_196 rfl (lv_at hl 0 rfl) ?_
  refine g_fr X hI hf fX7_1 q438 rfl rfl dX7_counts_197 (fun v101 hf => ?_)
  refine lv_iconst (v := (0 : Int32)) hx hb dX7_counts_200 (by decide) ?_
  refine lv_aload_n hx hb dX7_counts_201 rfl (lv_at hl 0 rfl) ?_
  refine g_fr X hI hf fX7_0 q437 rfl rfl dX7_counts_202 (fun v102 hf => ?_)
  refine lv_iconst (v := (0 : Int32)) hx hb dX7_counts_205 (by decide) ?_
  refine lv_bipush (v := (61 : Int32)) hx hb dX7_counts_206 (by decide) ?_
  refine g_cpI X hI hf q624 hl.1 (Nat.le_of_ble_eq_true rfl) (Nat.le_trans g_nfw (Nat.le_of_ble_eq_true rfl)) (Nat.le_of_ble_eq_true rfl) dX7_counts_208 (fun h H locs hf hI => ?_)
  refine lv_aload_n hx hb dX7_counts_211 rfl (lv_at hl 0 rfl) ?_
  refine lv_dup hx hb dX7_counts_212 rfl ?_
  refine g_fi X hI hf fX7_4 q442 rfl rfl dX7_counts_213 (fun v103 hf => ?_)
  refine lv_aload_n hx hb dX7_counts_216 rfl (lv_at hl 0 rfl) ?_
  refine g_fr X hI hf fX7_2 q439 rfl rfl dX7_counts_217 (fun v104 hf => ?_)
  refine lv_iload_n hx hb dX7_counts_220 rfl (lv_at hl 3 rfl) ?_
  refine g_ai0 X hI hf dX7_counts_221 (fun v105 hf => ?_)
  refine lv_iadd hx hb dX7_counts_222 ?_
  refine g_pi X hI hf fX7_4 q442 rfl dX7_counts_223 (fun h H locs hf hI => ?_)
  refine lv_iinc (v := (x3 + (1 : Int32))) (lv' := [(3, .int (x3 + (1 : Int32))), (0, .ref a0), (1, .ref a1), (2, .int x2)]) hx hb dX7_counts_226 hl (k := 3) rfl rfl (by decide) rfl (fun ls hl => ?_)
  refine lv_goto (tgt := 76) hx hb dX7_counts_229 (by decide) ?_
  exact K76 _ _ _ _ _ _ _ _ _ _ hf hI (lv_sub hl [1, 2, 3, 0] rfl)
def f_X7_counts_152 (k76 : Nat → Nat → Int32 → Int32 → gM Unit) : Nat → Nat → Nat → Int32 → Int32 → Int32 → Int32 → gM Unit
  | 0, _, _, _, _, _, _ => gFail
  | n + 1, a0, a1, x2, x3, x4, x5 =>
    gB (gFI a1 4 1) fun v101 =>
    gIf (v101 < x5)
    (f_X7_counts_196 k76 a0 a1 x2 x3)
    (gB (gFR a0 6 0) fun v102 =>
    gB (gAI v102 0 x5) fun v103 =>
    gIf (v103 ≤ 0)
    (f_X7_counts_190 (f_X7_counts_152 k76 n) a0 a1 x2 x3 x4 x5)
    (gIf (x4 = 0)
    (f_X7_counts_186 (f_X7_counts_152 k76 n) a0 a1 x2 x3 x4 x5 a0 a1 x3 x5 (1 : Int32))
    (f_X7_counts_186 (f_X7_counts_152 k76 n) a0 a1 x2 x3 x4 x5 a0 a1 x3 x5 (3 : Int32))))
set_option maxHeartbeats 4000000 in
set_option maxRecDepth 100000 in
theorem b_X7_counts_152 {G : gG} {l : Launch} {p : Program} {e : Env} {s : State} {m : MethodId} {args : Array Value} {below : List Frame} {meth : Method} {c : Code} {h0 : g_H} {r : Unit} {h' : g_H} (X : gX G l yX7_counts.cls cX7_counts 6 none [] yX7_counts.name p s m args meth c) {k76 : Nat → Nat → Int32 → Int32 → gM Unit} (K76 : w_X7_counts_76 G l p e s m args below meth c h0 r h' k76) : ∀ n : Nat, w_X7_counts_152 G l p e s m args below meth c h0 r h' (f_X7_counts_152 k76 n) := by
  have hx := X.1
  have hb := X.2.1
  have hown := X.2.2.2.1
  have hts := X.2.2.2.2.1
  intro n
  induction n with
  | zero =>
    intro a0 a1 x2 x3 x4 x5 h H locs cells slots ls hf hI hl
    exact (gFail_f hf).elim
  | succ n ih =>
    intro a0 a1 x2 x3 x4 x5 h H locs cells slots ls hf hI hl
    rw [f_X7_counts_152] at hf
    refine lv_iload hx hb dX7_counts_152 (lv_at hl 5 rfl) ?_
    refine lv_aload_n hx hb dX7_counts_154 rfl (lv_at hl 1 rfl) ?_
    refine g_fiN X hI hf fX5_1 q232 rfl rfl dX7_counts_155 (fun v101 hf => ?_)
    refine lv_icmp_gt (tgt := 196) hx hb dX7_counts_158 (by decide) (fun c158 => ?_) (fun c158 => ?_)
    · have hf := g_t c158 hf
      exact b_X7_counts_196 X K76 _ _ _ _ _ _ _ _ _ _ hf hI (lv_sub hl [0, 1, 2, 3] rfl)
    · have hf := g_f c158 hf
      refine lv_aload_n hx hb dX7_counts_161 rfl (lv_at hl 0 rfl) ?_
      refine g_fr X hI hf fX7_0 q437 rfl rfl dX7_counts_162 (fun v102 hf => ?_)
      refine lv_iload hx hb dX7_counts_165 (lv_at hl 5 rfl) ?_
      refine g_ai0 X hI hf dX7_counts_167 (fun v103 hf => ?_)
      refine lv_if_le (tgt := 190) hx hb dX7_counts_168 (by decide) (fun c168 => ?_) (fun c168 => ?_)
      · have hf := g_t c168 hf
        exact b_X7_counts_190 X ih _ _ _ _ _ _ _ _ _ _ _ _ hf hI (lv_sub hl [0, 1, 2, 3, 4, 5] rfl)
      · have hf := g_f c168 hf
        refine lv_aload_n hx hb dX7_counts_171 rfl (lv_at hl 0 rfl) ?_
        refine lv_aload_n hx hb dX7_counts_172 rfl (lv_at hl 1 rfl) ?_
        refine lv_iload_n hx hb dX7_counts_173 rfl (lv_at hl 3 rfl) ?_
        refine lv_iload hx hb dX7_counts_174 (lv_at hl 5 rfl) ?_
        refine lv_iload hx hb dX7_counts_176 (lv_at hl 4 rfl) ?_
        refine lv_if_eq (tgt := 185) hx hb dX7_counts_178 (by decide) (fun c178 => ?_) (fun c178 => ?_)
        · have hf := g_t c178 hf
          refine lv_iconst (v := (1 : Int32)) hx hb dX7_counts_185 (by decide) ?_
          exact b_X7_counts_186 X ih _ _ _ _ _ _ _ _ _ _ _ _ _ _ _ _ _ hf hI (lv_sub hl [0, 1, 2, 3, 4, 5] rfl)
        · have hf := g_f c178 hf
          refine lv_iconst (v := (3 : Int32)) hx hb dX7_counts_181 (by decide) ?_
          refine lv_goto (tgt := 186) hx hb dX7_counts_182 (by decide) ?_
          exact b_X7_counts_186 X ih _ _ _ _ _ _ _ _ _ _ _ _ _ _ _ _ _ hf hI (lv_sub hl [0, 1, 2, 3, 4, 5] rfl)
def f_X7_counts_149 (k76 : Nat → Nat → Int32 → Int32 → gM Unit) (a0 : Nat) (a1 : Nat) (x2 : Int32) (x3 : Int32) (x4 : Int32) : gM Unit :=
    f_X7_counts_152 k76 gN a0 a1 x2 x3 x4 (0 : Int32)
set_option maxHeartbeats 4000000 in
set_option maxRecDepth 100000 in
theorem b_X7_counts_149 {G : gG} {l : Launch} {p : Program} {e : Env} {s : State} {m : MethodId} {args : Array Value} {below : List Frame} {meth : Method} {c : Code} {h0 : g_H} {r : Unit} {h' : g_H} (X : gX G l yX7_counts.cls cX7_counts 6 none [] yX7_counts.name p s m args meth c) {k76 : Nat → Nat → Int32 → Int32 → gM Unit} (K76 : w_X7_counts_76 G l p e s m args below meth c h0 r h' k76) : w_X7_counts_149 G l p e s m args below meth c h0 r h' (f_X7_counts_149 k76) := by
  have hx := X.1
  have hb := X.2.1
  have hown := X.2.2.2.1
  have hts := X.2.2.2.2.1
  intro a0 a1 x2 x3 x4 h H locs cells slots ls hf hI hl
  unfold f_X7_counts_149 at hf
  refine lv_iconst (v := (0 : Int32)) hx hb dX7_counts_149 (by decide) ?_
  refine lv_istore (lv' := [(5, .int (0 : Int32)), (0, .ref a0), (1, .ref a1), (2, .int x2), (3, .int x3), (4, .int x4)]) hx hb dX7_counts_150 hl (by decide) rfl (fun ls hl => ?_)
  exact b_X7_counts_152 X K76 gN _ _ _ _ _ _ _ _ _ _ _ _ hf hI (lv_sub hl [1, 2, 3, 4, 5, 0] rfl)
def f_X7_counts_128 (k76 : Nat → Nat → Int32 → Int32 → gM Unit) : Nat → Nat → Nat → Int32 → Int32 → Int32 → Int32 → gM Unit
  | 0, _, _, _, _, _, _ => gFail
  | n + 1, a0, a1, x2, x3, x4, x5 =>
    gIf ((60 : Int32) < x5)
    (f_X7_counts_149 k76 a0 a1 x2 x3 x4)
    (gB (gFR a0 6 1) fun v101 =>
    gB (gSI v101 0 x5 (0 : Int32)) fun _ =>
    f_X7_counts_128 k76 n a0 a1 x2 x3 x4 (x5 + (1 : Int32)))
set_option maxHeartbeats 4000000 in
set_option maxRecDepth 100000 in
theorem b_X7_counts_128 {G : gG} {l : Launch} {p : Program} {e : Env} {s : State} {m : MethodId} {args : Array Value} {below : List Frame} {meth : Method} {c : Code} {h0 : g_H} {r : Unit} {h' : g_H} (X : gX G l yX7_counts.cls cX7_counts 6 none [] yX7_counts.name p s m args meth c) {k76 : Nat → Nat → Int32 → Int32 → gM Unit} (K76 : w_X7_counts_76 G l p e s m args below meth c h0 r h' k76) : ∀ n : Nat, w_X7_counts_128 G l p e s m args below meth c h0 r h' (f_X7_counts_128 k76 n) := by
  have hx := X.1
  have hb := X.2.1
  have hown := X.2.2.2.1
  have hts := X.2.2.2.2.1
  intro n
  induction n with
  | zero =>
    intro a0 a1 x2 x3 x4 x5 h H locs cells slots ls hf hI hl
    exact (gFail_f hf).elim
  | succ n ih =>
    intro a0 a1 x2 x3 x4 x5 h H locs cells slots ls hf hI hl
    rw [f_X7_counts_128] at hf
    refine lv_iload hx hb dX7_counts_128 (lv_at hl 5 rfl) ?_
    refine lv_bipush (v := (60 : Int32)) hx hb dX7_counts_130 (by decide) ?_
    refine lv_icmp_gt (tgt := 149) hx hb dX7_counts_132 (by decide) (fun c132 => ?_) (fun c132 => ?_)
    · have hf := g_t c132 hf
      exact b_X7_counts_149 X K76 _ _ _ _ _ _ _ _ _ _ _ hf hI (lv_sub hl [0, 1, 2, 3, 4] rfl)
    · have hf := g_f c132 hf
      refine lv_aload_n hx hb dX7_counts_135 rfl (lv_at hl 0 rfl) ?_
      refine g_fr X hI hf fX7_1 q438 rfl rfl dX7_counts_136 (fun v101 hf => ?_)
      refine lv_iload hx hb dX7_counts_139 (lv_at hl 5 rfl) ?_
      refine lv_iconst (v := (0 : Int32)) hx hb dX7_counts_141 (by decide) ?_
      refine g_si0 X hI hf dX7_counts_142 (fun h H locs hf hI => ?_)
      refine lv_iinc (v := (x5 + (1 : Int32))) (lv' := [(5, .int (x5 + (1 : Int32))), (0, .ref a0), (1, .ref a1), (2, .int x2), (3, .int x3), (4, .int x4)]) hx hb dX7_counts_143 hl (k := 5) rfl rfl (by decide) rfl (fun ls hl => ?_)
      refine lv_goto (tgt := 128) hx hb dX7_counts_146 (by decide) ?_
      exact ih _ _ _ _ _ _ _ _ _ _ _ _ hf hI (lv_sub hl [1, 2, 3, 4, 5, 0] rfl)
def f_X7_counts_116 (k76 : Nat → Nat → Int32 → Int32 → gM Unit) (a0 : Nat) (a1 : Nat) (x3 : Int32) (x4 : Int32) (u0 : Int32) (u1 : Int32) : gM Unit :=
    gB (gGd (¬ u1 = 0)) fun _ =>
    gB (gFR a0 6 2) fun v101 =>
    gB (gSI v101 0 x3 (0 : Int32)) fun _ =>
    f_X7_counts_128 k76 gN a0 a1 (u0 / u1) x3 x4 (0 : Int32)
set_option maxHeartbeats 4000000 in
set_option maxRecDepth 100000 in
theorem b_X7_counts_116 {G : gG} {l : Launch} {p : Program} {e : Env} {s : State} {m : MethodId} {args : Array Value} {below : List Frame} {meth : Method} {c : Code} {h0 : g_H} {r : Unit} {h' : g_H} (X : gX G l yX7_counts.cls cX7_counts 6 none [] yX7_counts.name p s m args meth c) {k76 : Nat → Nat → Int32 → Int32 → gM Unit} (K76 : w_X7_counts_76 G l p e s m args below meth c h0 r h' k76) : w_X7_counts_116 G l p e s m args below meth c h0 r h' (f_X7_counts_116 k76) := by
  have hx := X.1
  have hb := X.2.1
  have hown := X.2.2.2.1
  have hts := X.2.2.2.2.1
  intro a0 a1 x3 x4 u0 u1 h H locs cells slots ls hf hI hl
  unfold f_X7_counts_116 at hf
  obtain ⟨hz116, hf⟩ := gB_gd hf
  refine lv_idiv hx hb dX7_counts_116 hz116 ?_
  refine lv_istore_n (lv' := [(2, .int (u0 / u1)), (0, .ref a0), (1, .ref a1), (3, .int x3), (4, .int x4)]) hx hb dX7_counts_117 rfl hl (by decide) rfl (fun ls hl => ?_)
  refine lv_aload_n hx hb dX7_counts_118 rfl (lv_at hl 1 rfl) ?_
  refine g_fr X hI hf fX7_2 q439 rfl rfl dX7_counts_119 (fun v101 hf => ?_)
  refine lv_iload_n hx hb dX7_counts_122 rfl (lv_at hl 3 rfl) ?_
  refine lv_iconst (v := (0 : Int32)) hx hb dX7_counts_123 (by decide) ?_
  refine g_si0 X hI hf dX7_counts_124 (fun h H locs hf hI => ?_)
  refine lv_iconst (v := (0 : Int32)) hx hb dX7_counts_125 (by decide) ?_
  refine lv_istore (lv' := [(5, .int (0 : Int32)), (2, .int (u0 / u1)), (0, .ref a0), (1, .ref a1), (3, .int x3), (4, .int x4)]) hx hb dX7_counts_126 hl (by decide) rfl (fun ls hl => ?_)
  exact b_X7_counts_128 X K76 gN _ _ _ _ _ _ _ _ _ _ _ _ hf hI (lv_sub hl [2, 3, 1, 4, 5, 0] rfl)
def f_X7_counts_103 (k76 : Nat → Nat → Int32 → Int32 → gM Unit) (a0 : Nat) (a1 : Nat) (x2 : Int32) (x3 : Int32) (u0 : Int32) : gM Unit :=
    gIf (u0 = 0)
    (f_X7_counts_116 k76 a0 a1 x3 u0 x2 (1 : Int32))
    (f_X7_counts_116 k76 a0 a1 x3 u0 x2 (3 : Int32))
set_option maxHeartbeats 4000000 in
set_option maxRecDepth 100000 in
theorem b_X7_counts_103 {G : gG} {l : Launch} {p : Program} {e : Env} {s : State} {m : MethodId} {args : Array Value} {below : List Frame} {meth : Method} {c : Code} {h0 : g_H} {r : Unit} {h' : g_H} (X : gX G l yX7_counts.cls cX7_counts 6 none [] yX7_counts.name p s m args meth c) {k76 : Nat → Nat → Int32 → Int32 → gM Unit} (K76 : w_X7_counts_76 G l p e s m args below meth c h0 r h' k76) : w_X7_counts_103 G l p e s m args below meth c h0 r h' (f_X7_counts_103 k76) := by
  have hx := X.1
  have hb := X.2.1
  have hown := X.2.2.2.1
  have hts := X.2.2.2.2.1
  intro a0 a1 x2 x3 u0 h H locs cells slots ls hf hI hl
  unfold f_X7_counts_103 at hf
  refine lv_istore (lv' := [(4, .int u0), (0, .ref a0), (1, .ref a1), (2, .int x2), (3, .int x3)]) hx hb dX7_counts_103 hl (by decide) rfl (fun ls hl => ?_)
  refine lv_iload_n hx hb dX7_counts_105 rfl (lv_at hl 3 rfl) ?_
  refine lv_iload hx hb dX7_counts_106 (lv_at hl 0 rfl) ?_
  refine lv_if_eq (tgt := 115) hx hb dX7_counts_108 (by decide) (fun c108 => ?_) (fun c108 => ?_)
  · have hf := g_t c108 hf
    refine lv_iconst (v := (1 : Int32)) hx hb dX7_counts_115 (by decide) ?_
    exact b_X7_counts_116 X K76 _ _ _ _ _ _ _ _ _ _ _ _ hf hI (lv_sub hl [1, 2, 4, 0] rfl)
  · have hf := g_f c108 hf
    refine lv_iconst (v := (3 : Int32)) hx hb dX7_counts_111 (by decide) ?_
    refine lv_goto (tgt := 116) hx hb dX7_counts_112 (by decide) ?_
    exact b_X7_counts_116 X K76 _ _ _ _ _ _ _ _ _ _ _ _ hf hI (lv_sub hl [1, 2, 4, 0] rfl)
def f_X7_counts_76 : Nat → Nat → Nat → Int32 → Int32 → gM Unit
  | 0, _, _, _, _ => gFail
  | n + 1, a0, a1, x2, x3 =>
    gIf ((10 : Int32) ≤ x3)
    (gRet ())
    (gB (gFR a0 6 5) fun v101 =>
    gB (gFR v101 0 1) fun v102 =>
    gB (gFR v102 2 3) fun v103 =>
    gB (gAI v103 0 x3) fun v104 =>
    gIf (v104 = (-1 : Int32))
    (f_X7_counts_103 (f_X7_counts_76 n) a0 a1 x2 x3 (0 : Int32))
    (f_X7_counts_103 (f_X7_counts_76 n) a0 a1 x2 x3 (1 : Int32)))
set_option maxHeartbeats 4000000 in
set_option maxRecDepth 100000 in
theorem b_X7_counts_76 {G : gG} {l : Launch} {p : Program} {e : Env} {s : State} {m : MethodId} {args : Array Value} {below : List Frame} {meth : Method} {c : Code} {h0 : g_H} {r : Unit} {h' : g_H} (X : gX G l yX7_counts.cls cX7_counts 6 none [] yX7_counts.name p s m args meth c) : ∀ n : Nat, w_X7_counts_76 G l p e s m args below meth c h0 r h' (f_X7_counts_76 n) := by
  have hx := X.1
  have hb := X.2.1
  have hown := X.2.2.2.1
  have hts := X.2.2.2.2.1
  intro n
  induction n with
  | zero =>
    intro a0 a1 x2 x3 h H locs cells slots ls hf hI hl
    exact (gFail_f hf).elim
  | succ n ih =>
    intro a0 a1 x2 x3 h H locs cells slots ls hf hI hl
    rw [f_X7_counts_76] at hf
    refine lv_iload_n hx hb dX7_counts_76 rfl (lv_at hl 3 rfl) ?_
    refine lv_bipush (v := (10 : Int32)) hx hb dX7_counts_77 (by decide) ?_
    refine lv_icmp_ge (tgt := 232) hx hb dX7_counts_79 (by decide) (fun c79 => ?_) (fun c79 => ?_)
    · have hf := g_t c79 hf
      cases gRet_e hf
      exact g_retU X hI rfl dX7_counts_232
    · have hf := g_f c79 hf
      refine lv_aload_n hx hb dX7_counts_82 rfl (lv_at hl 0 rfl) ?_
      refine g_fr X hI hf fX7_5 q444 rfl rfl dX7_counts_83 (fun v101 hf => ?_)
      refine g_frN X hI hf fX1_1 q462 rfl rfl dX7_counts_86 (fun v102 hf => ?_)
      refine g_frN X hI hf fX3_3 q262 rfl rfl dX7_counts_89 (fun v103 hf => ?_)
      refine lv_iload_n hx hb dX7_counts_92 rfl (lv_at hl 3 rfl) ?_
      refine g_ai0 X hI hf dX7_counts_93 (fun v104 hf => ?_)
      refine lv_iconst (v := (-1 : Int32)) hx hb dX7_counts_94 (by decide) ?_
      refine lv_icmp_eq (tgt := 102) hx hb dX7_counts_95 (by decide) (fun c95 => ?_) (fun c95 => ?_)
      · have hf := g_t c95 hf
        refine lv_iconst (v := (0 : Int32)) hx hb dX7_counts_102 (by decide) ?_
        exact b_X7_counts_103 X ih _ _ _ _ _ _ _ _ _ _ _ hf hI (lv_sub hl [0, 1, 2, 3] rfl)
      · have hf := g_f c95 hf
        refine lv_iconst (v := (1 : Int32)) hx hb dX7_counts_98 (by decide) ?_
        refine lv_goto (tgt := 103) hx hb dX7_counts_99 (by decide) ?_
        exact b_X7_counts_103 X ih _ _ _ _ _ _ _ _ _ _ _ hf hI (lv_sub hl [0, 1, 2, 3] rfl)
def f_X7_counts_69 (a0 : Nat) (a1 : Nat) : gM Unit :=
    gB (gFI a0 6 3) fun v101 =>
    f_X7_counts_76 gN a0 a1 v101 (0 : Int32)
set_option maxHeartbeats 4000000 in
set_option maxRecDepth 100000 in
theorem b_X7_counts_69 {G : gG} {l : Launch} {p : Program} {e : Env} {s : State} {m : MethodId} {args : Array Value} {below : List Frame} {meth : Method} {c : Code} {h0 : g_H} {r : Unit} {h' : g_H} (X : gX G l yX7_counts.cls cX7_counts 6 none [] yX7_counts.name p s m args meth c) : w_X7_counts_69 G l p e s m args below meth c h0 r h' (f_X7_counts_69) := by
  have hx := X.1
  have hb := X.2.1
  have hown := X.2.2.2.1
  have hts := X.2.2.2.2.1
  intro a0 a1 h H locs cells slots ls hf hI hl
  unfold f_X7_counts_69 at hf
  refine lv_aload_n hx hb dX7_counts_69 rfl (lv_at hl 0 rfl) ?_
  refine g_fi X hI hf fX7_3 q441 rfl rfl dX7_counts_70 (fun v101 hf => ?_)
  refine lv_istore_n (lv' := [(2, .int v101), (0, .ref a0), (1, .ref a1)]) hx hb dX7_counts_73 rfl hl (by decide) rfl (fun ls hl => ?_)
  refine lv_iconst (v := (0 : Int32)) hx hb dX7_counts_74 (by decide) ?_
  refine lv_istore_n (lv' := [(3, .int (0 : Int32)), (2, .int v101), (0, .ref a0), (1, .ref a1)]) hx hb dX7_counts_75 rfl hl (by decide) rfl (fun ls hl => ?_)
  exact b_X7_counts_76 X gN _ _ _ _ _ _ _ _ _ _ hf hI (lv_sub hl [2, 3, 1, 0] rfl)
def f_X7_counts_49 : Nat → Nat → Nat → Int32 → gM Unit
  | 0, _, _, _ => gFail
  | n + 1, a0, a1, x2 =>
    gIf (x2 ≤ 0)
    (f_X7_counts_69 a0 a1)
    (gB (gFI a0 6 3) fun v101 =>
    gB (gPI a0 6 3 (v101 * (3 : Int32))) fun _ =>
    f_X7_counts_49 n a0 a1 (x2 + (-1 : Int32)))
set_option maxHeartbeats 4000000 in
set_option maxRecDepth 100000 in
theorem b_X7_counts_49 {G : gG} {l : Launch} {p : Program} {e : Env} {s : State} {m : MethodId} {args : Array Value} {below : List Frame} {meth : Method} {c : Code} {h0 : g_H} {r : Unit} {h' : g_H} (X : gX G l yX7_counts.cls cX7_counts 6 none [] yX7_counts.name p s m args meth c) : ∀ n : Nat, w_X7_counts_49 G l p e s m args below meth c h0 r h' (f_X7_counts_49 n) := by
  have hx := X.1
  have hb := X.2.1
  have hown := X.2.2.2.1
  have hts := X.2.2.2.2.1
  intro n
  induction n with
  | zero =>
    intro a0 a1 x2 h H locs cells slots ls hf hI hl
    exact (gFail_f hf).elim
  | succ n ih =>
    intro a0 a1 x2 h H locs cells slots ls hf hI hl
    rw [f_X7_counts_49] at hf
    refine lv_iload_n hx hb dX7_counts_49 rfl (lv_at hl 2 rfl) ?_
    refine lv_if_le (tgt := 69) hx hb dX7_counts_50 (by decide) (fun c50 => ?_) (fun c50 => ?_)
    · have hf := g_t c50 hf
      exact b_X7_counts_69 X _ _ _ _ _ _ _ _ hf hI (lv_sub hl [0, 1] rfl)
    · have hf := g_f c50 hf
      refine lv_aload_n hx hb dX7_counts_53 rfl (lv_at hl 0 rfl) ?_
      refine lv_dup hx hb dX7_counts_54 rfl ?_
      refine g_fi X hI hf fX7_3 q441 rfl rfl dX7_counts_55 (fun v101 hf => ?_)
      refine lv_iconst (v := (3 : Int32)) hx hb dX7_counts_58 (by decide) ?_
      refine lv_imul hx hb dX7_counts_59 ?_
      refine g_pi X hI hf fX7_3 q441 rfl dX7_counts_60 (fun h H locs hf hI => ?_)
      refine lv_iinc (v := (x2 + (-1 : Int32))) (lv' := [(2, .int (x2 + (-1 : Int32))), (0, .ref a0), (1, .ref a1)]) hx hb dX7_counts_63 hl (k := 2) rfl rfl (by decide) rfl (fun ls hl => ?_)
      refine lv_goto (tgt := 49) hx hb dX7_counts_66 (by decide) ?_
      exact ih _ _ _ _ _ _ _ _ _ hf hI (lv_sub hl [1, 2, 0] rfl)
def f_X7_counts_21 (a0 : Nat) (a1 : Nat) : gM Unit :=
    gB (gFR a0 6 0) fun v101 =>
    gB (gSI v101 0 (0 : Int32) (1 : Int32)) fun _ =>
    gB (gPI a0 6 4 (0 : Int32)) fun _ =>
    gB (gPI a0 6 3 (1 : Int32)) fun _ =>
    gB (gFR a0 6 5) fun v102 =>
    gB (gFR v102 0 1) fun v103 =>
    gB (gCk v103 2) fun _ =>
    gB (f_X3_nailed v103) fun r104 =>
    f_X7_counts_49 gN a0 a1 r104
set_option maxHeartbeats 4000000 in
set_option maxRecDepth 100000 in
theorem b_X7_counts_21 {G : gG} {l : Launch} {p : Program} {e : Env} {s : State} {m : MethodId} {args : Array Value} {below : List Frame} {meth : Method} {c : Code} {h0 : g_H} {r : Unit} {h' : g_H} (X : gX G l yX7_counts.cls cX7_counts 6 none [] yX7_counts.name p s m args meth c) : w_X7_counts_21 G l p e s m args below meth c h0 r h' (f_X7_counts_21) := by
  have hx := X.1
  have hb := X.2.1
  have hown := X.2.2.2.1
  have hts := X.2.2.2.2.1
  intro a0 a1 h H locs cells slots ls hf hI hl
  unfold f_X7_counts_21 at hf
  refine lv_aload_n hx hb dX7_counts_21 rfl (lv_at hl 0 rfl) ?_
  refine g_fr X hI hf fX7_0 q437 rfl rfl dX7_counts_22 (fun v101 hf => ?_)
  refine lv_iconst (v := (0 : Int32)) hx hb dX7_counts_25 (by decide) ?_
  refine lv_iconst (v := (1 : Int32)) hx hb dX7_counts_26 (by decide) ?_
  refine g_si0 X hI hf dX7_counts_27 (fun h H locs hf hI => ?_)
  refine lv_aload_n hx hb dX7_counts_28 rfl (lv_at hl 0 rfl) ?_
  refine lv_iconst (v := (0 : Int32)) hx hb dX7_counts_29 (by decide) ?_
  refine g_pi X hI hf fX7_4 q442 rfl dX7_counts_30 (fun h H locs hf hI => ?_)
  refine lv_aload_n hx hb dX7_counts_33 rfl (lv_at hl 0 rfl) ?_
  refine lv_iconst (v := (1 : Int32)) hx hb dX7_counts_34 (by decide) ?_
  refine g_pi X hI hf fX7_3 q441 rfl dX7_counts_35 (fun h H locs hf hI => ?_)
  refine lv_aload_n hx hb dX7_counts_38 rfl (lv_at hl 0 rfl) ?_
  refine g_fr X hI hf fX7_5 q444 rfl rfl dX7_counts_39 (fun v102 hf => ?_)
  refine g_frN X hI hf fX1_1 q462 rfl rfl dX7_counts_42 (fun v103 hf => ?_)
  obtain ⟨hs, hf⟩ := gCk_b hf
  refine g_cBI hI hf (fun v9 h9 e9 l9 l9' => g_rV X hI l9 l9' ⟨Nat.le_refl _, Nat.le_refl _⟩ (As := []) (m_X3_nailed X.2.2.2.2.2.2.2.2.2.2.1 e9) ydX3_nailed hs rfl rfl q551 q552 q553 q123 q554 rfl (Nat.le_of_ble_eq_true rfl) (Nat.le_of_ble_eq_true rfl) hl.1 rfl (Nat.le_of_ble_eq_true rfl) dX7_counts_45) (fun r104 h H locs cells slots hf hI => ?_)
  refine lv_istore_n (lv' := [(2, .int r104), (0, .ref a0), (1, .ref a1)]) hx hb dX7_counts_48 rfl hl (by decide) rfl (fun ls hl => ?_)
  exact b_X7_counts_49 X gN _ _ _ _ _ _ _ _ _ hf hI (lv_sub hl [1, 2, 0] rfl)
def f_X7_counts_2 : Nat → Nat → Nat → Int32 → gM Unit
  | 0, _, _, _ => gFail
  | n + 1, a0, a1, x2 =>
    gIf ((60 : Int32) < x2)
    (f_X7_counts_21 a0 a1)
    (gB (gFR a0 6 0) fun v101 =>
    gB (gSI v101 0 x2 (0 : Int32)) fun _ =>
    f_X7_counts_2 n a0 a1 (x2 + (1 : Int32)))
set_option maxHeartbeats 4000000 in
set_option maxRecDepth 100000 in
theorem b_X7_counts_2 {G : gG} {l : Launch} {p : Program} {e : Env} {s : State} {m : MethodId} {args : Array Value} {below : List Frame} {meth : Method} {c : Code} {h0 : g_H} {r : Unit} {h' : g_H} (X : gX G l yX7_counts.cls cX7_counts 6 none [] yX7_counts.name p s m args meth c) : ∀ n : Nat, w_X7_counts_2 G l p e s m args below meth c h0 r h' (f_X7_counts_2 n) := by
  have hx := X.1
  have hb := X.2.1
  have hown := X.2.2.2.1
  have hts := X.2.2.2.2.1
  intro n
  induction n with
  | zero =>
    intro a0 a1 x2 h H locs cells slots ls hf hI hl
    exact (gFail_f hf).elim
  | succ n ih =>
    intro a0 a1 x2 h H locs cells slots ls hf hI hl
    rw [f_X7_counts_2] at hf
    refine lv_iload_n hx hb dX7_counts_2 rfl (lv_at hl 2 rfl) ?_
    refine lv_bipush (v := (60 : Int32)) hx hb dX7_counts_3 (by decide) ?_
    refine lv_icmp_gt (tgt := 21) hx hb dX7_counts_5 (by decide) (fun c5 => ?_) (fun c5 => ?_)
    · have hf := g_t c5 hf
      exact b_X7_counts_21 X _ _ _ _ _ _ _ _ hf hI (lv_sub hl [0, 1] rfl)
    · have hf := g_f c5 hf
      refine lv_aload_n hx hb dX7_counts_8 rfl (lv_at hl 0 rfl) ?_
      refine g_fr X hI hf fX7_0 q437 rfl rfl dX7_counts_9 (fun v101 hf => ?_)
      refine lv_iload_n hx hb dX7_counts_12 rfl (lv_at hl 2 rfl) ?_
      refine lv_iconst (v := (0 : Int32)) hx hb dX7_counts_13 (by decide) ?_
      refine g_si0 X hI hf dX7_counts_14 (fun h H locs hf hI => ?_)
      refine lv_iinc (v := (x2 + (1 : Int32))) (lv' := [(2, .int (x2 + (1 : Int32))), (0, .ref a0), (1, .ref a1)]) hx hb dX7_counts_15 hl (k := 2) rfl rfl (by decide) rfl (fun ls hl => ?_)
      refine lv_goto (tgt := 2) hx hb dX7_counts_18 (by decide) ?_
      exact ih _ _ _ _ _ _ _ _ _ hf hI (lv_sub hl [1, 2, 0] rfl)
def f_X7_counts (a0 : Nat) (a1 : Nat) : gM Unit :=
    f_X7_counts_2 gN a0 a1 (0 : Int32)
set_option maxHeartbeats 4000000 in
set_option maxRecDepth 100000 in
theorem m_X7_counts {G : gG} {l : Launch} (hfl : l.stackTraces = false) {a0 : Nat} {a1 : Nat} {h h' : g_H} {r : Unit} (hf : (f_X7_counts a0 a1).1 h = some (r, h')) : gMet G l yX7_counts (Cond.code yX7_counts cX7_counts 6 none) 102 1893 [.ref a0, .ref a1] h (.inl (g_wU r)) h' := by
  refine g_head hfl ((f_X7_counts a0 a1).2 h r h' hf) (plainFor_of_name (by decide)) (Nat.le_of_ble_eq_true rfl) (fun p e s m below meth c H locs cells slots ls X hI hl9 => ?_)
  have hl : lv_has ls 6 [(0, .ref a0), (1, .ref a1)] := hl9
  have hx := X.1
  have hb := X.2.1
  have hown := X.2.2.2.1
  have hts := X.2.2.2.2.1
  unfold f_X7_counts at hf
  refine lv_iconst (v := (0 : Int32)) hx hb dX7_counts_0 (by decide) ?_
  refine lv_istore_n (lv' := [(2, .int (0 : Int32)), (0, .ref a0), (1, .ref a1)]) hx hb dX7_counts_1 rfl hl (by decide) rfl (fun ls hl => ?_)
  exact b_X7_counts_2 X gN _ _ _ _ _ _ _ _ _ hf hI (lv_sub hl [1, 2, 0] rfl)
/-! X1_loud -/
abbrev w_X1_loud_72 (G : gG) (l : Launch) (p : Program) (e : Env) (s : State) (m : MethodId) (args : Array Value) (below : List Frame) (meth : Method) (c : Code) (h0 : g_H) (r : Int32) (h' : g_H) (k : Nat → Int32 → Int32 → Int32 → gM Int32) : Prop := ∀ (a0 : Nat) (x1 : Int32) (x2 : Int32) (x3 : Int32) (h : g_H) (H : Heap) (locs : List Loc) (cells slots : Nat) (ls : Array Slot), (k a0 x1 x2 x3).1 h = some (r, h') → gI G h0 h H locs cells slots → lv_has ls 4 [(0, .ref a0), (1, .int x1), (2, .int x2), (3, .int x3)] → W p l e (g_rm 103 1918 h0 h') s m args below meth c H locs cells slots (gQ G below args s h0 h' (.inl (g_wI r))) (F0 m 72 ls [])
abbrev w_X1_loud_78 (G : gG) (l : Launch) (p : Program) (e : Env) (s : State) (m : MethodId) (args : Array Value) (below : List Frame) (meth : Method) (c : Code) (h0 : g_H) (r : Int32) (h' : g_H) (k : Int32 → gM Int32) : Prop := ∀ (x2 : Int32) (h : g_H) (H : Heap) (locs : List Loc) (cells slots : Nat) (ls : Array Slot), (k x2).1 h = some (r, h') → gI G h0 h H locs cells slots → lv_has ls 4 [(2, .int x2)] → W p l e (g_rm 103 1918 h0 h') s m args below meth c H locs cells slots (gQ G below args s h0 h' (.inl (g_wI r))) (F0 m 78 ls [])
abbrev w_X1_loud_4 (G : gG) (l : Launch) (p : Program) (e : Env) (s : State) (m : MethodId) (args : Array Value) (below : List Frame) (meth : Method) (c : Code) (h0 : g_H) (r : Int32) (h' : g_H) (k : Nat → Int32 → Int32 → Int32 → gM Int32) : Prop := ∀ (a0 : Nat) (x1 : Int32) (x2 : Int32) (x3 : Int32) (h : g_H) (H : Heap) (locs : List Loc) (cells slots : Nat) (ls : Array Slot), (k a0 x1 x2 x3).1 h = some (r, h') → gI G h0 h H locs cells slots → lv_has ls 4 [(0, .ref a0), (1, .int x1), (2, .int x2), (3, .int x3)] → W p l e (g_rm 103 1918 h0 h') s m args below meth c H locs cells slots (gQ G below args s h0 h' (.inl (g_wI r))) (F0 m 4 ls [])
def f_X1_loud_72 (k4 : Nat → Int32 → Int32 → Int32 → gM Int32) (a0 : Nat) (x1 : Int32) (x2 : Int32) (x3 : Int32) : gM Int32 :=
    k4 a0 x1 x2 (x3 + (1 : Int32))
set_option maxHeartbeats 4000000 in
set_option maxRecDepth 100000 in
theorem b_X1_loud_72 {G : gG} {l : Launch} {p : Program} {e : Env} {s : State} {m : MethodId} {args : Array Value} {below : List Frame} {meth : Method} {c : Code} {h0 : g_H} {r : Int32} {h' : g_H} (X : gX G l yX1_loud.cls cX1_loud 4 (some .int) [] yX1_loud.name p s m args meth c) {k4 : Nat → Int32 → Int32 → Int32 → gM Int32} (K4 : w_X1_loud_4 G l p e s m args below meth c h0 r h' k4) : w_X1_loud_72 G l p e s m args below meth c h0 r h' (f_X1_loud_72 k4) := by
  have hx := X.1
  have hb := X.2.1
  have hown := X.2.2.2.1
  have hts := X.2.2.2.2.1
  intro a0 x1 x2 x3 h H locs cells slots ls hf hI hl
  unfold f_X1_loud_72 at hf
  refine lv_iinc (v := (x3 + (1 : Int32))) (lv' := [(3, .int (x3 + (1 : Int32))), (0, .ref a0), (1, .int x1), (2, .int x2)]) hx hb dX1_loud_72 hl (k := 3) rfl rfl (by decide) rfl (fun ls hl => ?_)
  refine lv_goto (tgt := 4) hx hb dX1_loud_75 (by decide) ?_
  exact K4 _ _ _ _ _ _ _ _ _ _ hf hI (lv_sub hl [1, 2, 3, 0] rfl)
def f_X1_loud_78 (x2 : Int32) : gM Int32 :=
    (gRet x2)
set_option maxHeartbeats 4000000 in
set_option maxRecDepth 100000 in
theorem b_X1_loud_78 {G : gG} {l : Launch} {p : Program} {e : Env} {s : State} {m : MethodId} {args : Array Value} {below : List Frame} {meth : Method} {c : Code} {h0 : g_H} {r : Int32} {h' : g_H} (X : gX G l yX1_loud.cls cX1_loud 4 (some .int) [] yX1_loud.name p s m args meth c) : w_X1_loud_78 G l p e s m args below meth c h0 r h' (f_X1_loud_78) := by
  have hx := X.1
  have hb := X.2.1
  have hown := X.2.2.2.1
  have hts := X.2.2.2.2.1
  intro x2 h H locs cells slots ls hf hI hl
  unfold f_X1_loud_78 at hf
  refine lv_iload_n hx hb dX1_loud_78 rfl (lv_at hl 0 rfl) ?_
  cases gRet_e hf
  exact g_retI X hI rfl dX1_loud_79
def f_X1_loud_4 : Nat → Nat → Int32 → Int32 → Int32 → gM Int32
  | 0, _, _, _, _ => gFail
  | n + 1, a0, x1, x2, x3 =>
    gB (gFR a0 0 1) fun v101 =>
    gB (gFI v101 2 7) fun v102 =>
    gIf (v102 ≤ x3)
    (f_X1_loud_78 x2)
    (gB (gFR a0 0 1) fun v103 =>
    gB (gFR v103 2 1) fun v104 =>
    gB (gAR v104 5 x3) fun v105 =>
    gB (gFI v105 4 3) fun v106 =>
    gIf (v106 = 0)
    (gB (gFR a0 0 5) fun v107 =>
    gB (gFR a0 0 1) fun v108 =>
    gB (gFR v108 2 1) fun v109 =>
    gB (gAR v109 5 x3) fun v110 =>
    gB (gCk v107 6) fun _ =>
    gB (f_X7_counts v107 v110) fun _ =>
    gB (gFR a0 0 5) fun v112 =>
    gB (gFR v112 6 2) fun v113 =>
    gB (gFR a0 0 1) fun v114 =>
    gB (gFR v114 2 0) fun v115 =>
    gB (gAR v115 4 x1) fun v116 =>
    gB (gFI v116 3 3) fun v117 =>
    gB (gAI v113 0 v117) fun v118 =>
    f_X1_loud_72 (f_X1_loud_4 n) a0 x1 (x2 + v118) x3)
    (f_X1_loud_72 (f_X1_loud_4 n) a0 x1 x2 x3))
set_option maxHeartbeats 4000000 in
set_option maxRecDepth 100000 in
theorem b_X1_loud_4 {G : gG} {l : Launch} {p : Program} {e : Env} {s : State} {m : MethodId} {args : Array Value} {below : List Frame} {meth : Method} {c : Code} {h0 : g_H} {r : Int32} {h' : g_H} (X : gX G l yX1_loud.cls cX1_loud 4 (some .int) [] yX1_loud.name p s m args meth c) : ∀ n : Nat, w_X1_loud_4 G l p e s m args below meth c h0 r h' (f_X1_loud_4 n) := by
  have hx := X.1
  have hb := X.2.1
  have hown := X.2.2.2.1
  have hts := X.2.2.2.2.1
  intro n
  induction n with
  | zero =>
    intro a0 x1 x2 x3 h H locs cells slots ls hf hI hl
    exact (gFail_f hf).elim
  | succ n ih =>
    intro a0 x1 x2 x3 h H locs cells slots ls hf hI hl
    rw [f_X1_loud_4] at hf
    refine lv_iload_n hx hb dX1_loud_4 rfl (lv_at hl 3 rfl) ?_
    refine lv_aload_n hx hb dX1_loud_5 rfl (lv_at hl 0 rfl) ?_
    refine g_fr X hI hf fX1_1 q461 rfl rfl dX1_loud_6 (fun v101 hf => ?_)
    refine g_fiN X hI hf fX3_7 q271 rfl rfl dX1_loud_9 (fun v102 hf => ?_)
    refine lv_icmp_ge (tgt := 78) hx hb dX1_loud_12 (by decide) (fun c12 => ?_) (fun c12 => ?_)
    · have hf := g_t c12 hf
      exact b_X1_loud_78 X _ _ _ _ _ _ _ hf hI (lv_sub hl [2] rfl)
    · have hf := g_f c12 hf
      refine lv_aload_n hx hb dX1_loud_15 rfl (lv_at hl 0 rfl) ?_
      refine g_fr X hI hf fX1_1 q461 rfl rfl dX1_loud_16 (fun v103 hf => ?_)
      refine g_frN X hI hf fX3_1 q257 rfl rfl dX1_loud_19 (fun v104 hf => ?_)
      refine lv_iload_n hx hb dX1_loud_22 rfl (lv_at hl 3 rfl) ?_
      refine g_ar5 X hI hf dX1_loud_23 (fun v105 hf => ?_)
      refine g_fiN X hI hf fX5_3 q243 rfl rfl dX1_loud_24 (fun v106 hf => ?_)
      refine lv_if_eq (tgt := 33) hx hb dX1_loud_27 (by decide) (fun c27 => ?_) (fun c27 => ?_)
      · have hf := g_t c27 hf
        refine lv_aload_n hx hb dX1_loud_33 rfl (lv_at hl 0 rfl) ?_
        refine g_fr X hI hf fX1_5 q466 rfl rfl dX1_loud_34 (fun v107 hf => ?_)
        refine lv_aload_n hx hb dX1_loud_37 rfl (lv_at hl 0 rfl) ?_
        refine g_fr X hI hf fX1_1 q461 rfl rfl dX1_loud_38 (fun v108 hf => ?_)
        refine g_frN X hI hf fX3_1 q257 rfl rfl dX1_loud_41 (fun v109 hf => ?_)
        refine lv_iload_n hx hb dX1_loud_44 rfl (lv_at hl 3 rfl) ?_
        refine g_ar5 X hI hf dX1_loud_45 (fun v110 hf => ?_)
        obtain ⟨hs, hf⟩ := gCk_b hf
        refine g_cBU hI hf (fun v9 h9 e9 l9 l9' => g_rV X hI l9 l9' ⟨Nat.le_refl _, Nat.le_refl _⟩ (As := [.ref v110]) (m_X7_counts X.2.2.2.2.2.2.2.2.2.2.1 e9) ydX7_counts hs rfl rfl q547 q548 q549 q130 q550 rfl (Nat.le_of_ble_eq_true rfl) (Nat.le_of_ble_eq_true rfl) hl.1 rfl (Nat.le_of_ble_eq_true rfl) dX1_loud_46) (fun r111 h H locs cells slots hf hI => ?_)
        refine lv_iload_n hx hb dX1_loud_49 rfl (lv_at hl 2 rfl) ?_
        refine lv_aload_n hx hb dX1_loud_50 rfl (lv_at hl 0 rfl) ?_
        refine g_fr X hI hf fX1_5 q466 rfl rfl dX1_loud_51 (fun v112 hf => ?_)
        refine g_frN X hI hf fX7_2 q440 rfl rfl dX1_loud_54 (fun v113 hf => ?_)
        refine lv_aload_n hx hb dX1_loud_57 rfl (lv_at hl 0 rfl) ?_
        refine g_fr X hI hf fX1_1 q461 rfl rfl dX1_loud_58 (fun v114 hf => ?_)
        refine g_frN X hI hf fX3_0 q254 rfl rfl dX1_loud_61 (fun v115 hf => ?_)
        refine lv_iload_n hx hb dX1_loud_64 rfl (lv_at hl 1 rfl) ?_
        refine g_ar4 X hI hf dX1_loud_65 (fun v116 hf => ?_)
        refine g_fiN X hI hf fX4_3 q210 rfl rfl dX1_loud_66 (fun v117 hf => ?_)
        refine g_ai0 X hI hf dX1_loud_69 (fun v118 hf => ?_)
        refine lv_iadd hx hb dX1_loud_70 ?_
        refine lv_istore_n (lv' := [(2, .int (x2 + v118)), (0, .ref a0), (1, .int x1), (3, .int x3)]) hx hb dX1_loud_71 rfl hl (by decide) rfl (fun ls hl => ?_)
        exact b_X1_loud_72 X ih _ _ _ _ _ _ _ _ _ _ hf hI (lv_sub hl [1, 2, 0, 3] rfl)
      · have hf := g_f c27 hf
        refine lv_goto (tgt := 72) hx hb dX1_loud_30 (by decide) ?_
        exact b_X1_loud_72 X ih _ _ _ _ _ _ _ _ _ _ hf hI (lv_sub hl [0, 1, 2, 3] rfl)
def f_X1_loud (a0 : Nat) (x1 : Int32) : gM Int32 :=
    f_X1_loud_4 gN a0 x1 (0 : Int32) (0 : Int32)
set_option maxHeartbeats 4000000 in
set_option maxRecDepth 100000 in
theorem m_X1_loud {G : gG} {l : Launch} (hfl : l.stackTraces = false) {a0 : Nat} {x1 : Int32} {h h' : g_H} {r : Int32} (hf : (f_X1_loud a0 x1).1 h = some (r, h')) : gMet G l yX1_loud (Cond.code yX1_loud cX1_loud 4 (some .int)) 103 1918 [.ref a0, .int x1] h (.inl (g_wI r)) h' := by
  refine g_head hfl ((f_X1_loud a0 x1).2 h r h' hf) (plainFor_of_name (by decide)) (Nat.le_of_ble_eq_true rfl) (fun p e s m below meth c H locs cells slots ls X hI hl9 => ?_)
  have hl : lv_has ls 4 [(0, .ref a0), (1, .int x1)] := hl9
  have hx := X.1
  have hb := X.2.1
  have hown := X.2.2.2.1
  have hts := X.2.2.2.2.1
  unfold f_X1_loud at hf
  refine lv_iconst (v := (0 : Int32)) hx hb dX1_loud_0 (by decide) ?_
  refine lv_istore_n (lv' := [(2, .int (0 : Int32)), (0, .ref a0), (1, .int x1)]) hx hb dX1_loud_1 rfl hl (by decide) rfl (fun ls hl => ?_)
  refine lv_iconst (v := (0 : Int32)) hx hb dX1_loud_2 (by decide) ?_
  refine lv_istore_n (lv' := [(3, .int (0 : Int32)), (2, .int (0 : Int32)), (0, .ref a0), (1, .int x1)]) hx hb dX1_loud_3 rfl hl (by decide) rfl (fun ls hl => ?_)
  exact b_X1_loud_4 X gN _ _ _ _ _ _ _ _ _ _ hf hI (lv_sub hl [2, 3, 1, 0] rfl)
end
