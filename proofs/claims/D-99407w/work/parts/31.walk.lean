noncomputable section
/-! X1_calm -/
def f_X1_calm (a0 : Nat) (x1 : Int32) : gM (Int32 ⊕ gE) :=
    gB (f_X1_isIn x1 (0 : Int32) (9 : Int32)) fun r1 =>
    gT (f_X1_must r1) fun _ =>
    gB (gCk a0 0) fun _ =>
    gB (f_X1_remembers a0) fun _ =>
    gB (gFR a0 0 1) fun v4 =>
    gB (gFI v4 2 11) fun v5 =>
    gB (gFR a0 0 1) fun v6 =>
    gB (gPI v6 2 11 x1) fun _ =>
    (gRet (.inl v5))
set_option maxHeartbeats 4000000 in
set_option maxRecDepth 100000 in
theorem m_X1_calm {G : gG} {l : Launch} (hfl : l.stackTraces = false) {a0 : Nat} {x1 : Int32} {h h' : g_H} {r : (Int32 ⊕ gE)} (hf : (f_X1_calm a0 x1).1 h = some (r, h')) : gMet G l yX1_calm (Cond.code yX1_calm cX1_calm 3 (some .int)) 7 121 [.ref a0, .int x1] h (g_w g_wI r) h' := by
  refine g_head hfl ((f_X1_calm a0 x1).2 h r h' hf) (plainFor_of_name (by decide)) (Nat.le_of_ble_eq_true rfl) (fun p e s m below meth c H locs cells slots ls X hI hl9 => ?_)
  have hl : lv_has ls 3 [(0, .ref a0), (1, .int x1)] := hl9
  have hx := X.1
  have hb := X.2.1
  have hown := X.2.2.2.1
  have hts := X.2.2.2.2.1
  unfold f_X1_calm at hf
  refine lv_iload_n hx hb dX1_calm_0 rfl (lv_at hl 1 rfl) ?_
  refine lv_iconst (v := (0 : Int32)) hx hb dX1_calm_1 (by decide) ?_
  refine lv_bipush (v := (9 : Int32)) hx hb dX1_calm_2 (by decide) ?_
  refine g_cBI hI hf (fun v9 h9 e9 l9 l9' => g_rS (b := 0) X hI l9 l9' ⟨Nat.le_refl _, Nat.le_refl _⟩ (As := [.int x1, .int (0 : Int32), .int (9 : Int32)]) (m_X1_isIn X.2.2.2.2.2.2.2.2.2.2.1 e9) ydX1_isIn q532 q533 q121 q534 rfl (Nat.le_of_ble_eq_true rfl) (Nat.le_of_ble_eq_true rfl) hl.1 rfl (Nat.le_of_ble_eq_true rfl) dX1_calm_4) (fun r1 h H locs cells slots hf hI => ?_)
  refine g_cTU X hI (by decide) hf (fun v9 h9 e9 l9 l9' => g_rS (b := 0) X hI l9 l9' ⟨Nat.le_refl _, Nat.le_refl _⟩ (As := [.int r1]) (m_X1_must X.2.2.2.2.2.2.2.2.2.2.1 e9) ydX1_must q1200 q1201 q121 q1202 rfl (Nat.le_of_ble_eq_true rfl) (Nat.le_of_ble_eq_true rfl) hl.1 rfl (Nat.le_of_ble_eq_true rfl) dX1_calm_7) (fun r2 h H locs cells slots hf hI => ?_)
  refine lv_aload_n hx hb dX1_calm_10 rfl (lv_at hl 0 rfl) ?_
  obtain ⟨hs, hf⟩ := gCk_b hf
  refine g_cBU hI hf (fun v9 h9 e9 l9 l9' => g_rV X hI l9 l9' ⟨Nat.le_refl _, Nat.le_refl _⟩ (As := []) (m_X1_remembers X.2.2.2.2.2.2.2.2.2.2.1 e9) ydX1_remembers hs rfl rfl q1230 q1232 qs38 q121 q1233 rfl (Nat.le_of_ble_eq_true rfl) (Nat.le_of_ble_eq_true rfl) hl.1 rfl (Nat.le_of_ble_eq_true rfl) dX1_calm_11) (fun r3 h H locs cells slots hf hI => ?_)
  refine lv_aload_n hx hb dX1_calm_14 rfl (lv_at hl 0 rfl) ?_
  refine g_fr X hI hf fX1_1 q461 rfl rfl dX1_calm_15 (fun v4 hf => ?_)
  refine g_fiN X hI hf fX3_11 q282 rfl rfl dX1_calm_18 (fun v5 hf => ?_)
  refine lv_istore_n (lv' := [(2, .int v5), (0, .ref a0), (1, .int x1)]) hx hb dX1_calm_21 rfl hl (by decide) rfl (fun ls hl => ?_)
  refine lv_aload_n hx hb dX1_calm_22 rfl (lv_at hl 1 rfl) ?_
  refine g_fr X hI hf fX1_1 q461 rfl rfl dX1_calm_23 (fun v6 hf => ?_)
  refine lv_iload_n hx hb dX1_calm_26 rfl (lv_at hl 2 rfl) ?_
  refine g_piN X hI hf fX3_11 q282 rfl dX1_calm_27 (fun h H locs hf hI => ?_)
  refine lv_iload_n hx hb dX1_calm_30 rfl (lv_at hl 0 rfl) ?_
  cases gRet_e hf
  exact g_retI X hI rfl dX1_calm_31
/-! X0_calm -/
def f_X0_calm (a0 : Nat) (x1 : Int32) (a2 : Nat) : gM Int32 :=
    gB (gCk a0 0) fun _ =>
    gB (f_X1_calm a0 x1) fun r9 => match r9 with
    | .inl r1 => (gB (gSI a2 2 (0 : Int32) (r1)) fun _ =>
    (gRet (0 : Int32)))
    | .inr x9 => (gIf (x9.1 = 17)
    ((gRet (1 : Int32)))
    (gFail))
set_option maxHeartbeats 4000000 in
set_option maxRecDepth 100000 in
theorem m_X0_calm {G : gG} {l : Launch} (hfl : l.stackTraces = false) {a0 : Nat} {x1 : Int32} {a2 : Nat} {h h' : g_H} {r : Int32} (hf : (f_X0_calm a0 x1 a2).1 h = some (r, h')) : gMet G l yX0_calm (Cond.codeWith yX0_calm cX0_calm 4 (some .int) [(0, 9, 12, 13)]) 8 143 [.ref a0, .int x1, .ref a2] h (.inl (g_wI r)) h' := by
  refine g_headW hfl ((f_X0_calm a0 x1 a2).2 h r h' hf) (plainFor_of_name (by decide)) (Nat.le_of_ble_eq_true rfl) (fun p e s m below meth c H locs cells slots ls X hI hl9 => ?_)
  have hl : lv_has ls 4 [(0, .ref a0), (1, .int x1), (2, .ref a2)] := hl9
  have hx := X.1
  have hb := X.2.1
  have hown := X.2.2.2.1
  have hts := X.2.2.2.2.1
  unfold f_X0_calm at hf
  refine lv_aload_n hx hb dX0_calm_0 rfl (lv_at hl 2 rfl) ?_
  refine lv_iconst (v := (0 : Int32)) hx hb dX0_calm_1 (by decide) ?_
  refine lv_aload_n hx hb dX0_calm_2 rfl (lv_at hl 0 rfl) ?_
  refine lv_iload_n hx hb dX0_calm_3 rfl (lv_at hl 1 rfl) ?_
  obtain ⟨hs, hf⟩ := gCk_b hf
  refine g_cHI hI hf (fun v9 h9 e9 l9 l9' => g_rV X hI l9 l9' ⟨Nat.le_refl _, Nat.le_refl _⟩ (As := [.int x1]) (m_X1_calm X.2.2.2.2.2.2.2.2.2.2.1 e9) ydX1_calm hs rfl rfl q1277 q1278 q1279 q121 q1280 rfl (Nat.le_of_ble_eq_true rfl) (Nat.le_of_ble_eq_true rfl) hl.1 rfl (Nat.le_of_ble_eq_true rfl) dX0_calm_4) (fun r1 h H locs cells slots hf hI => ?_) ?_
  · refine lv_i2l hx hb dX0_calm_7 rfl ?_
    refine g_si2 X hI hf dX0_calm_8 (fun h H locs hf hI => ?_)
    refine lv_goto (tgt := 15) hx hb dX0_calm_9 (by decide) ?_
    refine lv_iconst (v := (0 : Int32)) hx hb dX0_calm_15 (by decide) ?_
    cases gRet_e hf
    exact g_retI X hI rfl dX0_calm_16
  · intro ci9 x9 h H locs cells slots r9 ce9 hf hr9 hI hce hcv hcl
    by_cases k0 : ci9 = 17
    · subst k0
      cases hr9
      have hf := g_t rfl hf
      refine g_catch0 X hI (name := "java/lang/IllegalArgumentException") rfl (by rfl) (by decide) (by decide) q785 q922 hce hcv hcl ?_
      refine lv_astore_n (lv' := [(3, .ref x9), (0, .ref a0), (1, .int x1), (2, .ref a2)]) hx hb dX0_calm_12 rfl hl (by decide) rfl (fun ls hl => ?_)
      refine lv_iconst (v := (1 : Int32)) hx hb dX0_calm_13 (by decide) ?_
      cases gRet_e hf
      exact g_retI X hI rfl dX0_calm_14
    have hf := g_f k0 hf
    exact (gFail_f hf).elim
/-! X8_calm -/
abbrev w_X8_calm_21 (G : gG) (l : Launch) (p : Program) (e : Env) (s : State) (m : MethodId) (args : Array Value) (below : List Frame) (meth : Method) (c : Code) (h0 : g_H) (r : Int32) (h' : g_H) (k : Nat → Int32 → Nat → Int32 → gM Int32) : Prop := ∀ (a0 : Nat) (x1 : Int32) (b0 : Nat) (u1 : Int32) (h : g_H) (H : Heap) (locs : List Loc) (cells slots : Nat) (ls : Array Slot), (k a0 x1 b0 u1).1 h = some (r, h') → gI G h0 h H locs cells slots → lv_has ls 3 [(0, .ref a0), (1, .int x1)] → W p l e (g_rm 2 42 h0 h') s m args below meth c H locs cells slots (gQ G below args s h0 h' (.inl (g_wI r))) (F0 m 21 ls [.int u1, .ref b0])
def f_X8_calm_21 (a0 : Nat) (x1 : Int32) (b0 : Nat) (u1 : Int32) : gM Int32 :=
    gB (gCk b0 7) fun _ =>
    gB (f_X8_throwsIf b0 u1 (1 : Int32)) fun r101 =>
    gIf (r101 = 0)
    (gB (gCk a0 7) fun _ =>
    gB (f_X8_remembers a0) fun _ =>
    gB (gFR a0 7 1) fun v103 =>
    gB (gAI v103 0 (5 : Int32)) fun v104 =>
    gB (gFR a0 7 1) fun v105 =>
    gB (gSI v105 0 (5 : Int32) x1) fun _ =>
    (gRet v104))
    ((gRet (0 : Int32)))
set_option maxHeartbeats 4000000 in
set_option maxRecDepth 100000 in
theorem b_X8_calm_21 {G : gG} {l : Launch} {p : Program} {e : Env} {s : State} {m : MethodId} {args : Array Value} {below : List Frame} {meth : Method} {c : Code} {h0 : g_H} {r : Int32} {h' : g_H} (X : gX G l yX8_calm.cls cX8_calm 3 (some .int) [] yX8_calm.name p s m args meth c) : w_X8_calm_21 G l p e s m args below meth c h0 r h' (f_X8_calm_21) := by
  have hx := X.1
  have hb := X.2.1
  have hown := X.2.2.2.1
  have hts := X.2.2.2.2.1
  intro a0 x1 b0 u1 h H locs cells slots ls hf hI hl
  unfold f_X8_calm_21 at hf
  refine lv_iconst (v := (1 : Int32)) hx hb dX8_calm_21 (by decide) ?_
  obtain ⟨hs, hf⟩ := gCk_b hf
  refine g_cBI hI hf (fun v9 h9 e9 l9 l9' => g_rV X hI l9 l9' ⟨Nat.le_refl _, Nat.le_refl _⟩ (As := [.int u1, .int (1 : Int32)]) (m_X8_throwsIf X.2.2.2.2.2.2.2.2.2.2.1 e9) ydX8_throwsIf hs rfl rfl q1736 q1738 qs72 q131 q1739 rfl (Nat.le_of_ble_eq_true rfl) (Nat.le_of_ble_eq_true rfl) hl.1 rfl (Nat.le_of_ble_eq_true rfl) dX8_calm_22) (fun r101 h H locs cells slots hf hI => ?_)
  refine lv_if_eq (tgt := 30) hx hb dX8_calm_25 (by decide) (fun c25 => ?_) (fun c25 => ?_)
  · have hf := g_t c25 hf
    refine lv_aload_n hx hb dX8_calm_30 rfl (lv_at hl 0 rfl) ?_
    obtain ⟨hs, hf⟩ := gCk_b hf
    refine g_cBU hI hf (fun v9 h9 e9 l9 l9' => g_rV X hI l9 l9' ⟨Nat.le_refl _, Nat.le_refl _⟩ (As := []) (m_X8_remembers X.2.2.2.2.2.2.2.2.2.2.1 e9) ydX8_remembers hs rfl rfl q1808 q1810 qs83 q131 q1811 rfl (Nat.le_of_ble_eq_true rfl) (Nat.le_of_ble_eq_true rfl) hl.1 rfl (Nat.le_of_ble_eq_true rfl) dX8_calm_31) (fun r102 h H locs cells slots hf hI => ?_)
    refine lv_aload_n hx hb dX8_calm_34 rfl (lv_at hl 0 rfl) ?_
    refine g_fr X hI hf fX8_1 q1445 rfl rfl dX8_calm_35 (fun v103 hf => ?_)
    refine lv_iconst (v := (5 : Int32)) hx hb dX8_calm_38 (by decide) ?_
    refine g_ai0 X hI hf dX8_calm_39 (fun v104 hf => ?_)
    refine lv_istore_n (lv' := [(2, .int v104), (0, .ref a0), (1, .int x1)]) hx hb dX8_calm_40 rfl hl (by decide) rfl (fun ls hl => ?_)
    refine lv_aload_n hx hb dX8_calm_41 rfl (lv_at hl 1 rfl) ?_
    refine g_fr X hI hf fX8_1 q1445 rfl rfl dX8_calm_42 (fun v105 hf => ?_)
    refine lv_iconst (v := (5 : Int32)) hx hb dX8_calm_45 (by decide) ?_
    refine lv_iload_n hx hb dX8_calm_46 rfl (lv_at hl 2 rfl) ?_
    refine g_si0 X hI hf dX8_calm_47 (fun h H locs hf hI => ?_)
    refine lv_iload_n hx hb dX8_calm_48 rfl (lv_at hl 0 rfl) ?_
    cases gRet_e hf
    exact g_retI X hI rfl dX8_calm_49
  · have hf := g_f c25 hf
    refine lv_iconst (v := (0 : Int32)) hx hb dX8_calm_28 (by decide) ?_
    cases gRet_e hf
    exact g_retI X hI rfl dX8_calm_29
def f_X8_calm (a0 : Nat) (x1 : Int32) : gM Int32 :=
    gB (gPI a0 7 0 (0 : Int32)) fun _ =>
    gB (f_X8_in x1 (0 : Int32) (9 : Int32)) fun r1 =>
    gIf (r1 = 0)
    (f_X8_calm_21 a0 x1 a0 (1 : Int32))
    (f_X8_calm_21 a0 x1 a0 (0 : Int32))
set_option maxHeartbeats 4000000 in
set_option maxRecDepth 100000 in
theorem m_X8_calm {G : gG} {l : Launch} (hfl : l.stackTraces = false) {a0 : Nat} {x1 : Int32} {h h' : g_H} {r : Int32} (hf : (f_X8_calm a0 x1).1 h = some (r, h')) : gMet G l yX8_calm (Cond.code yX8_calm cX8_calm 3 (some .int)) 2 42 [.ref a0, .int x1] h (.inl (g_wI r)) h' := by
  refine g_head hfl ((f_X8_calm a0 x1).2 h r h' hf) (plainFor_of_name (by decide)) (Nat.le_of_ble_eq_true rfl) (fun p e s m below meth c H locs cells slots ls X hI hl9 => ?_)
  have hl : lv_has ls 3 [(0, .ref a0), (1, .int x1)] := hl9
  have hx := X.1
  have hb := X.2.1
  have hown := X.2.2.2.1
  have hts := X.2.2.2.2.1
  unfold f_X8_calm at hf
  refine lv_aload_n hx hb dX8_calm_0 rfl (lv_at hl 0 rfl) ?_
  refine lv_iconst (v := (0 : Int32)) hx hb dX8_calm_1 (by decide) ?_
  refine g_pi X hI hf fX8_0 q1444 rfl dX8_calm_2 (fun h H locs hf hI => ?_)
  refine lv_aload_n hx hb dX8_calm_5 rfl (lv_at hl 0 rfl) ?_
  refine lv_iload_n hx hb dX8_calm_6 rfl (lv_at hl 1 rfl) ?_
  refine lv_iconst (v := (0 : Int32)) hx hb dX8_calm_7 (by decide) ?_
  refine lv_bipush (v := (9 : Int32)) hx hb dX8_calm_8 (by decide) ?_
  refine g_cBI hI hf (fun v9 h9 e9 l9 l9' => g_rS (b := 0) X hI l9 l9' ⟨Nat.le_refl _, Nat.le_refl _⟩ (As := [.int x1, .int (0 : Int32), .int (9 : Int32)]) (m_X8_in X.2.2.2.2.2.2.2.2.2.2.1 e9) ydX8_in q1634 q1635 q131 q1636 rfl (Nat.le_of_ble_eq_true rfl) (Nat.le_of_ble_eq_true rfl) hl.1 rfl (Nat.le_of_ble_eq_true rfl) dX8_calm_10) (fun r1 h H locs cells slots hf hI => ?_)
  refine lv_if_ne (tgt := 20) hx hb dX8_calm_13 (by decide) (fun c13 => ?_) (fun c13 => ?_)
  · have hf := g_f c13 hf
    refine lv_iconst (v := (0 : Int32)) hx hb dX8_calm_20 (by decide) ?_
    exact b_X8_calm_21 X _ _ _ _ _ _ _ _ _ _ hf hI (lv_sub hl [0, 1] rfl)
  · have hf := g_t c13 hf
    refine lv_iconst (v := (1 : Int32)) hx hb dX8_calm_16 (by decide) ?_
    refine lv_goto (tgt := 21) hx hb dX8_calm_17 (by decide) ?_
    exact b_X8_calm_21 X _ _ _ _ _ _ _ _ _ _ hf hI (lv_sub hl [0, 1] rfl)
/-! X1_can -/
def f_X1_can (x0 : Int32) : gM (Unit ⊕ gE) :=
    gIf (x0 = 0)
    (gB (gNew 13 6) fun a1 =>
    gB (gCk a1 13) fun _ =>
    gRet (.inr (13, a1)))
    (gRet (.inl ()))
set_option maxHeartbeats 4000000 in
set_option maxRecDepth 100000 in
theorem m_X1_can {G : gG} {l : Launch} (hfl : l.stackTraces = false) {x0 : Int32} {h h' : g_H} {r : (Unit ⊕ gE)} (hf : (f_X1_can x0).1 h = some (r, h')) : gMet G l yX1_can (Cond.code yX1_can cX1_can 1 none) 6 89 [.int x0] h (g_w g_wU r) h' := by
  refine g_head hfl ((f_X1_can x0).2 h r h' hf) (plainFor_of_name (by decide)) (Nat.le_of_ble_eq_true rfl) (fun p e s m below meth c H locs cells slots ls X hI hl9 => ?_)
  have hl : lv_has ls 1 [(0, .int x0)] := hl9
  have hx := X.1
  have hb := X.2.1
  have hown := X.2.2.2.1
  have hts := X.2.2.2.2.1
  unfold f_X1_can at hf
  refine lv_iload_n hx hb dX1_can_0 rfl (lv_at hl 0 rfl) ?_
  refine lv_if_ne (tgt := 12) hx hb dX1_can_1 (by decide) (fun c1 => ?_) (fun c1 => ?_)
  · have hf := g_f c1 hf
    cases gRet_e hf
    exact g_retU X hI rfl dX1_can_12
  · have hf := g_t c1 hf
    refine g_make (names := ["java/lang/RuntimeException", "java/lang/Exception"]) (ik := 82) (ic := 84) (cls := "java/lang/IllegalStateException") X hI hf ⟨Nat.le_refl _, Nat.le_refl _⟩ rfl rfl rfl rfl (by decide) (by decide) q1215 q152 (g_hat X x13_1 x13_2) (List.all_eq_true.mp x13_3) hl.1 dX1_can_4 dX1_can_7 dX1_can_8 (Nat.lt_of_lt_of_le (show 2 + 3 < 6 by decide) (Nat.le_of_ble_eq_true rfl)) (Nat.le_of_ble_eq_true rfl) (Nat.le_of_ble_eq_true rfl) (fun a1 h H cells slots hf hI => ?_)
    obtain ⟨hs, hf⟩ := gCk_b hf
    cases gRet_e hf
    exact g_athrow X hI (by decide) hs rfl rfl dX1_can_11
/-! X1_inside -/
abbrev w_X1_inside_18 (G : gG) (l : Launch) (p : Program) (e : Env) (s : State) (m : MethodId) (args : Array Value) (below : List Frame) (meth : Method) (c : Code) (h0 : g_H) (r : (Int32 ⊕ gE)) (h' : g_H) (k : Nat → Nat → Int32 → gM (Int32 ⊕ gE)) : Prop := ∀ (a0 : Nat) (a2 : Nat) (u0 : Int32) (h : g_H) (H : Heap) (locs : List Loc) (cells slots : Nat) (ls : Array Slot), (k a0 a2 u0).1 h = some (r, h') → gI G h0 h H locs cells slots → lv_has ls 3 [(0, .ref a0), (2, .ref a2)] → W p l e (g_rm 8 130 h0 h') s m args below meth c H locs cells slots (gQ G below args s h0 h' (g_w g_wI r)) (F0 m 18 ls [.int u0])
def f_X1_inside_18 (a0 : Nat) (a2 : Nat) (u0 : Int32) : gM (Int32 ⊕ gE) :=
    gT (f_X1_can u0) fun _ =>
    gB (gCk a0 0) fun _ =>
    gB (f_X1_remembers a0) fun _ =>
    gB (gPI a2 4 3 (3 : Int32)) fun _ =>
    gB (gFR a0 0 1) fun v103 =>
    gB (gCk v103 2) fun _ =>
    gB (f_X3_those v103 (3 : Int32)) fun r104 =>
    gB (f_J7_bitCount r104) fun r105 =>
    (gRet (.inl r105))
set_option maxHeartbeats 4000000 in
set_option maxRecDepth 100000 in
theorem b_X1_inside_18 {G : gG} {l : Launch} {p : Program} {e : Env} {s : State} {m : MethodId} {args : Array Value} {below : List Frame} {meth : Method} {c : Code} {h0 : g_H} {r : (Int32 ⊕ gE)} {h' : g_H} (X : gX G l yX1_inside.cls cX1_inside 3 (some .int) [] yX1_inside.name p s m args meth c) : w_X1_inside_18 G l p e s m args below meth c h0 r h' (f_X1_inside_18) := by
  have hx := X.1
  have hb := X.2.1
  have hown := X.2.2.2.1
  have hts := X.2.2.2.2.1
  intro a0 a2 u0 h H locs cells slots ls hf hI hl
  unfold f_X1_inside_18 at hf
  refine g_cTU X hI (by decide) hf (fun v9 h9 e9 l9 l9' => g_rS (b := 0) X hI l9 l9' ⟨Nat.le_refl _, Nat.le_refl _⟩ (As := [.int u0]) (m_X1_can X.2.2.2.2.2.2.2.2.2.2.1 e9) ydX1_can q1212 q1213 q121 q1214 rfl (Nat.le_of_ble_eq_true rfl) (Nat.le_of_ble_eq_true rfl) hl.1 rfl (Nat.le_of_ble_eq_true rfl) dX1_inside_18) (fun r101 h H locs cells slots hf hI => ?_)
  refine lv_aload_n hx hb dX1_inside_21 rfl (lv_at hl 0 rfl) ?_
  obtain ⟨hs, hf⟩ := gCk_b hf
  refine g_cBU hI hf (fun v9 h9 e9 l9 l9' => g_rV X hI l9 l9' ⟨Nat.le_refl _, Nat.le_refl _⟩ (As := []) (m_X1_remembers X.2.2.2.2.2.2.2.2.2.2.1 e9) ydX1_remembers hs rfl rfl q1230 q1232 qs38 q121 q1233 rfl (Nat.le_of_ble_eq_true rfl) (Nat.le_of_ble_eq_true rfl) hl.1 rfl (Nat.le_of_ble_eq_true rfl) dX1_inside_22) (fun r102 h H locs cells slots hf hI => ?_)
  refine lv_aload_n hx hb dX1_inside_25 rfl (lv_at hl 1 rfl) ?_
  refine lv_iconst (v := (3 : Int32)) hx hb dX1_inside_26 (by decide) ?_
  refine g_piN X hI hf fX5_3 q243 rfl dX1_inside_27 (fun h H locs hf hI => ?_)
  refine lv_aload_n hx hb dX1_inside_30 rfl (lv_at hl 0 rfl) ?_
  refine g_fr X hI hf fX1_1 q461 rfl rfl dX1_inside_31 (fun v103 hf => ?_)
  refine lv_iconst (v := (3 : Int32)) hx hb dX1_inside_34 (by decide) ?_
  obtain ⟨hs, hf⟩ := gCk_b hf
  refine g_cBI hI hf (fun v9 h9 e9 l9 l9' => g_rV X hI l9 l9' ⟨Nat.le_refl _, Nat.le_refl _⟩ (As := [.int (3 : Int32)]) (m_X3_those X.2.2.2.2.2.2.2.2.2.2.1 e9) ydX3_those hs rfl rfl q774 q775 q776 q123 q777 rfl (Nat.le_of_ble_eq_true rfl) (Nat.le_of_ble_eq_true rfl) hl.1 rfl (Nat.le_of_ble_eq_true rfl) dX1_inside_35) (fun r104 h H locs cells slots hf hI => ?_)
  refine g_cBI hI hf (fun v9 h9 e9 l9 l9' => g_rS (b := 0) X hI l9 l9' ⟨Nat.le_refl _, Nat.le_refl _⟩ (As := [.int r104]) (m_J7_bitCount X.2.2.2.2.2.2.2.2.2.2.1 e9) ydJ7_bitCount q658 q659 q137 q660 rfl (Nat.le_of_ble_eq_true rfl) (Nat.le_of_ble_eq_true rfl) hl.1 rfl (Nat.le_of_ble_eq_true rfl) dX1_inside_38) (fun r105 h H locs cells slots hf hI => ?_)
  cases gRet_e hf
  exact g_retI X hI rfl dX1_inside_41
def f_X1_inside (a0 : Nat) (x1 : Int32) : gM (Int32 ⊕ gE) :=
    gB (gCk a0 0) fun _ =>
    gT (f_X1_oneAt a0 x1) fun r1 =>
    gB (gFI r1 4 3) fun v2 =>
    gIf (v2 = 0)
    (f_X1_inside_18 a0 r1 (1 : Int32))
    (f_X1_inside_18 a0 r1 (0 : Int32))
set_option maxHeartbeats 4000000 in
set_option maxRecDepth 100000 in
theorem m_X1_inside {G : gG} {l : Launch} (hfl : l.stackTraces = false) {a0 : Nat} {x1 : Int32} {h h' : g_H} {r : (Int32 ⊕ gE)} (hf : (f_X1_inside a0 x1).1 h = some (r, h')) : gMet G l yX1_inside (Cond.code yX1_inside cX1_inside 3 (some .int)) 8 130 [.ref a0, .int x1] h (g_w g_wI r) h' := by
  refine g_head hfl ((f_X1_inside a0 x1).2 h r h' hf) (plainFor_of_name (by decide)) (Nat.le_of_ble_eq_true rfl) (fun p e s m below meth c H locs cells slots ls X hI hl9 => ?_)
  have hl : lv_has ls 3 [(0, .ref a0), (1, .int x1)] := hl9
  have hx := X.1
  have hb := X.2.1
  have hown := X.2.2.2.1
  have hts := X.2.2.2.2.1
  unfold f_X1_inside at hf
  refine lv_aload_n hx hb dX1_inside_0 rfl (lv_at hl 0 rfl) ?_
  refine lv_iload_n hx hb dX1_inside_1 rfl (lv_at hl 1 rfl) ?_
  obtain ⟨hs, hf⟩ := gCk_b hf
  refine g_cTR X hI (by decide) hf (fun v9 h9 e9 l9 l9' => g_rV X hI l9 l9' ⟨Nat.le_refl _, Nat.le_refl _⟩ (As := [.int x1]) (m_X1_oneAt X.2.2.2.2.2.2.2.2.2.2.1 e9) ydX1_oneAt hs rfl rfl q1189 q1191 qs37 q121 q1192 rfl (Nat.le_of_ble_eq_true rfl) (Nat.le_of_ble_eq_true rfl) hl.1 rfl (Nat.le_of_ble_eq_true rfl) dX1_inside_2) (fun r1 h H locs cells slots hf hI => ?_)
  refine lv_astore_n (lv' := [(2, .ref r1), (0, .ref a0), (1, .int x1)]) hx hb dX1_inside_5 rfl hl (by decide) rfl (fun ls hl => ?_)
  refine lv_aload_n hx hb dX1_inside_6 rfl (lv_at hl 0 rfl) ?_
  refine g_fiN X hI hf fX5_3 q243 rfl rfl dX1_inside_7 (fun v2 hf => ?_)
  refine lv_if_ne (tgt := 17) hx hb dX1_inside_10 (by decide) (fun c10 => ?_) (fun c10 => ?_)
  · have hf := g_f c10 hf
    refine lv_iconst (v := (0 : Int32)) hx hb dX1_inside_17 (by decide) ?_
    exact b_X1_inside_18 X _ _ _ _ _ _ _ _ _ hf hI (lv_sub hl [1, 0] rfl)
  · have hf := g_t c10 hf
    refine lv_iconst (v := (1 : Int32)) hx hb dX1_inside_13 (by decide) ?_
    refine lv_goto (tgt := 18) hx hb dX1_inside_14 (by decide) ?_
    exact b_X1_inside_18 X _ _ _ _ _ _ _ _ _ hf hI (lv_sub hl [1, 0] rfl)
/-! X0_inside -/
def f_X0_inside (a0 : Nat) (x1 : Int32) (a2 : Nat) : gM Int32 :=
    gB (gCk a0 0) fun _ =>
    gB (f_X1_inside a0 x1) fun r9 => match r9 with
    | .inl r1 => (gB (gSI a2 2 (0 : Int32) (r1)) fun _ =>
    (gRet (0 : Int32)))
    | .inr x9 => (gIf (x9.1 = 19)
    ((gRet (1 : Int32)))
    (gIf (x9.1 = 13)
    ((gRet (2 : Int32)))
    (gFail)))
set_option maxHeartbeats 4000000 in
set_option maxRecDepth 100000 in
theorem m_X0_inside {G : gG} {l : Launch} (hfl : l.stackTraces = false) {a0 : Nat} {x1 : Int32} {a2 : Nat} {h h' : g_H} {r : Int32} (hf : (f_X0_inside a0 x1 a2).1 h = some (r, h')) : gMet G l yX0_inside (Cond.codeWith yX0_inside cX0_inside 4 (some .int) [(0, 9, 12, 24), (0, 9, 15, 42)]) 9 152 [.ref a0, .int x1, .ref a2] h (.inl (g_wI r)) h' := by
  refine g_headW hfl ((f_X0_inside a0 x1 a2).2 h r h' hf) (plainFor_of_name (by decide)) (Nat.le_of_ble_eq_true rfl) (fun p e s m below meth c H locs cells slots ls X hI hl9 => ?_)
  have hl : lv_has ls 4 [(0, .ref a0), (1, .int x1), (2, .ref a2)] := hl9
  have hx := X.1
  have hb := X.2.1
  have hown := X.2.2.2.1
  have hts := X.2.2.2.2.1
  unfold f_X0_inside at hf
  refine lv_aload_n hx hb dX0_inside_0 rfl (lv_at hl 2 rfl) ?_
  refine lv_iconst (v := (0 : Int32)) hx hb dX0_inside_1 (by decide) ?_
  refine lv_aload_n hx hb dX0_inside_2 rfl (lv_at hl 0 rfl) ?_
  refine lv_iload_n hx hb dX0_inside_3 rfl (lv_at hl 1 rfl) ?_
  obtain ⟨hs, hf⟩ := gCk_b hf
  refine g_cHI hI hf (fun v9 h9 e9 l9 l9' => g_rV X hI l9 l9' ⟨Nat.le_refl _, Nat.le_refl _⟩ (As := [.int x1]) (m_X1_inside X.2.2.2.2.2.2.2.2.2.2.1 e9) ydX1_inside hs rfl rfl q1270 q1271 q1272 q121 q1273 rfl (Nat.le_of_ble_eq_true rfl) (Nat.le_of_ble_eq_true rfl) hl.1 rfl (Nat.le_of_ble_eq_true rfl) dX0_inside_4) (fun r1 h H locs cells slots hf hI => ?_) ?_
  · refine lv_i2l hx hb dX0_inside_7 rfl ?_
    refine g_si2 X hI hf dX0_inside_8 (fun h H locs hf hI => ?_)
    refine lv_goto (tgt := 18) hx hb dX0_inside_9 (by decide) ?_
    refine lv_iconst (v := (0 : Int32)) hx hb dX0_inside_18 (by decide) ?_
    cases gRet_e hf
    exact g_retI X hI rfl dX0_inside_19
  · intro ci9 x9 h H locs cells slots r9 ce9 hf hr9 hI hce hcv hcl
    by_cases k0 : ci9 = 19
    · subst k0
      cases hr9
      have hf := g_t rfl hf
      refine g_catch0 X hI (name := "java/lang/IndexOutOfBoundsException") rfl (by rfl) (by decide) (by decide) q1098 q1144 hce hcv hcl ?_
      refine lv_astore_n (lv' := [(3, .ref x9), (0, .ref a0), (1, .int x1), (2, .ref a2)]) hx hb dX0_inside_12 rfl hl (by decide) rfl (fun ls hl => ?_)
      refine lv_iconst (v := (1 : Int32)) hx hb dX0_inside_13 (by decide) ?_
      cases gRet_e hf
      exact g_retI X hI rfl dX0_inside_14
    have hf := g_f k0 hf
    by_cases k1 : ci9 = 13
    · subst k1
      cases hr9
      have hf := g_t rfl hf
      refine g_catch1 X hI (name := "java/lang/IllegalStateException") rfl (by rfl) (by decide) (by decide) q1207 q1217 q1098 (List.mem_of_getElem? (i := 3) rfl) hce hcv hcl ?_
      refine lv_astore_n (lv' := [(3, .ref x9), (0, .ref a0), (1, .int x1), (2, .ref a2)]) hx hb dX0_inside_15 rfl hl (by decide) rfl (fun ls hl => ?_)
      refine lv_iconst (v := (2 : Int32)) hx hb dX0_inside_16 (by decide) ?_
      cases gRet_e hf
      exact g_retI X hI rfl dX0_inside_17
    have hf := g_f k1 hf
    exact (gFail_f hf).elim
/-! X8_inside -/
abbrev w_X8_inside_39 (G : gG) (l : Launch) (p : Program) (e : Env) (s : State) (m : MethodId) (args : Array Value) (below : List Frame) (meth : Method) (c : Code) (h0 : g_H) (r : Int32) (h' : g_H) (k : gM Int32) : Prop := ∀ (h : g_H) (H : Heap) (locs : List Loc) (cells slots : Nat) (ls : Array Slot), (k).1 h = some (r, h') → gI G h0 h H locs cells slots → lv_has ls 2 [] → W p l e (g_rm 4 86 h0 h') s m args below meth c H locs cells slots (gQ G below args s h0 h' (.inl (g_wI r))) (F0 m 39 ls [])
abbrev w_X8_inside_32 (G : gG) (l : Launch) (p : Program) (e : Env) (s : State) (m : MethodId) (args : Array Value) (below : List Frame) (meth : Method) (c : Code) (h0 : g_H) (r : Int32) (h' : g_H) (k : Nat → Int32 → Nat → Int32 → gM Int32) : Prop := ∀ (a0 : Nat) (x1 : Int32) (b0 : Nat) (u1 : Int32) (h : g_H) (H : Heap) (locs : List Loc) (cells slots : Nat) (ls : Array Slot), (k a0 x1 b0 u1).1 h = some (r, h') → gI G h0 h H locs cells slots → lv_has ls 2 [(0, .ref a0), (1, .int x1)] → W p l e (g_rm 4 86 h0 h') s m args below meth c H locs cells slots (gQ G below args s h0 h' (.inl (g_wI r))) (F0 m 32 ls [.int u1, .ref b0])
def f_X8_inside_39 : gM Int32 :=
    (gRet (0 : Int32))
set_option maxHeartbeats 4000000 in
set_option maxRecDepth 100000 in
theorem b_X8_inside_39 {G : gG} {l : Launch} {p : Program} {e : Env} {s : State} {m : MethodId} {args : Array Value} {below : List Frame} {meth : Method} {c : Code} {h0 : g_H} {r : Int32} {h' : g_H} (X : gX G l yX8_inside.cls cX8_inside 2 (some .int) [] yX8_inside.name p s m args meth c) : w_X8_inside_39 G l p e s m args below meth c h0 r h' (f_X8_inside_39) := by
  have hx := X.1
  have hb := X.2.1
  have hown := X.2.2.2.1
  have hts := X.2.2.2.2.1
  intro h H locs cells slots ls hf hI hl
  unfold f_X8_inside_39 at hf
  refine lv_iconst (v := (0 : Int32)) hx hb dX8_inside_39 (by decide) ?_
  cases gRet_e hf
  exact g_retI X hI rfl dX8_inside_40
def f_X8_inside_32 (a0 : Nat) (x1 : Int32) (b0 : Nat) (u1 : Int32) : gM Int32 :=
    gB (gCk b0 7) fun _ =>
    gB (f_X8_throwsIf b0 u1 (2 : Int32)) fun r101 =>
    gIf (r101 = 0)
    (gB (gCk a0 7) fun _ =>
    gB (f_X8_remembers a0) fun _ =>
    gB (gFR a0 7 1) fun v103 =>
    gB (f_X8_oneAt x1 (3 : Int32)) fun r104 =>
    gB (gSI v103 0 r104 (3 : Int32)) fun _ =>
    gB (gCk a0 7) fun _ =>
    gB (f_X8_ofState a0 (3 : Int32)) fun r105 =>
    gB (f_J7_bitCount r105) fun r106 =>
    (gRet r106))
    (f_X8_inside_39)
set_option maxHeartbeats 4000000 in
set_option maxRecDepth 100000 in
theorem b_X8_inside_32 {G : gG} {l : Launch} {p : Program} {e : Env} {s : State} {m : MethodId} {args : Array Value} {below : List Frame} {meth : Method} {c : Code} {h0 : g_H} {r : Int32} {h' : g_H} (X : gX G l yX8_inside.cls cX8_inside 2 (some .int) [] yX8_inside.name p s m args meth c) : w_X8_inside_32 G l p e s m args below meth c h0 r h' (f_X8_inside_32) := by
  have hx := X.1
  have hb := X.2.1
  have hown := X.2.2.2.1
  have hts := X.2.2.2.2.1
  intro a0 x1 b0 u1 h H locs cells slots ls hf hI hl
  unfold f_X8_inside_32 at hf
  refine lv_iconst (v := (2 : Int32)) hx hb dX8_inside_32 (by decide) ?_
  obtain ⟨hs, hf⟩ := gCk_b hf
  refine g_cBI hI hf (fun v9 h9 e9 l9 l9' => g_rV X hI l9 l9' ⟨Nat.le_refl _, Nat.le_refl _⟩ (As := [.int u1, .int (2 : Int32)]) (m_X8_throwsIf X.2.2.2.2.2.2.2.2.2.2.1 e9) ydX8_throwsIf hs rfl rfl q1736 q1738 qs72 q131 q1739 rfl (Nat.le_of_ble_eq_true rfl) (Nat.le_of_ble_eq_true rfl) hl.1 rfl (Nat.le_of_ble_eq_true rfl) dX8_inside_33) (fun r101 h H locs cells slots hf hI => ?_)
  refine lv_if_eq (tgt := 41) hx hb dX8_inside_36 (by decide) (fun c36 => ?_) (fun c36 => ?_)
  · have hf := g_t c36 hf
    refine lv_aload_n hx hb dX8_inside_41 rfl (lv_at hl 0 rfl) ?_
    obtain ⟨hs, hf⟩ := gCk_b hf
    refine g_cBU hI hf (fun v9 h9 e9 l9 l9' => g_rV X hI l9 l9' ⟨Nat.le_refl _, Nat.le_refl _⟩ (As := []) (m_X8_remembers X.2.2.2.2.2.2.2.2.2.2.1 e9) ydX8_remembers hs rfl rfl q1808 q1810 qs83 q131 q1811 rfl (Nat.le_of_ble_eq_true rfl) (Nat.le_of_ble_eq_true rfl) hl.1 rfl (Nat.le_of_ble_eq_true rfl) dX8_inside_42) (fun r102 h H locs cells slots hf hI => ?_)
    refine lv_aload_n hx hb dX8_inside_45 rfl (lv_at hl 0 rfl) ?_
    refine g_fr X hI hf fX8_1 q1445 rfl rfl dX8_inside_46 (fun v103 hf => ?_)
    refine lv_iload_n hx hb dX8_inside_49 rfl (lv_at hl 1 rfl) ?_
    refine lv_iconst (v := (3 : Int32)) hx hb dX8_inside_50 (by decide) ?_
    refine g_cBI hI hf (fun v9 h9 e9 l9 l9' => g_rS (b := 0) X hI l9 l9' ⟨Nat.le_refl _, Nat.le_refl _⟩ (As := [.int x1, .int (3 : Int32)]) (m_X8_oneAt X.2.2.2.2.2.2.2.2.2.2.1 e9) ydX8_oneAt q1680 q1681 q131 q1682 rfl (Nat.le_of_ble_eq_true rfl) (Nat.le_of_ble_eq_true rfl) hl.1 rfl (Nat.le_of_ble_eq_true rfl) dX8_inside_51) (fun r104 h H locs cells slots hf hI => ?_)
    refine lv_iconst (v := (3 : Int32)) hx hb dX8_inside_54 (by decide) ?_
    refine g_si0 X hI hf dX8_inside_55 (fun h H locs hf hI => ?_)
    refine lv_aload_n hx hb dX8_inside_56 rfl (lv_at hl 0 rfl) ?_
    refine lv_iconst (v := (3 : Int32)) hx hb dX8_inside_57 (by decide) ?_
    obtain ⟨hs, hf⟩ := gCk_b hf
    refine g_cBI hI hf (fun v9 h9 e9 l9 l9' => g_rV X hI l9 l9' ⟨Nat.le_refl _, Nat.le_refl _⟩ (As := [.int (3 : Int32)]) (m_X8_ofState X.2.2.2.2.2.2.2.2.2.2.1 e9) ydX8_ofState hs rfl rfl q1870 q1872 qs93 q131 q1873 rfl (Nat.le_of_ble_eq_true rfl) (Nat.le_of_ble_eq_true rfl) hl.1 rfl (Nat.le_of_ble_eq_true rfl) dX8_inside_58) (fun r105 h H locs cells slots hf hI => ?_)
    refine g_cBI hI hf (fun v9 h9 e9 l9 l9' => g_rS (b := 0) X hI l9 l9' ⟨Nat.le_refl _, Nat.le_refl _⟩ (As := [.int r105]) (m_J7_bitCount X.2.2.2.2.2.2.2.2.2.2.1 e9) ydJ7_bitCount q1640 q659 q137 q660 rfl (Nat.le_of_ble_eq_true rfl) (Nat.le_of_ble_eq_true rfl) hl.1 rfl (Nat.le_of_ble_eq_true rfl) dX8_inside_61) (fun r106 h H locs cells slots hf hI => ?_)
    cases gRet_e hf
    exact g_retI X hI rfl dX8_inside_64
  · have hf := g_f c36 hf
    exact b_X8_inside_39 X _ _ _ _ _ _ hf hI (lv_sub hl [] rfl)
def f_X8_inside (a0 : Nat) (x1 : Int32) : gM Int32 :=
    gB (gPI a0 7 0 (0 : Int32)) fun _ =>
    gB (gCk a0 7) fun _ =>
    gB (f_X8_noOne a0 x1) fun r1 =>
    gB (gCk a0 7) fun _ =>
    gB (f_X8_throwsIf a0 r1 (1 : Int32)) fun r2 =>
    gIf (r2 = 0)
    (gB (gCk a0 7) fun _ =>
    gB (f_X8_waits a0 x1) fun r3 =>
    gIf (r3 = 0)
    (f_X8_inside_32 a0 x1 a0 (1 : Int32))
    (f_X8_inside_32 a0 x1 a0 (0 : Int32)))
    (f_X8_inside_39)
set_option maxHeartbeats 4000000 in
set_option maxRecDepth 100000 in
theorem m_X8_inside {G : gG} {l : Launch} (hfl : l.stackTraces = false) {a0 : Nat} {x1 : Int32} {h h' : g_H} {r : Int32} (hf : (f_X8_inside a0 x1).1 h = some (r, h')) : gMet G l yX8_inside (Cond.code yX8_inside cX8_inside 2 (some .int)) 4 86 [.ref a0, .int x1] h (.inl (g_wI r)) h' := by
  refine g_head hfl ((f_X8_inside a0 x1).2 h r h' hf) (plainFor_of_name (by decide)) (Nat.le_of_ble_eq_true rfl) (fun p e s m below meth c H locs cells slots ls X hI hl9 => ?_)
  have hl : lv_has ls 2 [(0, .ref a0), (1, .int x1)] := hl9
  have hx := X.1
  have hb := X.2.1
  have hown := X.2.2.2.1
  have hts := X.2.2.2.2.1
  unfold f_X8_inside at hf
  refine lv_aload_n hx hb dX8_inside_0 rfl (lv_at hl 0 rfl) ?_
  refine lv_iconst (v := (0 : Int32)) hx hb dX8_inside_1 (by decide) ?_
  refine g_pi X hI hf fX8_0 q1444 rfl dX8_inside_2 (fun h H locs hf hI => ?_)
  refine lv_aload_n hx hb dX8_inside_5 rfl (lv_at hl 0 rfl) ?_
  refine lv_aload_n hx hb dX8_inside_6 rfl (lv_at hl 0 rfl) ?_
  refine lv_iload_n hx hb dX8_inside_7 rfl (lv_at hl 1 rfl) ?_
  obtain ⟨hs, hf⟩ := gCk_b hf
  refine g_cBI hI hf (fun v9 h9 e9 l9 l9' => g_rV X hI l9 l9' ⟨Nat.le_refl _, Nat.le_refl _⟩ (As := [.int x1]) (m_X8_noOne X.2.2.2.2.2.2.2.2.2.2.1 e9) ydX8_noOne hs rfl rfl q1763 q1765 qs74 q131 q1766 rfl (Nat.le_of_ble_eq_true rfl) (Nat.le_of_ble_eq_true rfl) hl.1 rfl (Nat.le_of_ble_eq_true rfl) dX8_inside_8) (fun r1 h H locs cells slots hf hI => ?_)
  refine lv_iconst (v := (1 : Int32)) hx hb dX8_inside_11 (by decide) ?_
  obtain ⟨hs, hf⟩ := gCk_b hf
  refine g_cBI hI hf (fun v9 h9 e9 l9 l9' => g_rV X hI l9 l9' ⟨Nat.le_refl _, Nat.le_refl _⟩ (As := [.int r1, .int (1 : Int32)]) (m_X8_throwsIf X.2.2.2.2.2.2.2.2.2.2.1 e9) ydX8_throwsIf hs rfl rfl q1736 q1738 qs72 q131 q1739 rfl (Nat.le_of_ble_eq_true rfl) (Nat.le_of_ble_eq_true rfl) hl.1 rfl (Nat.le_of_ble_eq_true rfl) dX8_inside_12) (fun r2 h H locs cells slots hf hI => ?_)
  refine lv_if_ne (tgt := 39) hx hb dX8_inside_15 (by decide) (fun c15 => ?_) (fun c15 => ?_)
  · have hf := g_f c15 hf
    exact b_X8_inside_39 X _ _ _ _ _ _ hf hI (lv_sub hl [] rfl)
  · have hf := g_t c15 hf
    refine lv_aload_n hx hb dX8_inside_18 rfl (lv_at hl 0 rfl) ?_
    refine lv_aload_n hx hb dX8_inside_19 rfl (lv_at hl 0 rfl) ?_
    refine lv_iload_n hx hb dX8_inside_20 rfl (lv_at hl 1 rfl) ?_
    obtain ⟨hs, hf⟩ := gCk_b hf
    refine g_cBI hI hf (fun v9 h9 e9 l9 l9' => g_rV X hI l9 l9' ⟨Nat.le_refl _, Nat.le_refl _⟩ (As := [.int x1]) (m_X8_waits X.2.2.2.2.2.2.2.2.2.2.1 e9) ydX8_waits hs rfl rfl q1804 q1806 qs82 q131 q1807 rfl (Nat.le_of_ble_eq_true rfl) (Nat.le_of_ble_eq_true rfl) hl.1 rfl (Nat.le_of_ble_eq_true rfl) dX8_inside_21) (fun r3 h H locs cells slots hf hI => ?_)
    refine lv_if_ne (tgt := 31) hx hb dX8_inside_24 (by decide) (fun c24 => ?_) (fun c24 => ?_)
    · have hf := g_f c24 hf
      refine lv_iconst (v := (0 : Int32)) hx hb dX8_inside_31 (by decide) ?_
      exact b_X8_inside_32 X _ _ _ _ _ _ _ _ _ _ hf hI (lv_sub hl [0, 1] rfl)
    · have hf := g_t c24 hf
      refine lv_iconst (v := (1 : Int32)) hx hb dX8_inside_27 (by decide) ?_
      refine lv_goto (tgt := 32) hx hb dX8_inside_28 (by decide) ?_
      exact b_X8_inside_32 X _ _ _ _ _ _ _ _ _ _ hf hI (lv_sub hl [0, 1] rfl)
/-! X1_recall -/
abbrev w_X1_recall_19 (G : gG) (l : Launch) (p : Program) (e : Env) (s : State) (m : MethodId) (args : Array Value) (below : List Frame) (meth : Method) (c : Code) (h0 : g_H) (r : (Unit ⊕ gE)) (h' : g_H) (k : Nat → Nat → Int32 → gM (Unit ⊕ gE)) : Prop := ∀ (a0 : Nat) (a2 : Nat) (u0 : Int32) (h : g_H) (H : Heap) (locs : List Loc) (cells slots : Nat) (ls : Array Slot), (k a0 a2 u0).1 h = some (r, h') → gI G h0 h H locs cells slots → lv_has ls 3 [(0, .ref a0), (2, .ref a2)] → W p l e (g_rm 8 130 h0 h') s m args below meth c H locs cells slots (gQ G below args s h0 h' (g_w g_wU r)) (F0 m 19 ls [.int u0])
def f_X1_recall_19 (a0 : Nat) (a2 : Nat) (u0 : Int32) : gM (Unit ⊕ gE) :=
    gT (f_X1_can u0) fun _ =>
    gB (gCk a0 0) fun _ =>
    gB (f_X1_remembers a0) fun _ =>
    gB (gPI a2 4 3 (0 : Int32)) fun _ =>
    gRet (.inl ())
set_option maxHeartbeats 4000000 in
set_option maxRecDepth 100000 in
theorem b_X1_recall_19 {G : gG} {l : Launch} {p : Program} {e : Env} {s : State} {m : MethodId} {args : Array Value} {below : List Frame} {meth : Method} {c : Code} {h0 : g_H} {r : (Unit ⊕ gE)} {h' : g_H} (X : gX G l yX1_recall.cls cX1_recall 3 none [] yX1_recall.name p s m args meth c) : w_X1_recall_19 G l p e s m args below meth c h0 r h' (f_X1_recall_19) := by
  have hx := X.1
  have hb := X.2.1
  have hown := X.2.2.2.1
  have hts := X.2.2.2.2.1
  intro a0 a2 u0 h H locs cells slots ls hf hI hl
  unfold f_X1_recall_19 at hf
  refine g_cTU X hI (by decide) hf (fun v9 h9 e9 l9 l9' => g_rS (b := 0) X hI l9 l9' ⟨Nat.le_refl _, Nat.le_refl _⟩ (As := [.int u0]) (m_X1_can X.2.2.2.2.2.2.2.2.2.2.1 e9) ydX1_can q1212 q1213 q121 q1214 rfl (Nat.le_of_ble_eq_true rfl) (Nat.le_of_ble_eq_true rfl) hl.1 rfl (Nat.le_of_ble_eq_true rfl) dX1_recall_19) (fun r101 h H locs cells slots hf hI => ?_)
  refine lv_aload_n hx hb dX1_recall_22 rfl (lv_at hl 0 rfl) ?_
  obtain ⟨hs, hf⟩ := gCk_b hf
  refine g_cBU hI hf (fun v9 h9 e9 l9 l9' => g_rV X hI l9 l9' ⟨Nat.le_refl _, Nat.le_refl _⟩ (As := []) (m_X1_remembers X.2.2.2.2.2.2.2.2.2.2.1 e9) ydX1_remembers hs rfl rfl q1230 q1232 qs38 q121 q1233 rfl (Nat.le_of_ble_eq_true rfl) (Nat.le_of_ble_eq_true rfl) hl.1 rfl (Nat.le_of_ble_eq_true rfl) dX1_recall_23) (fun r102 h H locs cells slots hf hI => ?_)
  refine lv_aload_n hx hb dX1_recall_26 rfl (lv_at hl 1 rfl) ?_
  refine lv_iconst (v := (0 : Int32)) hx hb dX1_recall_27 (by decide) ?_
  refine g_piN X hI hf fX5_3 q243 rfl dX1_recall_28 (fun h H locs hf hI => ?_)
  cases gRet_e hf
  exact g_retU X hI rfl dX1_recall_31
def f_X1_recall (a0 : Nat) (x1 : Int32) : gM (Unit ⊕ gE) :=
    gB (gCk a0 0) fun _ =>
    gT (f_X1_oneAt a0 x1) fun r1 =>
    gB (gFI r1 4 3) fun v2 =>
    gIf (v2 = (2 : Int32))
    (f_X1_recall_19 a0 r1 (1 : Int32))
    (f_X1_recall_19 a0 r1 (0 : Int32))
set_option maxHeartbeats 4000000 in
set_option maxRecDepth 100000 in
theorem m_X1_recall {G : gG} {l : Launch} (hfl : l.stackTraces = false) {a0 : Nat} {x1 : Int32} {h h' : g_H} {r : (Unit ⊕ gE)} (hf : (f_X1_recall a0 x1).1 h = some (r, h')) : gMet G l yX1_recall (Cond.code yX1_recall cX1_recall 3 none) 8 130 [.ref a0, .int x1] h (g_w g_wU r) h' := by
  refine g_head hfl ((f_X1_recall a0 x1).2 h r h' hf) (plainFor_of_name (by decide)) (Nat.le_of_ble_eq_true rfl) (fun p e s m below meth c H locs cells slots ls X hI hl9 => ?_)
  have hl : lv_has ls 3 [(0, .ref a0), (1, .int x1)] := hl9
  have hx := X.1
  have hb := X.2.1
  have hown := X.2.2.2.1
  have hts := X.2.2.2.2.1
  unfold f_X1_recall at hf
  refine lv_aload_n hx hb dX1_recall_0 rfl (lv_at hl 0 rfl) ?_
  refine lv_iload_n hx hb dX1_recall_1 rfl (lv_at hl 1 rfl) ?_
  obtain ⟨hs, hf⟩ := gCk_b hf
  refine g_cTR X hI (by decide) hf (fun v9 h9 e9 l9 l9' => g_rV X hI l9 l9' ⟨Nat.le_refl _, Nat.le_refl _⟩ (As := [.int x1]) (m_X1_oneAt X.2.2.2.2.2.2.2.2.2.2.1 e9) ydX1_oneAt hs rfl rfl q1189 q1191 qs37 q121 q1192 rfl (Nat.le_of_ble_eq_true rfl) (Nat.le_of_ble_eq_true rfl) hl.1 rfl (Nat.le_of_ble_eq_true rfl) dX1_recall_2) (fun r1 h H locs cells slots hf hI => ?_)
  refine lv_astore_n (lv' := [(2, .ref r1), (0, .ref a0), (1, .int x1)]) hx hb dX1_recall_5 rfl hl (by decide) rfl (fun ls hl => ?_)
  refine lv_aload_n hx hb dX1_recall_6 rfl (lv_at hl 0 rfl) ?_
  refine g_fiN X hI hf fX5_3 q243 rfl rfl dX1_recall_7 (fun v2 hf => ?_)
  refine lv_iconst (v := (2 : Int32)) hx hb dX1_recall_10 (by decide) ?_
  refine lv_icmp_ne (tgt := 18) hx hb dX1_recall_11 (by decide) (fun c11 => ?_) (fun c11 => ?_)
  · have hf := g_f c11 hf
    refine lv_iconst (v := (0 : Int32)) hx hb dX1_recall_18 (by decide) ?_
    exact b_X1_recall_19 X _ _ _ _ _ _ _ _ _ hf hI (lv_sub hl [1, 0] rfl)
  · have hf := g_t c11 hf
    refine lv_iconst (v := (1 : Int32)) hx hb dX1_recall_14 (by decide) ?_
    refine lv_goto (tgt := 19) hx hb dX1_recall_15 (by decide) ?_
    exact b_X1_recall_19 X _ _ _ _ _ _ _ _ _ hf hI (lv_sub hl [1, 0] rfl)
/-! X0_recall -/
def f_X0_recall (a0 : Nat) (x1 : Int32) : gM Int32 :=
    gB (gCk a0 0) fun _ =>
    gB (f_X1_recall a0 x1) fun r9 => match r9 with
    | .inl r1 => ((gRet (0 : Int32)))
    | .inr x9 => (gIf (x9.1 = 19)
    ((gRet (1 : Int32)))
    (gIf (x9.1 = 13)
    ((gRet (2 : Int32)))
    (gFail)))
set_option maxHeartbeats 4000000 in
set_option maxRecDepth 100000 in
theorem m_X0_recall {G : gG} {l : Launch} (hfl : l.stackTraces = false) {a0 : Nat} {x1 : Int32} {h h' : g_H} {r : Int32} (hf : (f_X0_recall a0 x1).1 h = some (r, h')) : gMet G l yX0_recall (Cond.codeWith yX0_recall cX0_recall 3 (some .int) [(0, 5, 8, 24), (0, 5, 11, 42)]) 9 152 [.ref a0, .int x1] h (.inl (g_wI r)) h' := by
  refine g_headW hfl ((f_X0_recall a0 x1).2 h r h' hf) (plainFor_of_name (by decide)) (Nat.le_of_ble_eq_true rfl) (fun p e s m below meth c H locs cells slots ls X hI hl9 => ?_)
  have hl : lv_has ls 3 [(0, .ref a0), (1, .int x1)] := hl9
  have hx := X.1
  have hb := X.2.1
  have hown := X.2.2.2.1
  have hts := X.2.2.2.2.1
  unfold f_X0_recall at hf
  refine lv_aload_n hx hb dX0_recall_0 rfl (lv_at hl 0 rfl) ?_
  refine lv_iload_n hx hb dX0_recall_1 rfl (lv_at hl 1 rfl) ?_
  obtain ⟨hs, hf⟩ := gCk_b hf
  refine g_cHU hI hf (fun v9 h9 e9 l9 l9' => g_rV X hI l9 l9' ⟨Nat.le_refl _, Nat.le_refl _⟩ (As := [.int x1]) (m_X1_recall X.2.2.2.2.2.2.2.2.2.2.1 e9) ydX1_recall hs rfl rfl q1263 q1264 q1265 q121 q1266 rfl (Nat.le_of_ble_eq_true rfl) (Nat.le_of_ble_eq_true rfl) hl.1 rfl (Nat.le_of_ble_eq_true rfl) dX0_recall_2) (fun r1 h H locs cells slots hf hI => ?_) ?_
  · refine lv_goto (tgt := 14) hx hb dX0_recall_5 (by decide) ?_
    refine lv_iconst (v := (0 : Int32)) hx hb dX0_recall_14 (by decide) ?_
    cases gRet_e hf
    exact g_retI X hI rfl dX0_recall_15
  · intro ci9 x9 h H locs cells slots r9 ce9 hf hr9 hI hce hcv hcl
    by_cases k0 : ci9 = 19
    · subst k0
      cases hr9
      have hf := g_t rfl hf
      refine g_catch0 X hI (name := "java/lang/IndexOutOfBoundsException") rfl (by rfl) (by decide) (by decide) q1098 q1144 hce hcv hcl ?_
      refine lv_astore_n (lv' := [(2, .ref x9), (0, .ref a0), (1, .int x1)]) hx hb dX0_recall_8 rfl hl (by decide) rfl (fun ls hl => ?_)
      refine lv_iconst (v := (1 : Int32)) hx hb dX0_recall_9 (by decide) ?_
      cases gRet_e hf
      exact g_retI X hI rfl dX0_recall_10
    have hf := g_f k0 hf
    by_cases k1 : ci9 = 13
    · subst k1
      cases hr9
      have hf := g_t rfl hf
      refine g_catch1 X hI (name := "java/lang/IllegalStateException") rfl (by rfl) (by decide) (by decide) q1207 q1217 q1098 (List.mem_of_getElem? (i := 3) rfl) hce hcv hcl ?_
      refine lv_astore_n (lv' := [(2, .ref x9), (0, .ref a0), (1, .int x1)]) hx hb dX0_recall_11 rfl hl (by decide) rfl (fun ls hl => ?_)
      refine lv_iconst (v := (2 : Int32)) hx hb dX0_recall_12 (by decide) ?_
      cases gRet_e hf
      exact g_retI X hI rfl dX0_recall_13
    have hf := g_f k1 hf
    exact (gFail_f hf).elim
/-! X8_recall -/
abbrev w_X8_recall_41 (G : gG) (l : Launch) (p : Program) (e : Env) (s : State) (m : MethodId) (args : Array Value) (below : List Frame) (meth : Method) (c : Code) (h0 : g_H) (r : Unit) (h' : g_H) (k : gM Unit) : Prop := ∀ (h : g_H) (H : Heap) (locs : List Loc) (cells slots : Nat) (ls : Array Slot), (k).1 h = some (r, h') → gI G h0 h H locs cells slots → lv_has ls 2 [] → W p l e (g_rm 3 63 h0 h') s m args below meth c H locs cells slots (gQ G below args s h0 h' (.inl (g_wU r))) (F0 m 41 ls [])
abbrev w_X8_recall_34 (G : gG) (l : Launch) (p : Program) (e : Env) (s : State) (m : MethodId) (args : Array Value) (below : List Frame) (meth : Method) (c : Code) (h0 : g_H) (r : Unit) (h' : g_H) (k : Nat → Int32 → Nat → Int32 → gM Unit) : Prop := ∀ (a0 : Nat) (x1 : Int32) (b0 : Nat) (u1 : Int32) (h : g_H) (H : Heap) (locs : List Loc) (cells slots : Nat) (ls : Array Slot), (k a0 x1 b0 u1).1 h = some (r, h') → gI G h0 h H locs cells slots → lv_has ls 2 [(0, .ref a0), (1, .int x1)] → W p l e (g_rm 3 63 h0 h') s m args below meth c H locs cells slots (gQ G below args s h0 h' (.inl (g_wU r))) (F0 m 34 ls [.int u1, .ref b0])
def f_X8_recall_41 : gM Unit :=
    gRet ()
set_option maxHeartbeats 4000000 in
set_option maxRecDepth 100000 in
theorem b_X8_recall_41 {G : gG} {l : Launch} {p : Program} {e : Env} {s : State} {m : MethodId} {args : Array Value} {below : List Frame} {meth : Method} {c : Code} {h0 : g_H} {r : Unit} {h' : g_H} (X : gX G l yX8_recall.cls cX8_recall 2 none [] yX8_recall.name p s m args meth c) : w_X8_recall_41 G l p e s m args below meth c h0 r h' (f_X8_recall_41) := by
  have hx := X.1
  have hb := X.2.1
  have hown := X.2.2.2.1
  have hts := X.2.2.2.2.1
  intro h H locs cells slots ls hf hI hl
  unfold f_X8_recall_41 at hf
  cases gRet_e hf
  exact g_retU X hI rfl dX8_recall_41
def f_X8_recall_34 (a0 : Nat) (x1 : Int32) (b0 : Nat) (u1 : Int32) : gM Unit :=
    gB (gCk b0 7) fun _ =>
    gB (f_X8_throwsIf b0 u1 (2 : Int32)) fun r101 =>
    gIf (r101 = 0)
    (gB (gCk a0 7) fun _ =>
    gB (f_X8_remembers a0) fun _ =>
    gB (gFR a0 7 1) fun v103 =>
    gB (f_X8_oneAt x1 (3 : Int32)) fun r104 =>
    gB (gSI v103 0 r104 (0 : Int32)) fun _ =>
    gRet ())
    (f_X8_recall_41)
set_option maxHeartbeats 4000000 in
set_option maxRecDepth 100000 in
theorem b_X8_recall_34 {G : gG} {l : Launch} {p : Program} {e : Env} {s : State} {m : MethodId} {args : Array Value} {below : List Frame} {meth : Method} {c : Code} {h0 : g_H} {r : Unit} {h' : g_H} (X : gX G l yX8_recall.cls cX8_recall 2 none [] yX8_recall.name p s m args meth c) : w_X8_recall_34 G l p e s m args below meth c h0 r h' (f_X8_recall_34) := by
  have hx := X.1
  have hb := X.2.1
  have hown := X.2.2.2.1
  have hts := X.2.2.2.2.1
  intro a0 x1 b0 u1 h H locs cells slots ls hf hI hl
  unfold f_X8_recall_34 at hf
  refine lv_iconst (v := (2 : Int32)) hx hb dX8_recall_34 (by decide) ?_
  obtain ⟨hs, hf⟩ := gCk_b hf
  refine g_cBI hI hf (fun v9 h9 e9 l9 l9' => g_rV X hI l9 l9' ⟨Nat.le_refl _, Nat.le_refl _⟩ (As := [.int u1, .int (2 : Int32)]) (m_X8_throwsIf X.2.2.2.2.2.2.2.2.2.2.1 e9) ydX8_throwsIf hs rfl rfl q1736 q1738 qs72 q131 q1739 rfl (Nat.le_of_ble_eq_true rfl) (Nat.le_of_ble_eq_true rfl) hl.1 rfl (Nat.le_of_ble_eq_true rfl) dX8_recall_35) (fun r101 h H locs cells slots hf hI => ?_)
  refine lv_if_eq (tgt := 42) hx hb dX8_recall_38 (by decide) (fun c38 => ?_) (fun c38 => ?_)
  · have hf := g_t c38 hf
    refine lv_aload_n hx hb dX8_recall_42 rfl (lv_at hl 0 rfl) ?_
    obtain ⟨hs, hf⟩ := gCk_b hf
    refine g_cBU hI hf (fun v9 h9 e9 l9 l9' => g_rV X hI l9 l9' ⟨Nat.le_refl _, Nat.le_refl _⟩ (As := []) (m_X8_remembers X.2.2.2.2.2.2.2.2.2.2.1 e9) ydX8_remembers hs rfl rfl q1808 q1810 qs83 q131 q1811 rfl (Nat.le_of_ble_eq_true rfl) (Nat.le_of_ble_eq_true rfl) hl.1 rfl (Nat.le_of_ble_eq_true rfl) dX8_recall_43) (fun r102 h H locs cells slots hf hI => ?_)
    refine lv_aload_n hx hb dX8_recall_46 rfl (lv_at hl 0 rfl) ?_
    refine g_fr X hI hf fX8_1 q1445 rfl rfl dX8_recall_47 (fun v103 hf => ?_)
    refine lv_iload_n hx hb dX8_recall_50 rfl (lv_at hl 1 rfl) ?_
    refine lv_iconst (v := (3 : Int32)) hx hb dX8_recall_51 (by decide) ?_
    refine g_cBI hI hf (fun v9 h9 e9 l9 l9' => g_rS (b := 0) X hI l9 l9' ⟨Nat.le_refl _, Nat.le_refl _⟩ (As := [.int x1, .int (3 : Int32)]) (m_X8_oneAt X.2.2.2.2.2.2.2.2.2.2.1 e9) ydX8_oneAt q1680 q1681 q131 q1682 rfl (Nat.le_of_ble_eq_true rfl) (Nat.le_of_ble_eq_true rfl) hl.1 rfl (Nat.le_of_ble_eq_true rfl) dX8_recall_52) (fun r104 h H locs cells slots hf hI => ?_)
    refine lv_iconst (v := (0 : Int32)) hx hb dX8_recall_55 (by decide) ?_
    refine g_si0 X hI hf dX8_recall_56 (fun h H locs hf hI => ?_)
    cases gRet_e hf
    exact g_retU X hI rfl dX8_recall_57
  · have hf := g_f c38 hf
    exact b_X8_recall_41 X _ _ _ _ _ _ hf hI (lv_sub hl [] rfl)
def f_X8_recall (a0 : Nat) (x1 : Int32) : gM Unit :=
    gB (gPI a0 7 0 (0 : Int32)) fun _ =>
    gB (gCk a0 7) fun _ =>
    gB (f_X8_noOne a0 x1) fun r1 =>
    gB (gCk a0 7) fun _ =>
    gB (f_X8_throwsIf a0 r1 (1 : Int32)) fun r2 =>
    gIf (r2 = 0)
    (gB (gCk a0 7) fun _ =>
    gB (f_X8_of a0 x1 (3 : Int32)) fun r3 =>
    gIf (r3 = (2 : Int32))
    (f_X8_recall_34 a0 x1 a0 (0 : Int32))
    (f_X8_recall_34 a0 x1 a0 (1 : Int32)))
    (f_X8_recall_41)
set_option maxHeartbeats 4000000 in
set_option maxRecDepth 100000 in
theorem m_X8_recall {G : gG} {l : Launch} (hfl : l.stackTraces = false) {a0 : Nat} {x1 : Int32} {h h' : g_H} {r : Unit} (hf : (f_X8_recall a0 x1).1 h = some (r, h')) : gMet G l yX8_recall (Cond.code yX8_recall cX8_recall 2 none) 3 63 [.ref a0, .int x1] h (.inl (g_wU r)) h' := by
  refine g_head hfl ((f_X8_recall a0 x1).2 h r h' hf) (plainFor_of_name (by decide)) (Nat.le_of_ble_eq_true rfl) (fun p e s m below meth c H locs cells slots ls X hI hl9 => ?_)
  have hl : lv_has ls 2 [(0, .ref a0), (1, .int x1)] := hl9
  have hx := X.1
  have hb := X.2.1
  have hown := X.2.2.2.1
  have hts := X.2.2.2.2.1
  unfold f_X8_recall at hf
  refine lv_aload_n hx hb dX8_recall_0 rfl (lv_at hl 0 rfl) ?_
  refine lv_iconst (v := (0 : Int32)) hx hb dX8_recall_1 (by decide) ?_
  refine g_pi X hI hf fX8_0 q1444 rfl dX8_recall_2 (fun h H locs hf hI => ?_)
  refine lv_aload_n hx hb dX8_recall_5 rfl (lv_at hl 0 rfl) ?_
  refine lv_aload_n hx hb dX8_recall_6 rfl (lv_at hl 0 rfl) ?_
  refine lv_iload_n hx hb dX8_recall_7 rfl (lv_at hl 1 rfl) ?_
  obtain ⟨hs, hf⟩ := gCk_b hf
  refine g_cBI hI hf (fun v9 h9 e9 l9 l9' => g_rV X hI l9 l9' ⟨Nat.le_refl _, Nat.le_refl _⟩ (As := [.int x1]) (m_X8_noOne X.2.2.2.2.2.2.2.2.2.2.1 e9) ydX8_noOne hs rfl rfl q1763 q1765 qs74 q131 q1766 rfl (Nat.le_of_ble_eq_true rfl) (Nat.le_of_ble_eq_true rfl) hl.1 rfl (Nat.le_of_ble_eq_true rfl) dX8_recall_8) (fun r1 h H locs cells slots hf hI => ?_)
  refine lv_iconst (v := (1 : Int32)) hx hb dX8_recall_11 (by decide) ?_
  obtain ⟨hs, hf⟩ := gCk_b hf
  refine g_cBI hI hf (fun v9 h9 e9 l9 l9' => g_rV X hI l9 l9' ⟨Nat.le_refl _, Nat.le_refl _⟩ (As := [.int r1, .int (1 : Int32)]) (m_X8_throwsIf X.2.2.2.2.2.2.2.2.2.2.1 e9) ydX8_throwsIf hs rfl rfl q1736 q1738 qs72 q131 q1739 rfl (Nat.le_of_ble_eq_true rfl) (Nat.le_of_ble_eq_true rfl) hl.1 rfl (Nat.le_of_ble_eq_true rfl) dX8_recall_12) (fun r2 h H locs cells slots hf hI => ?_)
  refine lv_if_ne (tgt := 41) hx hb dX8_recall_15 (by decide) (fun c15 => ?_) (fun c15 => ?_)
  · have hf := g_f c15 hf
    exact b_X8_recall_41 X _ _ _ _ _ _ hf hI (lv_sub hl [] rfl)
  · have hf := g_t c15 hf
    refine lv_aload_n hx hb dX8_recall_18 rfl (lv_at hl 0 rfl) ?_
    refine lv_aload_n hx hb dX8_recall_19 rfl (lv_at hl 0 rfl) ?_
    refine lv_iload_n hx hb dX8_recall_20 rfl (lv_at hl 1 rfl) ?_
    refine lv_iconst (v := (3 : Int32)) hx hb dX8_recall_21 (by decide) ?_
    obtain ⟨hs, hf⟩ := gCk_b hf
    refine g_cBI hI hf (fun v9 h9 e9 l9 l9' => g_rV X hI l9 l9' ⟨Nat.le_refl _, Nat.le_refl _⟩ (As := [.int x1, .int (3 : Int32)]) (m_X8_of X.2.2.2.2.2.2.2.2.2.2.1 e9) ydX8_of hs rfl rfl q1767 q1769 qs75 q131 q1770 rfl (Nat.le_of_ble_eq_true rfl) (Nat.le_of_ble_eq_true rfl) hl.1 rfl (Nat.le_of_ble_eq_true rfl) dX8_recall_22) (fun r3 h H locs cells slots hf hI => ?_)
    refine lv_iconst (v := (2 : Int32)) hx hb dX8_recall_25 (by decide) ?_
    refine lv_icmp_eq (tgt := 33) hx hb dX8_recall_26 (by decide) (fun c26 => ?_) (fun c26 => ?_)
    · have hf := g_t c26 hf
      refine lv_iconst (v := (0 : Int32)) hx hb dX8_recall_33 (by decide) ?_
      exact b_X8_recall_34 X _ _ _ _ _ _ _ _ _ _ hf hI (lv_sub hl [0, 1] rfl)
    · have hf := g_f c26 hf
      refine lv_iconst (v := (1 : Int32)) hx hb dX8_recall_29 (by decide) ?_
      refine lv_goto (tgt := 34) hx hb dX8_recall_30 (by decide) ?_
      exact b_X8_recall_34 X _ _ _ _ _ _ _ _ _ _ hf hI (lv_sub hl [0, 1] rfl)
/-! X1_mend -/
def f_X1_mend (a0 : Nat) (x1 : Int32) : gM (Int32 ⊕ gE) :=
    gB (gCk a0 0) fun _ =>
    gT (f_X1_propAt a0 x1) fun r1 =>
    gB (gCk a0 0) fun _ =>
    gB (f_X1_remembers a0) fun _ =>
    gB (gFI r1 3 2) fun v3 =>
    gB (gPI r1 3 2 (0 : Int32)) fun _ =>
    (gRet (.inl v3))
set_option maxHeartbeats 4000000 in
set_option maxRecDepth 100000 in
theorem m_X1_mend {G : gG} {l : Launch} (hfl : l.stackTraces = false) {a0 : Nat} {x1 : Int32} {h h' : g_H} {r : (Int32 ⊕ gE)} (hf : (f_X1_mend a0 x1).1 h = some (r, h')) : gMet G l yX1_mend (Cond.code yX1_mend cX1_mend 4 (some .int)) 8 130 [.ref a0, .int x1] h (g_w g_wI r) h' := by
  refine g_head hfl ((f_X1_mend a0 x1).2 h r h' hf) (plainFor_of_name (by decide)) (Nat.le_of_ble_eq_true rfl) (fun p e s m below meth c H locs cells slots ls X hI hl9 => ?_)
  have hl : lv_has ls 4 [(0, .ref a0), (1, .int x1)] := hl9
  have hx := X.1
  have hb := X.2.1
  have hown := X.2.2.2.1
  have hts := X.2.2.2.2.1
  unfold f_X1_mend at hf
  refine lv_aload_n hx hb dX1_mend_0 rfl (lv_at hl 0 rfl) ?_
  refine lv_iload_n hx hb dX1_mend_1 rfl (lv_at hl 1 rfl) ?_
  obtain ⟨hs, hf⟩ := gCk_b hf
  refine g_cTR X hI (by decide) hf (fun v9 h9 e9 l9 l9' => g_rV X hI l9 l9' ⟨Nat.le_refl _, Nat.le_refl _⟩ (As := [.int x1]) (m_X1_propAt X.2.2.2.2.2.2.2.2.2.2.1 e9) ydX1_propAt hs rfl rfl q1135 q1137 qs36 q121 q1138 rfl (Nat.le_of_ble_eq_true rfl) (Nat.le_of_ble_eq_true rfl) hl.1 rfl (Nat.le_of_ble_eq_true rfl) dX1_mend_2) (fun r1 h H locs cells slots hf hI => ?_)
  refine lv_astore_n (lv' := [(2, .ref r1), (0, .ref a0), (1, .int x1)]) hx hb dX1_mend_5 rfl hl (by decide) rfl (fun ls hl => ?_)
  refine lv_aload_n hx hb dX1_mend_6 rfl (lv_at hl 1 rfl) ?_
  obtain ⟨hs, hf⟩ := gCk_b hf
  refine g_cBU hI hf (fun v9 h9 e9 l9 l9' => g_rV X hI l9 l9' ⟨Nat.le_refl _, Nat.le_refl _⟩ (As := []) (m_X1_remembers X.2.2.2.2.2.2.2.2.2.2.1 e9) ydX1_remembers hs rfl rfl q1230 q1232 qs38 q121 q1233 rfl (Nat.le_of_ble_eq_true rfl) (Nat.le_of_ble_eq_true rfl) hl.1 rfl (Nat.le_of_ble_eq_true rfl) dX1_mend_7) (fun r2 h H locs cells slots hf hI => ?_)
  refine lv_aload_n hx hb dX1_mend_10 rfl (lv_at hl 0 rfl) ?_
  refine g_fiN X hI hf fX4_2 q206 rfl rfl dX1_mend_11 (fun v3 hf => ?_)
  refine lv_istore_n (lv' := [(3, .int v3), (2, .ref r1), (0, .ref a0), (1, .int x1)]) hx hb dX1_mend_14 rfl hl (by decide) rfl (fun ls hl => ?_)
  refine lv_aload_n hx hb dX1_mend_15 rfl (lv_at hl 1 rfl) ?_
  refine lv_iconst (v := (0 : Int32)) hx hb dX1_mend_16 (by decide) ?_
  refine g_piN X hI hf fX4_2 q206 rfl dX1_mend_17 (fun h H locs hf hI => ?_)
  refine lv_iload_n hx hb dX1_mend_20 rfl (lv_at hl 0 rfl) ?_
  cases gRet_e hf
  exact g_retI X hI rfl dX1_mend_21
/-! X0_mend -/
def f_X0_mend (a0 : Nat) (x1 : Int32) (a2 : Nat) : gM Int32 :=
    gB (gCk a0 0) fun _ =>
    gB (f_X1_mend a0 x1) fun r9 => match r9 with
    | .inl r1 => (gB (gSI a2 2 (0 : Int32) (r1)) fun _ =>
    (gRet (0 : Int32)))
    | .inr x9 => (gIf (x9.1 = 19)
    ((gRet (1 : Int32)))
    (gFail))
set_option maxHeartbeats 4000000 in
set_option maxRecDepth 100000 in
theorem m_X0_mend {G : gG} {l : Launch} (hfl : l.stackTraces = false) {a0 : Nat} {x1 : Int32} {a2 : Nat} {h h' : g_H} {r : Int32} (hf : (f_X0_mend a0 x1 a2).1 h = some (r, h')) : gMet G l yX0_mend (Cond.codeWith yX0_mend cX0_mend 4 (some .int) [(0, 9, 12, 24)]) 9 153 [.ref a0, .int x1, .ref a2] h (.inl (g_wI r)) h' := by
  refine g_headW hfl ((f_X0_mend a0 x1 a2).2 h r h' hf) (plainFor_of_name (by decide)) (Nat.le_of_ble_eq_true rfl) (fun p e s m below meth c H locs cells slots ls X hI hl9 => ?_)
  have hl : lv_has ls 4 [(0, .ref a0), (1, .int x1), (2, .ref a2)] := hl9
  have hx := X.1
  have hb := X.2.1
  have hown := X.2.2.2.1
  have hts := X.2.2.2.2.1
  unfold f_X0_mend at hf
  refine lv_aload_n hx hb dX0_mend_0 rfl (lv_at hl 2 rfl) ?_
  refine lv_iconst (v := (0 : Int32)) hx hb dX0_mend_1 (by decide) ?_
  refine lv_aload_n hx hb dX0_mend_2 rfl (lv_at hl 0 rfl) ?_
  refine lv_iload_n hx hb dX0_mend_3 rfl (lv_at hl 1 rfl) ?_
  obtain ⟨hs, hf⟩ := gCk_b hf
  refine g_cHI hI hf (fun v9 h9 e9 l9 l9' => g_rV X hI l9 l9' ⟨Nat.le_refl _, Nat.le_refl _⟩ (As := [.int x1]) (m_X1_mend X.2.2.2.2.2.2.2.2.2.2.1 e9) ydX1_mend hs rfl rfl q1256 q1257 q1258 q121 q1259 rfl (Nat.le_of_ble_eq_true rfl) (Nat.le_of_ble_eq_true rfl) hl.1 rfl (Nat.le_of_ble_eq_true rfl) dX0_mend_4) (fun r1 h H locs cells slots hf hI => ?_) ?_
  · refine lv_i2l hx hb dX0_mend_7 rfl ?_
    refine g_si2 X hI hf dX0_mend_8 (fun h H locs hf hI => ?_)
    refine lv_goto (tgt := 15) hx hb dX0_mend_9 (by decide) ?_
    refine lv_iconst (v := (0 : Int32)) hx hb dX0_mend_15 (by decide) ?_
    cases gRet_e hf
    exact g_retI X hI rfl dX0_mend_16
  · intro ci9 x9 h H locs cells slots r9 ce9 hf hr9 hI hce hcv hcl
    by_cases k0 : ci9 = 19
    · subst k0
      cases hr9
      have hf := g_t rfl hf
      refine g_catch0 X hI (name := "java/lang/IndexOutOfBoundsException") rfl (by rfl) (by decide) (by decide) q1098 q1144 hce hcv hcl ?_
      refine lv_astore_n (lv' := [(3, .ref x9), (0, .ref a0), (1, .int x1), (2, .ref a2)]) hx hb dX0_mend_12 rfl hl (by decide) rfl (fun ls hl => ?_)
      refine lv_iconst (v := (1 : Int32)) hx hb dX0_mend_13 (by decide) ?_
      cases gRet_e hf
      exact g_retI X hI rfl dX0_mend_14
    have hf := g_f k0 hf
    exact (gFail_f hf).elim
/-! X8_mend -/
def f_X8_mend (a0 : Nat) (x1 : Int32) : gM Int32 :=
    gB (gPI a0 7 0 (0 : Int32)) fun _ =>
    gB (gCk a0 7) fun _ =>
    gB (f_X8_noProp a0 x1) fun r1 =>
    gB (gCk a0 7) fun _ =>
    gB (f_X8_throwsIf a0 r1 (1 : Int32)) fun r2 =>
    gIf (r2 = 0)
    (gB (gCk a0 7) fun _ =>
    gB (f_X8_remembers a0) fun _ =>
    gB (gCk a0 7) fun _ =>
    gB (f_X8_ofProp a0 x1 (2 : Int32)) fun r4 =>
    gB (gFR a0 7 1) fun v5 =>
    gB (f_X8_propAt x1 (2 : Int32)) fun r6 =>
    gB (gSI v5 0 r6 (0 : Int32)) fun _ =>
    (gRet r4))
    ((gRet (0 : Int32)))
set_option maxHeartbeats 4000000 in
set_option maxRecDepth 100000 in
theorem m_X8_mend {G : gG} {l : Launch} (hfl : l.stackTraces = false) {a0 : Nat} {x1 : Int32} {h h' : g_H} {r : Int32} (hf : (f_X8_mend a0 x1).1 h = some (r, h')) : gMet G l yX8_mend (Cond.code yX8_mend cX8_mend 3 (some .int)) 3 63 [.ref a0, .int x1] h (.inl (g_wI r)) h' := by
  refine g_head hfl ((f_X8_mend a0 x1).2 h r h' hf) (plainFor_of_name (by decide)) (Nat.le_of_ble_eq_true rfl) (fun p e s m below meth c H locs cells slots ls X hI hl9 => ?_)
  have hl : lv_has ls 3 [(0, .ref a0), (1, .int x1)] := hl9
  have hx := X.1
  have hb := X.2.1
  have hown := X.2.2.2.1
  have hts := X.2.2.2.2.1
  unfold f_X8_mend at hf
  refine lv_aload_n hx hb dX8_mend_0 rfl (lv_at hl 0 rfl) ?_
  refine lv_iconst (v := (0 : Int32)) hx hb dX8_mend_1 (by decide) ?_
  refine g_pi X hI hf fX8_0 q1444 rfl dX8_mend_2 (fun h H locs hf hI => ?_)
  refine lv_aload_n hx hb dX8_mend_5 rfl (lv_at hl 0 rfl) ?_
  refine lv_aload_n hx hb dX8_mend_6 rfl (lv_at hl 0 rfl) ?_
  refine lv_iload_n hx hb dX8_mend_7 rfl (lv_at hl 1 rfl) ?_
  obtain ⟨hs, hf⟩ := gCk_b hf
  refine g_cBI hI hf (fun v9 h9 e9 l9 l9' => g_rV X hI l9 l9' ⟨Nat.le_refl _, Nat.le_refl _⟩ (As := [.int x1]) (m_X8_noProp X.2.2.2.2.2.2.2.2.2.2.1 e9) ydX8_noProp hs rfl rfl q1748 q1750 qs73 q131 q1751 rfl (Nat.le_of_ble_eq_true rfl) (Nat.le_of_ble_eq_true rfl) hl.1 rfl (Nat.le_of_ble_eq_true rfl) dX8_mend_8) (fun r1 h H locs cells slots hf hI => ?_)
  refine lv_iconst (v := (1 : Int32)) hx hb dX8_mend_11 (by decide) ?_
  obtain ⟨hs, hf⟩ := gCk_b hf
  refine g_cBI hI hf (fun v9 h9 e9 l9 l9' => g_rV X hI l9 l9' ⟨Nat.le_refl _, Nat.le_refl _⟩ (As := [.int r1, .int (1 : Int32)]) (m_X8_throwsIf X.2.2.2.2.2.2.2.2.2.2.1 e9) ydX8_throwsIf hs rfl rfl q1736 q1738 qs72 q131 q1739 rfl (Nat.le_of_ble_eq_true rfl) (Nat.le_of_ble_eq_true rfl) hl.1 rfl (Nat.le_of_ble_eq_true rfl) dX8_mend_12) (fun r2 h H locs cells slots hf hI => ?_)
  refine lv_if_eq (tgt := 20) hx hb dX8_mend_15 (by decide) (fun c15 => ?_) (fun c15 => ?_)
  · have hf := g_t c15 hf
    refine lv_aload_n hx hb dX8_mend_20 rfl (lv_at hl 0 rfl) ?_
    obtain ⟨hs, hf⟩ := gCk_b hf
    refine g_cBU hI hf (fun v9 h9 e9 l9 l9' => g_rV X hI l9 l9' ⟨Nat.le_refl _, Nat.le_refl _⟩ (As := []) (m_X8_remembers X.2.2.2.2.2.2.2.2.2.2.1 e9) ydX8_remembers hs rfl rfl q1808 q1810 qs83 q131 q1811 rfl (Nat.le_of_ble_eq_true rfl) (Nat.le_of_ble_eq_true rfl) hl.1 rfl (Nat.le_of_ble_eq_true rfl) dX8_mend_21) (fun r3 h H locs cells slots hf hI => ?_)
    refine lv_aload_n hx hb dX8_mend_24 rfl (lv_at hl 0 rfl) ?_
    refine lv_iload_n hx hb dX8_mend_25 rfl (lv_at hl 1 rfl) ?_
    refine lv_iconst (v := (2 : Int32)) hx hb dX8_mend_26 (by decide) ?_
    obtain ⟨hs, hf⟩ := gCk_b hf
    refine g_cBI hI hf (fun v9 h9 e9 l9 l9' => g_rV X hI l9 l9' ⟨Nat.le_refl _, Nat.le_refl _⟩ (As := [.int x1, .int (2 : Int32)]) (m_X8_ofProp X.2.2.2.2.2.2.2.2.2.2.1 e9) ydX8_ofProp hs rfl rfl q1659 q1661 qs59 q131 q1662 rfl (Nat.le_of_ble_eq_true rfl) (Nat.le_of_ble_eq_true rfl) hl.1 rfl (Nat.le_of_ble_eq_true rfl) dX8_mend_27) (fun r4 h H locs cells slots hf hI => ?_)
    refine lv_istore_n (lv' := [(2, .int r4), (0, .ref a0), (1, .int x1)]) hx hb dX8_mend_30 rfl hl (by decide) rfl (fun ls hl => ?_)
    refine lv_aload_n hx hb dX8_mend_31 rfl (lv_at hl 1 rfl) ?_
    refine g_fr X hI hf fX8_1 q1445 rfl rfl dX8_mend_32 (fun v5 hf => ?_)
    refine lv_iload_n hx hb dX8_mend_35 rfl (lv_at hl 2 rfl) ?_
    refine lv_iconst (v := (2 : Int32)) hx hb dX8_mend_36 (by decide) ?_
    refine g_cBI hI hf (fun v9 h9 e9 l9 l9' => g_rS (b := 0) X hI l9 l9' ⟨Nat.le_refl _, Nat.le_refl _⟩ (As := [.int x1, .int (2 : Int32)]) (m_X8_propAt X.2.2.2.2.2.2.2.2.2.2.1 e9) ydX8_propAt q1663 q1664 q131 q1665 rfl (Nat.le_of_ble_eq_true rfl) (Nat.le_of_ble_eq_true rfl) hl.1 rfl (Nat.le_of_ble_eq_true rfl) dX8_mend_37) (fun r6 h H locs cells slots hf hI => ?_)
    refine lv_iconst (v := (0 : Int32)) hx hb dX8_mend_40 (by decide) ?_
    refine g_si0 X hI hf dX8_mend_41 (fun h H locs hf hI => ?_)
    refine lv_iload_n hx hb dX8_mend_42 rfl (lv_at hl 0 rfl) ?_
    cases gRet_e hf
    exact g_retI X hI rfl dX8_mend_43
  · have hf := g_f c15 hf
    refine lv_iconst (v := (0 : Int32)) hx hb dX8_mend_18 (by decide) ?_
    cases gRet_e hf
    exact g_retI X hI rfl dX8_mend_19
/-! X1_down -/
abbrev w_X1_down_22 (G : gG) (l : Launch) (p : Program) (e : Env) (s : State) (m : MethodId) (args : Array Value) (below : List Frame) (meth : Method) (c : Code) (h0 : g_H) (r : (Int32 ⊕ gE)) (h' : g_H) (k : Nat → Int32 → Int32 → gM (Int32 ⊕ gE)) : Prop := ∀ (a0 : Nat) (x1 : Int32) (u0 : Int32) (h : g_H) (H : Heap) (locs : List Loc) (cells slots : Nat) (ls : Array Slot), (k a0 x1 u0).1 h = some (r, h') → gI G h0 h H locs cells slots → lv_has ls 3 [(0, .ref a0), (1, .int x1)] → W p l e (g_rm 8 129 h0 h') s m args below meth c H locs cells slots (gQ G below args s h0 h' (g_w g_wI r)) (F0 m 22 ls [.int u0])
def f_X1_down_22 (a0 : Nat) (x1 : Int32) (u0 : Int32) : gM (Int32 ⊕ gE) :=
    gT (f_X1_can u0) fun _ =>
    gB (gCk a0 0) fun _ =>
    gB (f_X1_remembers a0) fun _ =>
    gB (gFR a0 0 1) fun v103 =>
    gB (gFR v103 2 3) fun v104 =>
    gB (gAI v104 0 x1) fun v105 =>
    gB (gFR a0 0 1) fun v106 =>
    gB (gCk v106 2) fun _ =>
    gB (f_X3_takes v106 x1) fun _ =>
    (gRet (.inl v105))
set_option maxHeartbeats 4000000 in
set_option maxRecDepth 100000 in
theorem b_X1_down_22 {G : gG} {l : Launch} {p : Program} {e : Env} {s : State} {m : MethodId} {args : Array Value} {below : List Frame} {meth : Method} {c : Code} {h0 : g_H} {r : (Int32 ⊕ gE)} {h' : g_H} (X : gX G l yX1_down.cls cX1_down 3 (some .int) [] yX1_down.name p s m args meth c) : w_X1_down_22 G l p e s m args below meth c h0 r h' (f_X1_down_22) := by
  have hx := X.1
  have hb := X.2.1
  have hown := X.2.2.2.1
  have hts := X.2.2.2.2.1
  intro a0 x1 u0 h H locs cells slots ls hf hI hl
  unfold f_X1_down_22 at hf
  refine g_cTU X hI (by decide) hf (fun v9 h9 e9 l9 l9' => g_rS (b := 0) X hI l9 l9' ⟨Nat.le_refl _, Nat.le_refl _⟩ (As := [.int u0]) (m_X1_can X.2.2.2.2.2.2.2.2.2.2.1 e9) ydX1_can q1212 q1213 q121 q1214 rfl (Nat.le_of_ble_eq_true rfl) (Nat.le_of_ble_eq_true rfl) hl.1 rfl (Nat.le_of_ble_eq_true rfl) dX1_down_22) (fun r101 h H locs cells slots hf hI => ?_)
  refine lv_aload_n hx hb dX1_down_25 rfl (lv_at hl 0 rfl) ?_
  obtain ⟨hs, hf⟩ := gCk_b hf
  refine g_cBU hI hf (fun v9 h9 e9 l9 l9' => g_rV X hI l9 l9' ⟨Nat.le_refl _, Nat.le_refl _⟩ (As := []) (m_X1_remembers X.2.2.2.2.2.2.2.2.2.2.1 e9) ydX1_remembers hs rfl rfl q1230 q1232 qs38 q121 q1233 rfl (Nat.le_of_ble_eq_true rfl) (Nat.le_of_ble_eq_true rfl) hl.1 rfl (Nat.le_of_ble_eq_true rfl) dX1_down_26) (fun r102 h H locs cells slots hf hI => ?_)
  refine lv_aload_n hx hb dX1_down_29 rfl (lv_at hl 0 rfl) ?_
  refine g_fr X hI hf fX1_1 q461 rfl rfl dX1_down_30 (fun v103 hf => ?_)
  refine g_frN X hI hf fX3_3 q264 rfl rfl dX1_down_33 (fun v104 hf => ?_)
  refine lv_iload_n hx hb dX1_down_36 rfl (lv_at hl 1 rfl) ?_
  refine g_ai0 X hI hf dX1_down_37 (fun v105 hf => ?_)
  refine lv_istore_n (lv' := [(2, .int v105), (0, .ref a0), (1, .int x1)]) hx hb dX1_down_38 rfl hl (by decide) rfl (fun ls hl => ?_)
  refine lv_aload_n hx hb dX1_down_39 rfl (lv_at hl 1 rfl) ?_
  refine g_fr X hI hf fX1_1 q461 rfl rfl dX1_down_40 (fun v106 hf => ?_)
  refine lv_iload_n hx hb dX1_down_43 rfl (lv_at hl 2 rfl) ?_
  obtain ⟨hs, hf⟩ := gCk_b hf
  refine g_cBU hI hf (fun v9 h9 e9 l9 l9' => g_rV X hI l9 l9' ⟨Nat.le_refl _, Nat.le_refl _⟩ (As := [.int x1]) (m_X3_takes X.2.2.2.2.2.2.2.2.2.2.1 e9) ydX3_takes hs rfl rfl q685 q686 q687 q123 q688 rfl (Nat.le_of_ble_eq_true rfl) (Nat.le_of_ble_eq_true rfl) hl.1 rfl (Nat.le_of_ble_eq_true rfl) dX1_down_44) (fun r107 h H locs cells slots hf hI => ?_)
  refine lv_iload_n hx hb dX1_down_47 rfl (lv_at hl 0 rfl) ?_
  cases gRet_e hf
  exact g_retI X hI rfl dX1_down_48
def f_X1_down (a0 : Nat) (x1 : Int32) : gM (Int32 ⊕ gE) :=
    gT (f_X1_isSlot x1) fun _ =>
    gB (gFR a0 0 1) fun v2 =>
    gB (gFR v2 2 3) fun v3 =>
    gB (gAI v3 0 x1) fun v4 =>
    gIf (v4 = (-1 : Int32))
    (f_X1_down_22 a0 x1 (0 : Int32))
    (f_X1_down_22 a0 x1 (1 : Int32))
set_option maxHeartbeats 4000000 in
set_option maxRecDepth 100000 in
theorem m_X1_down {G : gG} {l : Launch} (hfl : l.stackTraces = false) {a0 : Nat} {x1 : Int32} {h h' : g_H} {r : (Int32 ⊕ gE)} (hf : (f_X1_down a0 x1).1 h = some (r, h')) : gMet G l yX1_down (Cond.code yX1_down cX1_down 3 (some .int)) 8 129 [.ref a0, .int x1] h (g_w g_wI r) h' := by
  refine g_head hfl ((f_X1_down a0 x1).2 h r h' hf) (plainFor_of_name (by decide)) (Nat.le_of_ble_eq_true rfl) (fun p e s m below meth c H locs cells slots ls X hI hl9 => ?_)
  have hl : lv_has ls 3 [(0, .ref a0), (1, .int x1)] := hl9
  have hx := X.1
  have hb := X.2.1
  have hown := X.2.2.2.1
  have hts := X.2.2.2.2.1
  unfold f_X1_down at hf
  refine lv_iload_n hx hb dX1_down_0 rfl (lv_at hl 1 rfl) ?_
  refine g_cTU X hI (by decide) hf (fun v9 h9 e9 l9 l9' => g_rS (b := 0) X hI l9 l9' ⟨Nat.le_refl _, Nat.le_refl _⟩ (As := [.int x1]) (m_X1_isSlot X.2.2.2.2.2.2.2.2.2.2.1 e9) ydX1_isSlot q1179 q1180 q121 q1181 rfl (Nat.le_of_ble_eq_true rfl) (Nat.le_of_ble_eq_true rfl) hl.1 rfl (Nat.le_of_ble_eq_true rfl) dX1_down_1) (fun r1 h H locs cells slots hf hI => ?_)
  refine lv_aload_n hx hb dX1_down_4 rfl (lv_at hl 0 rfl) ?_
  refine g_fr X hI hf fX1_1 q461 rfl rfl dX1_down_5 (fun v2 hf => ?_)
  refine g_frN X hI hf fX3_3 q264 rfl rfl dX1_down_8 (fun v3 hf => ?_)
  refine lv_iload_n hx hb dX1_down_11 rfl (lv_at hl 1 rfl) ?_
  refine g_ai0 X hI hf dX1_down_12 (fun v4 hf => ?_)
  refine lv_iconst (v := (-1 : Int32)) hx hb dX1_down_13 (by decide) ?_
  refine lv_icmp_eq (tgt := 21) hx hb dX1_down_14 (by decide) (fun c14 => ?_) (fun c14 => ?_)
  · have hf := g_t c14 hf
    refine lv_iconst (v := (0 : Int32)) hx hb dX1_down_21 (by decide) ?_
    exact b_X1_down_22 X _ _ _ _ _ _ _ _ _ hf hI (lv_sub hl [0, 1] rfl)
  · have hf := g_f c14 hf
    refine lv_iconst (v := (1 : Int32)) hx hb dX1_down_17 (by decide) ?_
    refine lv_goto (tgt := 22) hx hb dX1_down_18 (by decide) ?_
    exact b_X1_down_22 X _ _ _ _ _ _ _ _ _ hf hI (lv_sub hl [0, 1] rfl)
/-! X0_down -/
def f_X0_down (a0 : Nat) (x1 : Int32) (a2 : Nat) : gM Int32 :=
    gB (gCk a0 0) fun _ =>
    gB (f_X1_down a0 x1) fun r9 => match r9 with
    | .inl r1 => (gB (gSI a2 2 (0 : Int32) (r1)) fun _ =>
    (gRet (0 : Int32)))
    | .inr x9 => (gIf (x9.1 = 19)
    ((gRet (1 : Int32)))
    (gIf (x9.1 = 13)
    ((gRet (2 : Int32)))
    (gFail)))
set_option maxHeartbeats 4000000 in
set_option maxRecDepth 100000 in
theorem m_X0_down {G : gG} {l : Launch} (hfl : l.stackTraces = false) {a0 : Nat} {x1 : Int32} {a2 : Nat} {h h' : g_H} {r : Int32} (hf : (f_X0_down a0 x1 a2).1 h = some (r, h')) : gMet G l yX0_down (Cond.codeWith yX0_down cX0_down 4 (some .int) [(0, 9, 12, 24), (0, 9, 15, 42)]) 9 151 [.ref a0, .int x1, .ref a2] h (.inl (g_wI r)) h' := by
  refine g_headW hfl ((f_X0_down a0 x1 a2).2 h r h' hf) (plainFor_of_name (by decide)) (Nat.le_of_ble_eq_true rfl) (fun p e s m below meth c H locs cells slots ls X hI hl9 => ?_)
  have hl : lv_has ls 4 [(0, .ref a0), (1, .int x1), (2, .ref a2)] := hl9
  have hx := X.1
  have hb := X.2.1
  have hown := X.2.2.2.1
  have hts := X.2.2.2.2.1
  unfold f_X0_down at hf
  refine lv_aload_n hx hb dX0_down_0 rfl (lv_at hl 2 rfl) ?_
  refine lv_iconst (v := (0 : Int32)) hx hb dX0_down_1 (by decide) ?_
  refine lv_aload_n hx hb dX0_down_2 rfl (lv_at hl 0 rfl) ?_
  refine lv_iload_n hx hb dX0_down_3 rfl (lv_at hl 1 rfl) ?_
  obtain ⟨hs, hf⟩ := gCk_b hf
  refine g_cHI hI hf (fun v9 h9 e9 l9 l9' => g_rV X hI l9 l9' ⟨Nat.le_refl _, Nat.le_refl _⟩ (As := [.int x1]) (m_X1_down X.2.2.2.2.2.2.2.2.2.2.1 e9) ydX1_down hs rfl rfl q1249 q1250 q1251 q121 q1252 rfl (Nat.le_of_ble_eq_true rfl) (Nat.le_of_ble_eq_true rfl) hl.1 rfl (Nat.le_of_ble_eq_true rfl) dX0_down_4) (fun r1 h H locs cells slots hf hI => ?_) ?_
  · refine lv_i2l hx hb dX0_down_7 rfl ?_
    refine g_si2 X hI hf dX0_down_8 (fun h H locs hf hI => ?_)
    refine lv_goto (tgt := 18) hx hb dX0_down_9 (by decide) ?_
    refine lv_iconst (v := (0 : Int32)) hx hb dX0_down_18 (by decide) ?_
    cases gRet_e hf
    exact g_retI X hI rfl dX0_down_19
  · intro ci9 x9 h H locs cells slots r9 ce9 hf hr9 hI hce hcv hcl
    by_cases k0 : ci9 = 19
    · subst k0
      cases hr9
      have hf := g_t rfl hf
      refine g_catch0 X hI (name := "java/lang/IndexOutOfBoundsException") rfl (by rfl) (by decide) (by decide) q1098 q1144 hce hcv hcl ?_
      refine lv_astore_n (lv' := [(3, .ref x9), (0, .ref a0), (1, .int x1), (2, .ref a2)]) hx hb dX0_down_12 rfl hl (by decide) rfl (fun ls hl => ?_)
      refine lv_iconst (v := (1 : Int32)) hx hb dX0_down_13 (by decide) ?_
      cases gRet_e hf
      exact g_retI X hI rfl dX0_down_14
    have hf := g_f k0 hf
    by_cases k1 : ci9 = 13
    · subst k1
      cases hr9
      have hf := g_t rfl hf
      refine g_catch1 X hI (name := "java/lang/IllegalStateException") rfl (by rfl) (by decide) (by decide) q1207 q1217 q1098 (List.mem_of_getElem? (i := 3) rfl) hce hcv hcl ?_
      refine lv_astore_n (lv' := [(3, .ref x9), (0, .ref a0), (1, .int x1), (2, .ref a2)]) hx hb dX0_down_15 rfl hl (by decide) rfl (fun ls hl => ?_)
      refine lv_iconst (v := (2 : Int32)) hx hb dX0_down_16 (by decide) ?_
      cases gRet_e hf
      exact g_retI X hI rfl dX0_down_17
    have hf := g_f k1 hf
    exact (gFail_f hf).elim
/-! X8_down -/
abbrev w_X8_down_39 (G : gG) (l : Launch) (p : Program) (e : Env) (s : State) (m : MethodId) (args : Array Value) (below : List Frame) (meth : Method) (c : Code) (h0 : g_H) (r : Int32) (h' : g_H) (k : gM Int32) : Prop := ∀ (h : g_H) (H : Heap) (locs : List Loc) (cells slots : Nat) (ls : Array Slot), (k).1 h = some (r, h') → gI G h0 h H locs cells slots → lv_has ls 3 [] → W p l e (g_rm 4 85 h0 h') s m args below meth c H locs cells slots (gQ G below args s h0 h' (.inl (g_wI r))) (F0 m 39 ls [])
abbrev w_X8_down_32 (G : gG) (l : Launch) (p : Program) (e : Env) (s : State) (m : MethodId) (args : Array Value) (below : List Frame) (meth : Method) (c : Code) (h0 : g_H) (r : Int32) (h' : g_H) (k : Nat → Int32 → Nat → Int32 → gM Int32) : Prop := ∀ (a0 : Nat) (x1 : Int32) (b0 : Nat) (u1 : Int32) (h : g_H) (H : Heap) (locs : List Loc) (cells slots : Nat) (ls : Array Slot), (k a0 x1 b0 u1).1 h = some (r, h') → gI G h0 h H locs cells slots → lv_has ls 3 [(0, .ref a0), (1, .int x1)] → W p l e (g_rm 4 85 h0 h') s m args below meth c H locs cells slots (gQ G below args s h0 h' (.inl (g_wI r))) (F0 m 32 ls [.int u1, .ref b0])
def f_X8_down_39 : gM Int32 :=
    (gRet (0 : Int32))
set_option maxHeartbeats 4000000 in
set_option maxRecDepth 100000 in
theorem b_X8_down_39 {G : gG} {l : Launch} {p : Program} {e : Env} {s : State} {m : MethodId} {args : Array Value} {below : List Frame} {meth : Method} {c : Code} {h0 : g_H} {r : Int32} {h' : g_H} (X : gX G l yX8_down.cls cX8_down 3 (some .int) [] yX8_down.name p s m args meth c) : w_X8_down_39 G l p e s m args below meth c h0 r h' (f_X8_down_39) := by
  have hx := X.1
  have hb := X.2.1
  have hown := X.2.2.2.1
  have hts := X.2.2.2.2.1
  intro h H locs cells slots ls hf hI hl
  unfold f_X8_down_39 at hf
  refine lv_iconst (v := (0 : Int32)) hx hb dX8_down_39 (by decide) ?_
  cases gRet_e hf
  exact g_retI X hI rfl dX8_down_40
def f_X8_down_32 (a0 : Nat) (x1 : Int32) (b0 : Nat) (u1 : Int32) : gM Int32 :=
    gB (gCk b0 7) fun _ =>
    gB (f_X8_throwsIf b0 u1 (2 : Int32)) fun r101 =>
    gIf (r101 = 0)
    (gB (gCk a0 7) fun _ =>
    gB (f_X8_remembers a0) fun _ =>
    gB (gCk a0 7) fun _ =>
    gB (f_X8_propIn a0 x1) fun r103 =>
    gB (gFR a0 7 1) fun v104 =>
    gB (f_X8_propAt r103 (3 : Int32)) fun r105 =>
    gB (gSI v104 0 r105 (-1 : Int32)) fun _ =>
    (gRet r103))
    (f_X8_down_39)
set_option maxHeartbeats 4000000 in
set_option maxRecDepth 100000 in
theorem b_X8_down_32 {G : gG} {l : Launch} {p : Program} {e : Env} {s : State} {m : MethodId} {args : Array Value} {below : List Frame} {meth : Method} {c : Code} {h0 : g_H} {r : Int32} {h' : g_H} (X : gX G l yX8_down.cls cX8_down 3 (some .int) [] yX8_down.name p s m args meth c) : w_X8_down_32 G l p e s m args below meth c h0 r h' (f_X8_down_32) := by
  have hx := X.1
  have hb := X.2.1
  have hown := X.2.2.2.1
  have hts := X.2.2.2.2.1
  intro a0 x1 b0 u1 h H locs cells slots ls hf hI hl
  unfold f_X8_down_32 at hf
  refine lv_iconst (v := (2 : Int32)) hx hb dX8_down_32 (by decide) ?_
  obtain ⟨hs, hf⟩ := gCk_b hf
  refine g_cBI hI hf (fun v9 h9 e9 l9 l9' => g_rV X hI l9 l9' ⟨Nat.le_refl _, Nat.le_refl _⟩ (As := [.int u1, .int (2 : Int32)]) (m_X8_throwsIf X.2.2.2.2.2.2.2.2.2.2.1 e9) ydX8_throwsIf hs rfl rfl q1736 q1738 qs72 q131 q1739 rfl (Nat.le_of_ble_eq_true rfl) (Nat.le_of_ble_eq_true rfl) hl.1 rfl (Nat.le_of_ble_eq_true rfl) dX8_down_33) (fun r101 h H locs cells slots hf hI => ?_)
  refine lv_if_eq (tgt := 41) hx hb dX8_down_36 (by decide) (fun c36 => ?_) (fun c36 => ?_)
  · have hf := g_t c36 hf
    refine lv_aload_n hx hb dX8_down_41 rfl (lv_at hl 0 rfl) ?_
    obtain ⟨hs, hf⟩ := gCk_b hf
    refine g_cBU hI hf (fun v9 h9 e9 l9 l9' => g_rV X hI l9 l9' ⟨Nat.le_refl _, Nat.le_refl _⟩ (As := []) (m_X8_remembers X.2.2.2.2.2.2.2.2.2.2.1 e9) ydX8_remembers hs rfl rfl q1808 q1810 qs83 q131 q1811 rfl (Nat.le_of_ble_eq_true rfl) (Nat.le_of_ble_eq_true rfl) hl.1 rfl (Nat.le_of_ble_eq_true rfl) dX8_down_42) (fun r102 h H locs cells slots hf hI => ?_)
    refine lv_aload_n hx hb dX8_down_45 rfl (lv_at hl 0 rfl) ?_
    refine lv_iload_n hx hb dX8_down_46 rfl (lv_at hl 1 rfl) ?_
    obtain ⟨hs, hf⟩ := gCk_b hf
    refine g_cBI hI hf (fun v9 h9 e9 l9 l9' => g_rV X hI l9 l9' ⟨Nat.le_refl _, Nat.le_refl _⟩ (As := [.int x1]) (m_X8_propIn X.2.2.2.2.2.2.2.2.2.2.1 e9) ydX8_propIn hs rfl rfl q1655 q1657 qs58 q131 q1658 rfl (Nat.le_of_ble_eq_true rfl) (Nat.le_of_ble_eq_true rfl) hl.1 rfl (Nat.le_of_ble_eq_true rfl) dX8_down_47) (fun r103 h H locs cells slots hf hI => ?_)
    refine lv_istore_n (lv' := [(2, .int r103), (0, .ref a0), (1, .int x1)]) hx hb dX8_down_50 rfl hl (by decide) rfl (fun ls hl => ?_)
    refine lv_aload_n hx hb dX8_down_51 rfl (lv_at hl 1 rfl) ?_
    refine g_fr X hI hf fX8_1 q1445 rfl rfl dX8_down_52 (fun v104 hf => ?_)
    refine lv_iload_n hx hb dX8_down_55 rfl (lv_at hl 0 rfl) ?_
    refine lv_iconst (v := (3 : Int32)) hx hb dX8_down_56 (by decide) ?_
    refine g_cBI hI hf (fun v9 h9 e9 l9 l9' => g_rS (b := 0) X hI l9 l9' ⟨Nat.le_refl _, Nat.le_refl _⟩ (As := [.int r103, .int (3 : Int32)]) (m_X8_propAt X.2.2.2.2.2.2.2.2.2.2.1 e9) ydX8_propAt q1663 q1664 q131 q1665 rfl (Nat.le_of_ble_eq_true rfl) (Nat.le_of_ble_eq_true rfl) hl.1 rfl (Nat.le_of_ble_eq_true rfl) dX8_down_57) (fun r105 h H locs cells slots hf hI => ?_)
    refine lv_iconst (v := (-1 : Int32)) hx hb dX8_down_60 (by decide) ?_
    refine g_si0 X hI hf dX8_down_61 (fun h H locs hf hI => ?_)
    refine lv_iload_n hx hb dX8_down_62 rfl (lv_at hl 0 rfl) ?_
    cases gRet_e hf
    exact g_retI X hI rfl dX8_down_63
  · have hf := g_f c36 hf
    exact b_X8_down_39 X _ _ _ _ _ _ hf hI (lv_sub hl [] rfl)
def f_X8_down (a0 : Nat) (x1 : Int32) : gM Int32 :=
    gB (gPI a0 7 0 (0 : Int32)) fun _ =>
    gB (f_X8_noSlot x1) fun r1 =>
    gB (gCk a0 7) fun _ =>
    gB (f_X8_throwsIf a0 r1 (1 : Int32)) fun r2 =>
    gIf (r2 = 0)
    (gB (gCk a0 7) fun _ =>
    gB (f_X8_propIn a0 x1) fun r3 =>
    gIf (r3 = (-1 : Int32))
    (f_X8_down_32 a0 x1 a0 (1 : Int32))
    (f_X8_down_32 a0 x1 a0 (0 : Int32)))
    (f_X8_down_39)
set_option maxHeartbeats 4000000 in
set_option maxRecDepth 100000 in
theorem m_X8_down {G : gG} {l : Launch} (hfl : l.stackTraces = false) {a0 : Nat} {x1 : Int32} {h h' : g_H} {r : Int32} (hf : (f_X8_down a0 x1).1 h = some (r, h')) : gMet G l yX8_down (Cond.code yX8_down cX8_down 3 (some .int)) 4 85 [.ref a0, .int x1] h (.inl (g_wI r)) h' := by
  refine g_head hfl ((f_X8_down a0 x1).2 h r h' hf) (plainFor_of_name (by decide)) (Nat.le_of_ble_eq_true rfl) (fun p e s m below meth c H locs cells slots ls X hI hl9 => ?_)
  have hl : lv_has ls 3 [(0, .ref a0), (1, .int x1)] := hl9
  have hx := X.1
  have hb := X.2.1
  have hown := X.2.2.2.1
  have hts := X.2.2.2.2.1
  unfold f_X8_down at hf
  refine lv_aload_n hx hb dX8_down_0 rfl (lv_at hl 0 rfl) ?_
  refine lv_iconst (v := (0 : Int32)) hx hb dX8_down_1 (by decide) ?_
  refine g_pi X hI hf fX8_0 q1444 rfl dX8_down_2 (fun h H locs hf hI => ?_)
  refine lv_aload_n hx hb dX8_down_5 rfl (lv_at hl 0 rfl) ?_
  refine lv_iload_n hx hb dX8_down_6 rfl (lv_at hl 1 rfl) ?_
  refine g_cBI hI hf (fun v9 h9 e9 l9 l9' => g_rS (b := 0) X hI l9 l9' ⟨Nat.le_refl _, Nat.le_refl _⟩ (As := [.int x1]) (m_X8_noSlot X.2.2.2.2.2.2.2.2.2.2.1 e9) ydX8_noSlot q1756 q1757 q131 q1758 rfl (Nat.le_of_ble_eq_true rfl) (Nat.le_of_ble_eq_true rfl) hl.1 rfl (Nat.le_of_ble_eq_true rfl) dX8_down_7) (fun r1 h H locs cells slots hf hI => ?_)
  refine lv_iconst (v := (1 : Int32)) hx hb dX8_down_10 (by decide) ?_
  obtain ⟨hs, hf⟩ := gCk_b hf
  refine g_cBI hI hf (fun v9 h9 e9 l9 l9' => g_rV X hI l9 l9' ⟨Nat.le_refl _, Nat.le_refl _⟩ (As := [.int r1, .int (1 : Int32)]) (m_X8_throwsIf X.2.2.2.2.2.2.2.2.2.2.1 e9) ydX8_throwsIf hs rfl rfl q1736 q1738 qs72 q131 q1739 rfl (Nat.le_of_ble_eq_true rfl) (Nat.le_of_ble_eq_true rfl) hl.1 rfl (Nat.le_of_ble_eq_true rfl) dX8_down_11) (fun r2 h H locs cells slots hf hI => ?_)
  refine lv_if_ne (tgt := 39) hx hb dX8_down_14 (by decide) (fun c14 => ?_) (fun c14 => ?_)
  · have hf := g_f c14 hf
    exact b_X8_down_39 X _ _ _ _ _ _ hf hI (lv_sub hl [] rfl)
  · have hf := g_t c14 hf
    refine lv_aload_n hx hb dX8_down_17 rfl (lv_at hl 0 rfl) ?_
    refine lv_aload_n hx hb dX8_down_18 rfl (lv_at hl 0 rfl) ?_
    refine lv_iload_n hx hb dX8_down_19 rfl (lv_at hl 1 rfl) ?_
    obtain ⟨hs, hf⟩ := gCk_b hf
    refine g_cBI hI hf (fun v9 h9 e9 l9 l9' => g_rV X hI l9 l9' ⟨Nat.le_refl _, Nat.le_refl _⟩ (As := [.int x1]) (m_X8_propIn X.2.2.2.2.2.2.2.2.2.2.1 e9) ydX8_propIn hs rfl rfl q1655 q1657 qs58 q131 q1658 rfl (Nat.le_of_ble_eq_true rfl) (Nat.le_of_ble_eq_true rfl) hl.1 rfl (Nat.le_of_ble_eq_true rfl) dX8_down_20) (fun r3 h H locs cells slots hf hI => ?_)
    refine lv_iconst (v := (-1 : Int32)) hx hb dX8_down_23 (by decide) ?_
    refine lv_icmp_ne (tgt := 31) hx hb dX8_down_24 (by decide) (fun c24 => ?_) (fun c24 => ?_)
    · have hf := g_f c24 hf
      refine lv_iconst (v := (0 : Int32)) hx hb dX8_down_31 (by decide) ?_
      exact b_X8_down_32 X _ _ _ _ _ _ _ _ _ _ hf hI (lv_sub hl [0, 1] rfl)
    · have hf := g_t c24 hf
      refine lv_iconst (v := (1 : Int32)) hx hb dX8_down_27 (by decide) ?_
      refine lv_goto (tgt := 32) hx hb dX8_down_28 (by decide) ?_
      exact b_X8_down_32 X _ _ _ _ _ _ _ _ _ _ hf hI (lv_sub hl [0, 1] rfl)
/-! X3_nails -/
def f_X3_nails (a0 : Nat) (x1 : Int32) (x2 : Int32) : gM Unit :=
    gB (gFR a0 2 3) fun v1 =>
    gB (gSI v1 0 x2 x1) fun _ =>
    gB (gFR a0 2 0) fun v2 =>
    gB (gAR v2 4 x1) fun v3 =>
    gB (gPI v3 3 3 x2) fun _ =>
    gRet ()
set_option maxHeartbeats 4000000 in
set_option maxRecDepth 100000 in
theorem m_X3_nails {G : gG} {l : Launch} (hfl : l.stackTraces = false) {a0 : Nat} {x1 : Int32} {x2 : Int32} {h h' : g_H} {r : Unit} (hf : (f_X3_nails a0 x1 x2).1 h = some (r, h')) : gMet G l yX3_nails (Cond.code yX3_nails cX3_nails 3 none) 1 20 [.ref a0, .int x1, .int x2] h (.inl (g_wU r)) h' := by
  refine g_head hfl ((f_X3_nails a0 x1 x2).2 h r h' hf) (plainFor_of_name (by decide)) (Nat.le_of_ble_eq_true rfl) (fun p e s m below meth c H locs cells slots ls X hI hl9 => ?_)
  have hl : lv_has ls 3 [(0, .ref a0), (1, .int x1), (2, .int x2)] := hl9
  have hx := X.1
  have hb := X.2.1
  have hown := X.2.2.2.1
  have hts := X.2.2.2.2.1
  unfold f_X3_nails at hf
  refine lv_aload_n hx hb dX3_nails_0 rfl (lv_at hl 0 rfl) ?_
  refine g_fr X hI hf fX3_3 q261 rfl rfl dX3_nails_1 (fun v1 hf => ?_)
  refine lv_iload_n hx hb dX3_nails_4 rfl (lv_at hl 2 rfl) ?_
  refine lv_iload_n hx hb dX3_nails_5 rfl (lv_at hl 1 rfl) ?_
  refine g_si0 X hI hf dX3_nails_6 (fun h H locs hf hI => ?_)
  refine lv_aload_n hx hb dX3_nails_7 rfl (lv_at hl 0 rfl) ?_
  refine g_fr X hI hf fX3_0 q253 rfl rfl dX3_nails_8 (fun v2 hf => ?_)
  refine lv_iload_n hx hb dX3_nails_11 rfl (lv_at hl 1 rfl) ?_
  refine g_ar4 X hI hf dX3_nails_12 (fun v3 hf => ?_)
  refine lv_iload_n hx hb dX3_nails_13 rfl (lv_at hl 2 rfl) ?_
  refine g_piN X hI hf fX4_3 q208 rfl dX3_nails_14 (fun h H locs hf hI => ?_)
  cases gRet_e hf
  exact g_retU X hI rfl dX3_nails_17
/-! X1_nail -/
abbrev w_X1_nail_36 (G : gG) (l : Launch) (p : Program) (e : Env) (s : State) (m : MethodId) (args : Array Value) (below : List Frame) (meth : Method) (c : Code) (h0 : g_H) (r : (Unit ⊕ gE)) (h' : g_H) (k : Nat → Int32 → Int32 → Int32 → gM (Unit ⊕ gE)) : Prop := ∀ (a0 : Nat) (x1 : Int32) (x2 : Int32) (u0 : Int32) (h : g_H) (H : Heap) (locs : List Loc) (cells slots : Nat) (ls : Array Slot), (k a0 x1 x2 u0).1 h = some (r, h') → gI G h0 h H locs cells slots → lv_has ls 4 [(0, .ref a0), (1, .int x1), (2, .int x2)] → W p l e (g_rm 8 130 h0 h') s m args below meth c H locs cells slots (gQ G below args s h0 h' (g_w g_wU r)) (F0 m 36 ls [.int u0])
abbrev w_X1_nail_35 (G : gG) (l : Launch) (p : Program) (e : Env) (s : State) (m : MethodId) (args : Array Value) (below : List Frame) (meth : Method) (c : Code) (h0 : g_H) (r : (Unit ⊕ gE)) (h' : g_H) (k : Nat → Int32 → Int32 → gM (Unit ⊕ gE)) : Prop := ∀ (a0 : Nat) (x1 : Int32) (x2 : Int32) (h : g_H) (H : Heap) (locs : List Loc) (cells slots : Nat) (ls : Array Slot), (k a0 x1 x2).1 h = some (r, h') → gI G h0 h H locs cells slots → lv_has ls 4 [(0, .ref a0), (1, .int x1), (2, .int x2)] → W p l e (g_rm 8 130 h0 h') s m args below meth c H locs cells slots (gQ G below args s h0 h' (g_w g_wU r)) (F0 m 35 ls [])
def f_X1_nail_36 (a0 : Nat) (x1 : Int32) (x2 : Int32) (u0 : Int32) : gM (Unit ⊕ gE) :=
    gT (f_X1_can u0) fun _ =>
    gB (gCk a0 0) fun _ =>
    gB (f_X1_remembers a0) fun _ =>
    gB (gFR a0 0 1) fun v103 =>
    gB (gCk v103 2) fun _ =>
    gB (f_X3_nails v103 x1 x2) fun _ =>
    gRet (.inl ())
set_option maxHeartbeats 4000000 in
set_option maxRecDepth 100000 in
theorem b_X1_nail_36 {G : gG} {l : Launch} {p : Program} {e : Env} {s : State} {m : MethodId} {args : Array Value} {below : List Frame} {meth : Method} {c : Code} {h0 : g_H} {r : (Unit ⊕ gE)} {h' : g_H} (X : gX G l yX1_nail.cls cX1_nail 4 none [] yX1_nail.name p s m args meth c) : w_X1_nail_36 G l p e s m args below meth c h0 r h' (f_X1_nail_36) := by
  have hx := X.1
  have hb := X.2.1
  have hown := X.2.2.2.1
  have hts := X.2.2.2.2.1
  intro a0 x1 x2 u0 h H locs cells slots ls hf hI hl
  unfold f_X1_nail_36 at hf
  refine g_cTU X hI (by decide) hf (fun v9 h9 e9 l9 l9' => g_rS (b := 0) X hI l9 l9' ⟨Nat.le_refl _, Nat.le_refl _⟩ (As := [.int u0]) (m_X1_can X.2.2.2.2.2.2.2.2.2.2.1 e9) ydX1_can q1212 q1213 q121 q1214 rfl (Nat.le_of_ble_eq_true rfl) (Nat.le_of_ble_eq_true rfl) hl.1 rfl (Nat.le_of_ble_eq_true rfl) dX1_nail_36) (fun r101 h H locs cells slots hf hI => ?_)
  refine lv_aload_n hx hb dX1_nail_39 rfl (lv_at hl 0 rfl) ?_
  obtain ⟨hs, hf⟩ := gCk_b hf
  refine g_cBU hI hf (fun v9 h9 e9 l9 l9' => g_rV X hI l9 l9' ⟨Nat.le_refl _, Nat.le_refl _⟩ (As := []) (m_X1_remembers X.2.2.2.2.2.2.2.2.2.2.1 e9) ydX1_remembers hs rfl rfl q1230 q1232 qs38 q121 q1233 rfl (Nat.le_of_ble_eq_true rfl) (Nat.le_of_ble_eq_true rfl) hl.1 rfl (Nat.le_of_ble_eq_true rfl) dX1_nail_40) (fun r102 h H locs cells slots hf hI => ?_)
  refine lv_aload_n hx hb dX1_nail_43 rfl (lv_at hl 0 rfl) ?_
  refine g_fr X hI hf fX1_1 q461 rfl rfl dX1_nail_44 (fun v103 hf => ?_)
  refine lv_iload_n hx hb dX1_nail_47 rfl (lv_at hl 1 rfl) ?_
  refine lv_iload_n hx hb dX1_nail_48 rfl (lv_at hl 2 rfl) ?_
  obtain ⟨hs, hf⟩ := gCk_b hf
  refine g_cBU hI hf (fun v9 h9 e9 l9 l9' => g_rV X hI l9 l9' ⟨Nat.le_refl _, Nat.le_refl _⟩ (As := [.int x1, .int x2]) (m_X3_nails X.2.2.2.2.2.2.2.2.2.2.1 e9) ydX3_nails hs rfl rfl q1245 q904 q905 q123 q906 rfl (Nat.le_of_ble_eq_true rfl) (Nat.le_of_ble_eq_true rfl) hl.1 rfl (Nat.le_of_ble_eq_true rfl) dX1_nail_49) (fun r104 h H locs cells slots hf hI => ?_)
  cases gRet_e hf
  exact g_retU X hI rfl dX1_nail_52
def f_X1_nail_35 (a0 : Nat) (x1 : Int32) (x2 : Int32) : gM (Unit ⊕ gE) :=
    f_X1_nail_36 a0 x1 x2 (0 : Int32)
set_option maxHeartbeats 4000000 in
set_option maxRecDepth 100000 in
theorem b_X1_nail_35 {G : gG} {l : Launch} {p : Program} {e : Env} {s : State} {m : MethodId} {args : Array Value} {below : List Frame} {meth : Method} {c : Code} {h0 : g_H} {r : (Unit ⊕ gE)} {h' : g_H} (X : gX G l yX1_nail.cls cX1_nail 4 none [] yX1_nail.name p s m args meth c) : w_X1_nail_35 G l p e s m args below meth c h0 r h' (f_X1_nail_35) := by
  have hx := X.1
  have hb := X.2.1
  have hown := X.2.2.2.1
  have hts := X.2.2.2.2.1
  intro a0 x1 x2 h H locs cells slots ls hf hI hl
  unfold f_X1_nail_35 at hf
  refine lv_iconst (v := (0 : Int32)) hx hb dX1_nail_35 (by decide) ?_
  exact b_X1_nail_36 X _ _ _ _ _ _ _ _ _ _ hf hI (lv_sub hl [0, 1, 2] rfl)
def f_X1_nail (a0 : Nat) (x1 : Int32) (x2 : Int32) : gM (Unit ⊕ gE) :=
    gB (gCk a0 0) fun _ =>
    gT (f_X1_propAt a0 x1) fun r1 =>
    gT (f_X1_isSlot x2) fun _ =>
    gB (gFI r1 3 3) fun v3 =>
    gIf (v3 = (-1 : Int32))
    (gB (gFR a0 0 1) fun v4 =>
    gB (gFR v4 2 3) fun v5 =>
    gB (gAI v5 0 x2) fun v6 =>
    gIf (v6 = (-1 : Int32))
    (f_X1_nail_36 a0 x1 x2 (1 : Int32))
    (f_X1_nail_35 a0 x1 x2))
    (f_X1_nail_35 a0 x1 x2)
set_option maxHeartbeats 4000000 in
set_option maxRecDepth 100000 in
theorem m_X1_nail {G : gG} {l : Launch} (hfl : l.stackTraces = false) {a0 : Nat} {x1 : Int32} {x2 : Int32} {h h' : g_H} {r : (Unit ⊕ gE)} (hf : (f_X1_nail a0 x1 x2).1 h = some (r, h')) : gMet G l yX1_nail (Cond.code yX1_nail cX1_nail 4 none) 8 130 [.ref a0, .int x1, .int x2] h (g_w g_wU r) h' := by
  refine g_head hfl ((f_X1_nail a0 x1 x2).2 h r h' hf) (plainFor_of_name (by decide)) (Nat.le_of_ble_eq_true rfl) (fun p e s m below meth c H locs cells slots ls X hI hl9 => ?_)
  have hl : lv_has ls 4 [(0, .ref a0), (1, .int x1), (2, .int x2)] := hl9
  have hx := X.1
  have hb := X.2.1
  have hown := X.2.2.2.1
  have hts := X.2.2.2.2.1
  unfold f_X1_nail at hf
  refine lv_aload_n hx hb dX1_nail_0 rfl (lv_at hl 0 rfl) ?_
  refine lv_iload_n hx hb dX1_nail_1 rfl (lv_at hl 1 rfl) ?_
  obtain ⟨hs, hf⟩ := gCk_b hf
  refine g_cTR X hI (by decide) hf (fun v9 h9 e9 l9 l9' => g_rV X hI l9 l9' ⟨Nat.le_refl _, Nat.le_refl _⟩ (As := [.int x1]) (m_X1_propAt X.2.2.2.2.2.2.2.2.2.2.1 e9) ydX1_propAt hs rfl rfl q1135 q1137 qs36 q121 q1138 rfl (Nat.le_of_ble_eq_true rfl) (Nat.le_of_ble_eq_true rfl) hl.1 rfl (Nat.le_of_ble_eq_true rfl) dX1_nail_2) (fun r1 h H locs cells slots hf hI => ?_)
  refine lv_astore_n (lv' := [(3, .ref r1), (0, .ref a0), (1, .int x1), (2, .int x2)]) hx hb dX1_nail_5 rfl hl (by decide) rfl (fun ls hl => ?_)
  refine lv_iload_n hx hb dX1_nail_6 rfl (lv_at hl 3 rfl) ?_
  refine g_cTU X hI (by decide) hf (fun v9 h9 e9 l9 l9' => g_rS (b := 0) X hI l9 l9' ⟨Nat.le_refl _, Nat.le_refl _⟩ (As := [.int x2]) (m_X1_isSlot X.2.2.2.2.2.2.2.2.2.2.1 e9) ydX1_isSlot q1179 q1180 q121 q1181 rfl (Nat.le_of_ble_eq_true rfl) (Nat.le_of_ble_eq_true rfl) hl.1 rfl (Nat.le_of_ble_eq_true rfl) dX1_nail_7) (fun r2 h H locs cells slots hf hI => ?_)
  refine lv_aload_n hx hb dX1_nail_10 rfl (lv_at hl 0 rfl) ?_
  refine g_fiN X hI hf fX4_3 q210 rfl rfl dX1_nail_11 (fun v3 hf => ?_)
  refine lv_iconst (v := (-1 : Int32)) hx hb dX1_nail_14 (by decide) ?_
  refine lv_icmp_ne (tgt := 35) hx hb dX1_nail_15 (by decide) (fun c15 => ?_) (fun c15 => ?_)
  · have hf := g_f c15 hf
    exact b_X1_nail_35 X _ _ _ _ _ _ _ _ _ hf hI (lv_sub hl [1, 2, 3] rfl)
  · have hf := g_t c15 hf
    refine lv_aload_n hx hb dX1_nail_18 rfl (lv_at hl 1 rfl) ?_
    refine g_fr X hI hf fX1_1 q461 rfl rfl dX1_nail_19 (fun v4 hf => ?_)
    refine g_frN X hI hf fX3_3 q264 rfl rfl dX1_nail_22 (fun v5 hf => ?_)
    refine lv_iload_n hx hb dX1_nail_25 rfl (lv_at hl 3 rfl) ?_
    refine g_ai0 X hI hf dX1_nail_26 (fun v6 hf => ?_)
    refine lv_iconst (v := (-1 : Int32)) hx hb dX1_nail_27 (by decide) ?_
    refine lv_icmp_ne (tgt := 35) hx hb dX1_nail_28 (by decide) (fun c28 => ?_) (fun c28 => ?_)
    · have hf := g_f c28 hf
      exact b_X1_nail_35 X _ _ _ _ _ _ _ _ _ hf hI (lv_sub hl [1, 2, 3] rfl)
    · have hf := g_t c28 hf
      refine lv_iconst (v := (1 : Int32)) hx hb dX1_nail_31 (by decide) ?_
      refine lv_goto (tgt := 36) hx hb dX1_nail_32 (by decide) ?_
      exact b_X1_nail_36 X _ _ _ _ _ _ _ _ _ _ hf hI (lv_sub hl [1, 2, 3] rfl)
/-! X0_nail -/
def f_X0_nail (a0 : Nat) (x1 : Int32) (x2 : Int32) : gM Int32 :=
    gB (gCk a0 0) fun _ =>
    gB (f_X1_nail a0 x1 x2) fun r9 => match r9 with
    | .inl r1 => ((gRet (0 : Int32)))
    | .inr x9 => (gIf (x9.1 = 19)
    ((gRet (1 : Int32)))
    (gIf (x9.1 = 13)
    ((gRet (2 : Int32)))
    (gFail)))
set_option maxHeartbeats 4000000 in
set_option maxRecDepth 100000 in
theorem m_X0_nail {G : gG} {l : Launch} (hfl : l.stackTraces = false) {a0 : Nat} {x1 : Int32} {x2 : Int32} {h h' : g_H} {r : Int32} (hf : (f_X0_nail a0 x1 x2).1 h = some (r, h')) : gMet G l yX0_nail (Cond.codeWith yX0_nail cX0_nail 4 (some .int) [(0, 6, 9, 24), (0, 6, 12, 42)]) 9 153 [.ref a0, .int x1, .int x2] h (.inl (g_wI r)) h' := by
  refine g_headW hfl ((f_X0_nail a0 x1 x2).2 h r h' hf) (plainFor_of_name (by decide)) (Nat.le_of_ble_eq_true rfl) (fun p e s m below meth c H locs cells slots ls X hI hl9 => ?_)
  have hl : lv_has ls 4 [(0, .ref a0), (1, .int x1), (2, .int x2)] := hl9
  have hx := X.1
  have hb := X.2.1
  have hown := X.2.2.2.1
  have hts := X.2.2.2.2.1
  unfold f_X0_nail at hf
  refine lv_aload_n hx hb dX0_nail_0 rfl (lv_at hl 0 rfl) ?_
  refine lv_iload_n hx hb dX0_nail_1 rfl (lv_at hl 1 rfl) ?_
  refine lv_iload_n hx hb dX0_nail_2 rfl (lv_at hl 2 rfl) ?_
  obtain ⟨hs, hf⟩ := gCk_b hf
  refine g_cHU hI hf (fun v9 h9 e9 l9 l9' => g_rV X hI l9 l9' ⟨Nat.le_refl _, Nat.le_refl _⟩ (As := [.int x1, .int x2]) (m_X1_nail X.2.2.2.2.2.2.2.2.2.2.1 e9) ydX1_nail hs rfl rfl q1241 q1242 q1243 q121 q1244 rfl (Nat.le_of_ble_eq_true rfl) (Nat.le_of_ble_eq_true rfl) hl.1 rfl (Nat.le_of_ble_eq_true rfl) dX0_nail_3) (fun r1 h H locs cells slots hf hI => ?_) ?_
  · refine lv_goto (tgt := 15) hx hb dX0_nail_6 (by decide) ?_
    refine lv_iconst (v := (0 : Int32)) hx hb dX0_nail_15 (by decide) ?_
    cases gRet_e hf
    exact g_retI X hI rfl dX0_nail_16
  · intro ci9 x9 h H locs cells slots r9 ce9 hf hr9 hI hce hcv hcl
    by_cases k0 : ci9 = 19
    · subst k0
      cases hr9
      have hf := g_t rfl hf
      refine g_catch0 X hI (name := "java/lang/IndexOutOfBoundsException") rfl (by rfl) (by decide) (by decide) q1098 q1144 hce hcv hcl ?_
      refine lv_astore_n (lv' := [(3, .ref x9), (0, .ref a0), (1, .int x1), (2, .int x2)]) hx hb dX0_nail_9 rfl hl (by decide) rfl (fun ls hl => ?_)
      refine lv_iconst (v := (1 : Int32)) hx hb dX0_nail_10 (by decide) ?_
      cases gRet_e hf
      exact g_retI X hI rfl dX0_nail_11
    have hf := g_f k0 hf
    by_cases k1 : ci9 = 13
    · subst k1
      cases hr9
      have hf := g_t rfl hf
      refine g_catch1 X hI (name := "java/lang/IllegalStateException") rfl (by rfl) (by decide) (by decide) q1207 q1217 q1098 (List.mem_of_getElem? (i := 3) rfl) hce hcv hcl ?_
      refine lv_astore_n (lv' := [(3, .ref x9), (0, .ref a0), (1, .int x1), (2, .int x2)]) hx hb dX0_nail_12 rfl hl (by decide) rfl (fun ls hl => ?_)
      refine lv_iconst (v := (2 : Int32)) hx hb dX0_nail_13 (by decide) ?_
      cases gRet_e hf
      exact g_retI X hI rfl dX0_nail_14
    have hf := g_f k1 hf
    exact (gFail_f hf).elim
/-! X8_nail -/
abbrev w_X8_nail_63 (G : gG) (l : Launch) (p : Program) (e : Env) (s : State) (m : MethodId) (args : Array Value) (below : List Frame) (meth : Method) (c : Code) (h0 : g_H) (r : Unit) (h' : g_H) (k : gM Unit) : Prop := ∀ (h : g_H) (H : Heap) (locs : List Loc) (cells slots : Nat) (ls : Array Slot), (k).1 h = some (r, h') → gI G h0 h H locs cells slots → lv_has ls 3 [] → W p l e (g_rm 4 85 h0 h') s m args below meth c H locs cells slots (gQ G below args s h0 h' (.inl (g_wU r))) (F0 m 63 ls [])
abbrev w_X8_nail_56 (G : gG) (l : Launch) (p : Program) (e : Env) (s : State) (m : MethodId) (args : Array Value) (below : List Frame) (meth : Method) (c : Code) (h0 : g_H) (r : Unit) (h' : g_H) (k : Nat → Int32 → Int32 → Nat → Int32 → gM Unit) : Prop := ∀ (a0 : Nat) (x1 : Int32) (x2 : Int32) (b0 : Nat) (u1 : Int32) (h : g_H) (H : Heap) (locs : List Loc) (cells slots : Nat) (ls : Array Slot), (k a0 x1 x2 b0 u1).1 h = some (r, h') → gI G h0 h H locs cells slots → lv_has ls 3 [(0, .ref a0), (1, .int x1), (2, .int x2)] → W p l e (g_rm 4 85 h0 h') s m args below meth c H locs cells slots (gQ G below args s h0 h' (.inl (g_wU r))) (F0 m 56 ls [.int u1, .ref b0])
abbrev w_X8_nail_51 (G : gG) (l : Launch) (p : Program) (e : Env) (s : State) (m : MethodId) (args : Array Value) (below : List Frame) (meth : Method) (c : Code) (h0 : g_H) (r : Unit) (h' : g_H) (k : Nat → Int32 → Int32 → Nat → gM Unit) : Prop := ∀ (a0 : Nat) (x1 : Int32) (x2 : Int32) (b0 : Nat) (h : g_H) (H : Heap) (locs : List Loc) (cells slots : Nat) (ls : Array Slot), (k a0 x1 x2 b0).1 h = some (r, h') → gI G h0 h H locs cells slots → lv_has ls 3 [(0, .ref a0), (1, .int x1), (2, .int x2)] → W p l e (g_rm 4 85 h0 h') s m args below meth c H locs cells slots (gQ G below args s h0 h' (.inl (g_wU r))) (F0 m 51 ls [.ref b0])
abbrev w_X8_nail_26 (G : gG) (l : Launch) (p : Program) (e : Env) (s : State) (m : MethodId) (args : Array Value) (below : List Frame) (meth : Method) (c : Code) (h0 : g_H) (r : Unit) (h' : g_H) (k : Nat → Int32 → Int32 → Nat → Int32 → gM Unit) : Prop := ∀ (a0 : Nat) (x1 : Int32) (x2 : Int32) (b0 : Nat) (u1 : Int32) (h : g_H) (H : Heap) (locs : List Loc) (cells slots : Nat) (ls : Array Slot), (k a0 x1 x2 b0 u1).1 h = some (r, h') → gI G h0 h H locs cells slots → lv_has ls 3 [(0, .ref a0), (1, .int x1), (2, .int x2)] → W p l e (g_rm 4 85 h0 h') s m args below meth c H locs cells slots (gQ G below args s h0 h' (.inl (g_wU r))) (F0 m 26 ls [.int u1, .ref b0])
abbrev w_X8_nail_21 (G : gG) (l : Launch) (p : Program) (e : Env) (s : State) (m : MethodId) (args : Array Value) (below : List Frame) (meth : Method) (c : Code) (h0 : g_H) (r : Unit) (h' : g_H) (k : Nat → Int32 → Int32 → Nat → gM Unit) : Prop := ∀ (a0 : Nat) (x1 : Int32) (x2 : Int32) (b0 : Nat) (h : g_H) (H : Heap) (locs : List Loc) (cells slots : Nat) (ls : Array Slot), (k a0 x1 x2 b0).1 h = some (r, h') → gI G h0 h H locs cells slots → lv_has ls 3 [(0, .ref a0), (1, .int x1), (2, .int x2)] → W p l e (g_rm 4 85 h0 h') s m args below meth c H locs cells slots (gQ G below args s h0 h' (.inl (g_wU r))) (F0 m 21 ls [.ref b0])
def f_X8_nail_63 : gM Unit :=
    gRet ()
set_option maxHeartbeats 4000000 in
set_option maxRecDepth 100000 in
theorem b_X8_nail_63 {G : gG} {l : Launch} {p : Program} {e : Env} {s : State} {m : MethodId} {args : Array Value} {below : List Frame} {meth : Method} {c : Code} {h0 : g_H} {r : Unit} {h' : g_H} (X : gX G l yX8_nail.cls cX8_nail 3 none [] yX8_nail.name p s m args meth c) : w_X8_nail_63 G l p e s m args below meth c h0 r h' (f_X8_nail_63) := by
  have hx := X.1
  have hb := X.2.1
  have hown := X.2.2.2.1
  have hts := X.2.2.2.2.1
  intro h H locs cells slots ls hf hI hl
  unfold f_X8_nail_63 at hf
  cases gRet_e hf
  exact g_retU X hI rfl dX8_nail_63
def f_X8_nail_56 (a0 : Nat) (x1 : Int32) (x2 : Int32) (b0 : Nat) (u1 : Int32) : gM Unit :=
    gB (gCk b0 7) fun _ =>
    gB (f_X8_throwsIf b0 u1 (2 : Int32)) fun r101 =>
    gIf (r101 = 0)
    (gB (gCk a0 7) fun _ =>
    gB (f_X8_remembers a0) fun _ =>
    gB (gFR a0 7 1) fun v103 =>
    gB (f_X8_propAt x1 (3 : Int32)) fun r104 =>
    gB (gSI v103 0 r104 x2) fun _ =>
    gRet ())
    (f_X8_nail_63)
set_option maxHeartbeats 4000000 in
set_option maxRecDepth 100000 in
theorem b_X8_nail_56 {G : gG} {l : Launch} {p : Program} {e : Env} {s : State} {m : MethodId} {args : Array Value} {below : List Frame} {meth : Method} {c : Code} {h0 : g_H} {r : Unit} {h' : g_H} (X : gX G l yX8_nail.cls cX8_nail 3 none [] yX8_nail.name p s m args meth c) : w_X8_nail_56 G l p e s m args below meth c h0 r h' (f_X8_nail_56) := by
  have hx := X.1
  have hb := X.2.1
  have hown := X.2.2.2.1
  have hts := X.2.2.2.2.1
  intro a0 x1 x2 b0 u1 h H locs cells slots ls hf hI hl
  unfold f_X8_nail_56 at hf
  refine lv_iconst (v := (2 : Int32)) hx hb dX8_nail_56 (by decide) ?_
  obtain ⟨hs, hf⟩ := gCk_b hf
  refine g_cBI hI hf (fun v9 h9 e9 l9 l9' => g_rV X hI l9 l9' ⟨Nat.le_refl _, Nat.le_refl _⟩ (As := [.int u1, .int (2 : Int32)]) (m_X8_throwsIf X.2.2.2.2.2.2.2.2.2.2.1 e9) ydX8_throwsIf hs rfl rfl q1736 q1738 qs72 q131 q1739 rfl (Nat.le_of_ble_eq_true rfl) (Nat.le_of_ble_eq_true rfl) hl.1 rfl (Nat.le_of_ble_eq_true rfl) dX8_nail_57) (fun r101 h H locs cells slots hf hI => ?_)
  refine lv_if_eq (tgt := 64) hx hb dX8_nail_60 (by decide) (fun c60 => ?_) (fun c60 => ?_)
  · have hf := g_t c60 hf
    refine lv_aload_n hx hb dX8_nail_64 rfl (lv_at hl 0 rfl) ?_
    obtain ⟨hs, hf⟩ := gCk_b hf
    refine g_cBU hI hf (fun v9 h9 e9 l9 l9' => g_rV X hI l9 l9' ⟨Nat.le_refl _, Nat.le_refl _⟩ (As := []) (m_X8_remembers X.2.2.2.2.2.2.2.2.2.2.1 e9) ydX8_remembers hs rfl rfl q1808 q1810 qs83 q131 q1811 rfl (Nat.le_of_ble_eq_true rfl) (Nat.le_of_ble_eq_true rfl) hl.1 rfl (Nat.le_of_ble_eq_true rfl) dX8_nail_65) (fun r102 h H locs cells slots hf hI => ?_)
    refine lv_aload_n hx hb dX8_nail_68 rfl (lv_at hl 0 rfl) ?_
    refine g_fr X hI hf fX8_1 q1445 rfl rfl dX8_nail_69 (fun v103 hf => ?_)
    refine lv_iload_n hx hb dX8_nail_72 rfl (lv_at hl 1 rfl) ?_
    refine lv_iconst (v := (3 : Int32)) hx hb dX8_nail_73 (by decide) ?_
    refine g_cBI hI hf (fun v9 h9 e9 l9 l9' => g_rS (b := 0) X hI l9 l9' ⟨Nat.le_refl _, Nat.le_refl _⟩ (As := [.int x1, .int (3 : Int32)]) (m_X8_propAt X.2.2.2.2.2.2.2.2.2.2.1 e9) ydX8_propAt q1663 q1664 q131 q1665 rfl (Nat.le_of_ble_eq_true rfl) (Nat.le_of_ble_eq_true rfl) hl.1 rfl (Nat.le_of_ble_eq_true rfl) dX8_nail_74) (fun r104 h H locs cells slots hf hI => ?_)
    refine lv_iload_n hx hb dX8_nail_77 rfl (lv_at hl 2 rfl) ?_
    refine g_si0 X hI hf dX8_nail_78 (fun h H locs hf hI => ?_)
    cases gRet_e hf
    exact g_retU X hI rfl dX8_nail_79
  · have hf := g_f c60 hf
    exact b_X8_nail_63 X _ _ _ _ _ _ hf hI (lv_sub hl [] rfl)
def f_X8_nail_51 (a0 : Nat) (x1 : Int32) (x2 : Int32) (b0 : Nat) : gM Unit :=
    f_X8_nail_56 a0 x1 x2 b0 (1 : Int32)
set_option maxHeartbeats 4000000 in
set_option maxRecDepth 100000 in
theorem b_X8_nail_51 {G : gG} {l : Launch} {p : Program} {e : Env} {s : State} {m : MethodId} {args : Array Value} {below : List Frame} {meth : Method} {c : Code} {h0 : g_H} {r : Unit} {h' : g_H} (X : gX G l yX8_nail.cls cX8_nail 3 none [] yX8_nail.name p s m args meth c) : w_X8_nail_51 G l p e s m args below meth c h0 r h' (f_X8_nail_51) := by
  have hx := X.1
  have hb := X.2.1
  have hown := X.2.2.2.1
  have hts := X.2.2.2.2.1
  intro a0 x1 x2 b0 h H locs cells slots ls hf hI hl
  unfold f_X8_nail_51 at hf
  refine lv_iconst (v := (1 : Int32)) hx hb dX8_nail_51 (by decide) ?_
  refine lv_goto (tgt := 56) hx hb dX8_nail_52 (by decide) ?_
  exact b_X8_nail_56 X _ _ _ _ _ _ _ _ _ _ _ hf hI (lv_sub hl [0, 1, 2] rfl)
def f_X8_nail_26 (a0 : Nat) (x1 : Int32) (x2 : Int32) (b0 : Nat) (u1 : Int32) : gM Unit :=
    gB (gCk b0 7) fun _ =>
    gB (f_X8_throwsIf b0 u1 (1 : Int32)) fun r101 =>
    gIf (r101 = 0)
    (gB (gCk a0 7) fun _ =>
    gB (f_X8_isNailed a0 x1) fun r102 =>
    gIf (r102 = 0)
    (gB (gCk a0 7) fun _ =>
    gB (f_X8_propIn a0 x2) fun r103 =>
    gIf (r103 = (-1 : Int32))
    (f_X8_nail_56 a0 x1 x2 a0 (0 : Int32))
    (f_X8_nail_51 a0 x1 x2 a0))
    (f_X8_nail_51 a0 x1 x2 a0))
    (f_X8_nail_63)
set_option maxHeartbeats 4000000 in
set_option maxRecDepth 100000 in
theorem b_X8_nail_26 {G : gG} {l : Launch} {p : Program} {e : Env} {s : State} {m : MethodId} {args : Array Value} {below : List Frame} {meth : Method} {c : Code} {h0 : g_H} {r : Unit} {h' : g_H} (X : gX G l yX8_nail.cls cX8_nail 3 none [] yX8_nail.name p s m args meth c) : w_X8_nail_26 G l p e s m args below meth c h0 r h' (f_X8_nail_26) := by
  have hx := X.1
  have hb := X.2.1
  have hown := X.2.2.2.1
  have hts := X.2.2.2.2.1
  intro a0 x1 x2 b0 u1 h H locs cells slots ls hf hI hl
  unfold f_X8_nail_26 at hf
  refine lv_iconst (v := (1 : Int32)) hx hb dX8_nail_26 (by decide) ?_
  obtain ⟨hs, hf⟩ := gCk_b hf
  refine g_cBI hI hf (fun v9 h9 e9 l9 l9' => g_rV X hI l9 l9' ⟨Nat.le_refl _, Nat.le_refl _⟩ (As := [.int u1, .int (1 : Int32)]) (m_X8_throwsIf X.2.2.2.2.2.2.2.2.2.2.1 e9) ydX8_throwsIf hs rfl rfl q1736 q1738 qs72 q131 q1739 rfl (Nat.le_of_ble_eq_true rfl) (Nat.le_of_ble_eq_true rfl) hl.1 rfl (Nat.le_of_ble_eq_true rfl) dX8_nail_27) (fun r101 h H locs cells slots hf hI => ?_)
  refine lv_if_ne (tgt := 63) hx hb dX8_nail_30 (by decide) (fun c30 => ?_) (fun c30 => ?_)
  · have hf := g_f c30 hf
    exact b_X8_nail_63 X _ _ _ _ _ _ hf hI (lv_sub hl [] rfl)
  · have hf := g_t c30 hf
    refine lv_aload_n hx hb dX8_nail_33 rfl (lv_at hl 0 rfl) ?_
    refine lv_aload_n hx hb dX8_nail_34 rfl (lv_at hl 0 rfl) ?_
    refine lv_iload_n hx hb dX8_nail_35 rfl (lv_at hl 1 rfl) ?_
    obtain ⟨hs, hf⟩ := gCk_b hf
    refine g_cBI hI hf (fun v9 h9 e9 l9 l9' => g_rV X hI l9 l9' ⟨Nat.le_refl _, Nat.le_refl _⟩ (As := [.int x1]) (m_X8_isNailed X.2.2.2.2.2.2.2.2.2.2.1 e9) ydX8_isNailed hs rfl rfl q1850 q1852 qs92 q131 q1853 rfl (Nat.le_of_ble_eq_true rfl) (Nat.le_of_ble_eq_true rfl) hl.1 rfl (Nat.le_of_ble_eq_true rfl) dX8_nail_36) (fun r102 h H locs cells slots hf hI => ?_)
    refine lv_if_ne (tgt := 51) hx hb dX8_nail_39 (by decide) (fun c39 => ?_) (fun c39 => ?_)
    · have hf := g_f c39 hf
      exact b_X8_nail_51 X _ _ _ _ _ _ _ _ _ _ hf hI (lv_sub hl [0, 1, 2] rfl)
    · have hf := g_t c39 hf
      refine lv_aload_n hx hb dX8_nail_42 rfl (lv_at hl 0 rfl) ?_
      refine lv_iload_n hx hb dX8_nail_43 rfl (lv_at hl 2 rfl) ?_
      obtain ⟨hs, hf⟩ := gCk_b hf
      refine g_cBI hI hf (fun v9 h9 e9 l9 l9' => g_rV X hI l9 l9' ⟨Nat.le_refl _, Nat.le_refl _⟩ (As := [.int x2]) (m_X8_propIn X.2.2.2.2.2.2.2.2.2.2.1 e9) ydX8_propIn hs rfl rfl q1655 q1657 qs58 q131 q1658 rfl (Nat.le_of_ble_eq_true rfl) (Nat.le_of_ble_eq_true rfl) hl.1 rfl (Nat.le_of_ble_eq_true rfl) dX8_nail_44) (fun r103 h H locs cells slots hf hI => ?_)
      refine lv_iconst (v := (-1 : Int32)) hx hb dX8_nail_47 (by decide) ?_
      refine lv_icmp_eq (tgt := 55) hx hb dX8_nail_48 (by decide) (fun c48 => ?_) (fun c48 => ?_)
      · have hf := g_t c48 hf
        refine lv_iconst (v := (0 : Int32)) hx hb dX8_nail_55 (by decide) ?_
        exact b_X8_nail_56 X _ _ _ _ _ _ _ _ _ _ _ hf hI (lv_sub hl [0, 1, 2] rfl)
      · have hf := g_f c48 hf
        exact b_X8_nail_51 X _ _ _ _ _ _ _ _ _ _ hf hI (lv_sub hl [0, 1, 2] rfl)
def f_X8_nail_21 (a0 : Nat) (x1 : Int32) (x2 : Int32) (b0 : Nat) : gM Unit :=
    f_X8_nail_26 a0 x1 x2 b0 (1 : Int32)
set_option maxHeartbeats 4000000 in
set_option maxRecDepth 100000 in
theorem b_X8_nail_21 {G : gG} {l : Launch} {p : Program} {e : Env} {s : State} {m : MethodId} {args : Array Value} {below : List Frame} {meth : Method} {c : Code} {h0 : g_H} {r : Unit} {h' : g_H} (X : gX G l yX8_nail.cls cX8_nail 3 none [] yX8_nail.name p s m args meth c) : w_X8_nail_21 G l p e s m args below meth c h0 r h' (f_X8_nail_21) := by
  have hx := X.1
  have hb := X.2.1
  have hown := X.2.2.2.1
  have hts := X.2.2.2.2.1
  intro a0 x1 x2 b0 h H locs cells slots ls hf hI hl
  unfold f_X8_nail_21 at hf
  refine lv_iconst (v := (1 : Int32)) hx hb dX8_nail_21 (by decide) ?_
  refine lv_goto (tgt := 26) hx hb dX8_nail_22 (by decide) ?_
  exact b_X8_nail_26 X _ _ _ _ _ _ _ _ _ _ _ hf hI (lv_sub hl [0, 1, 2] rfl)
def f_X8_nail (a0 : Nat) (x1 : Int32) (x2 : Int32) : gM Unit :=
    gB (gPI a0 7 0 (0 : Int32)) fun _ =>
    gB (gCk a0 7) fun _ =>
    gB (f_X8_noProp a0 x1) fun r1 =>
    gIf (r1 = 0)
    (gB (f_X8_noSlot x2) fun r2 =>
    gIf (r2 = 0)
    (f_X8_nail_26 a0 x1 x2 a0 (0 : Int32))
    (f_X8_nail_21 a0 x1 x2 a0))
    (f_X8_nail_21 a0 x1 x2 a0)
set_option maxHeartbeats 4000000 in
set_option maxRecDepth 100000 in
theorem m_X8_nail {G : gG} {l : Launch} (hfl : l.stackTraces = false) {a0 : Nat} {x1 : Int32} {x2 : Int32} {h h' : g_H} {r : Unit} (hf : (f_X8_nail a0 x1 x2).1 h = some (r, h')) : gMet G l yX8_nail (Cond.code yX8_nail cX8_nail 3 none) 4 85 [.ref a0, .int x1, .int x2] h (.inl (g_wU r)) h' := by
  refine g_head hfl ((f_X8_nail a0 x1 x2).2 h r h' hf) (plainFor_of_name (by decide)) (Nat.le_of_ble_eq_true rfl) (fun p e s m below meth c H locs cells slots ls X hI hl9 => ?_)
  have hl : lv_has ls 3 [(0, .ref a0), (1, .int x1), (2, .int x2)] := hl9
  have hx := X.1
  have hb := X.2.1
  have hown := X.2.2.2.1
  have hts := X.2.2.2.2.1
  unfold f_X8_nail at hf
  refine lv_aload_n hx hb dX8_nail_0 rfl (lv_at hl 0 rfl) ?_
  refine lv_iconst (v := (0 : Int32)) hx hb dX8_nail_1 (by decide) ?_
  refine g_pi X hI hf fX8_0 q1444 rfl dX8_nail_2 (fun h H locs hf hI => ?_)
  refine lv_aload_n hx hb dX8_nail_5 rfl (lv_at hl 0 rfl) ?_
  refine lv_aload_n hx hb dX8_nail_6 rfl (lv_at hl 0 rfl) ?_
  refine lv_iload_n hx hb dX8_nail_7 rfl (lv_at hl 1 rfl) ?_
  obtain ⟨hs, hf⟩ := gCk_b hf
  refine g_cBI hI hf (fun v9 h9 e9 l9 l9' => g_rV X hI l9 l9' ⟨Nat.le_refl _, Nat.le_refl _⟩ (As := [.int x1]) (m_X8_noProp X.2.2.2.2.2.2.2.2.2.2.1 e9) ydX8_noProp hs rfl rfl q1748 q1750 qs73 q131 q1751 rfl (Nat.le_of_ble_eq_true rfl) (Nat.le_of_ble_eq_true rfl) hl.1 rfl (Nat.le_of_ble_eq_true rfl) dX8_nail_8) (fun r1 h H locs cells slots hf hI => ?_)
  refine lv_if_ne (tgt := 21) hx hb dX8_nail_11 (by decide) (fun c11 => ?_) (fun c11 => ?_)
  · have hf := g_f c11 hf
    exact b_X8_nail_21 X _ _ _ _ _ _ _ _ _ _ hf hI (lv_sub hl [0, 1, 2] rfl)
  · have hf := g_t c11 hf
    refine lv_iload_n hx hb dX8_nail_14 rfl (lv_at hl 2 rfl) ?_
    refine g_cBI hI hf (fun v9 h9 e9 l9 l9' => g_rS (b := 0) X hI l9 l9' ⟨Nat.le_refl _, Nat.le_refl _⟩ (As := [.int x2]) (m_X8_noSlot X.2.2.2.2.2.2.2.2.2.2.1 e9) ydX8_noSlot q1756 q1757 q131 q1758 rfl (Nat.le_of_ble_eq_true rfl) (Nat.le_of_ble_eq_true rfl) hl.1 rfl (Nat.le_of_ble_eq_true rfl) dX8_nail_15) (fun r2 h H locs cells slots hf hI => ?_)
    refine lv_if_eq (tgt := 25) hx hb dX8_nail_18 (by decide) (fun c18 => ?_) (fun c18 => ?_)
    · have hf := g_t c18 hf
      refine lv_iconst (v := (0 : Int32)) hx hb dX8_nail_25 (by decide) ?_
      exact b_X8_nail_26 X _ _ _ _ _ _ _ _ _ _ _ hf hI (lv_sub hl [0, 1, 2] rfl)
    · have hf := g_f c18 hf
      exact b_X8_nail_21 X _ _ _ _ _ _ _ _ _ _ hf hI (lv_sub hl [0, 1, 2] rfl)
/-! X3_writes -/
def f_X3_writes (a0 : Nat) (x1 : Int32) (x2 : Int32) (x3 : Int32) : gM Unit :=
    gB (gFI a0 2 14) fun v1 =>
    gB (gRet ((v1 - v1 / (60 : Int32) * (60 : Int32)) * (4 : Int32))) fun v2 =>
    gB (gFR a0 2 5) fun v3 =>
    gB (gFI a0 2 10) fun v4 =>
    gB (gSI v3 0 v2 v4) fun _ =>
    gB (gFR a0 2 5) fun v5 =>
    gB (gSI v5 0 (v2 + (1 : Int32)) x1) fun _ =>
    gB (gFR a0 2 5) fun v6 =>
    gB (gSI v6 0 (v2 + (2 : Int32)) x2) fun _ =>
    gB (gFR a0 2 5) fun v7 =>
    gB (gSI v7 0 (v2 + (3 : Int32)) x3) fun _ =>
    gB (gFI a0 2 14) fun v8 =>
    gB (gPI a0 2 14 (v8 + (1 : Int32))) fun _ =>
    gRet ()
set_option maxHeartbeats 4000000 in
set_option maxRecDepth 100000 in
theorem m_X3_writes {G : gG} {l : Launch} (hfl : l.stackTraces = false) {a0 : Nat} {x1 : Int32} {x2 : Int32} {x3 : Int32} {h h' : g_H} {r : Unit} (hf : (f_X3_writes a0 x1 x2 x3).1 h = some (r, h')) : gMet G l yX3_writes (Cond.code yX3_writes cX3_writes 5 none) 1 20 [.ref a0, .int x1, .int x2, .int x3] h (.inl (g_wU r)) h' := by
  refine g_head hfl ((f_X3_writes a0 x1 x2 x3).2 h r h' hf) (plainFor_of_name (by decide)) (Nat.le_of_ble_eq_true rfl) (fun p e s m below meth c H locs cells slots ls X hI hl9 => ?_)
  have hl : lv_has ls 5 [(0, .ref a0), (1, .int x1), (2, .int x2), (3, .int x3)] := hl9
  have hx := X.1
  have hb := X.2.1
  have hown := X.2.2.2.1
  have hts := X.2.2.2.2.1
  unfold f_X3_writes at hf
  refine lv_aload_n hx hb dX3_writes_0 rfl (lv_at hl 0 rfl) ?_
  refine g_fi X hI hf fX3_14 q288 rfl rfl dX3_writes_1 (fun v1 hf => ?_)
  refine lv_bipush (v := (60 : Int32)) hx hb dX3_writes_4 (by decide) ?_
  refine lv_irem hx hb dX3_writes_6 (by decide) ?_
  refine lv_iconst (v := (4 : Int32)) hx hb dX3_writes_7 (by decide) ?_
  refine lv_imul hx hb dX3_writes_8 ?_
  refine g_let hf (fun v2 hf => ?_)
  refine lv_istore (lv' := [(4, .int v2), (0, .ref a0), (1, .int x1), (2, .int x2), (3, .int x3)]) hx hb dX3_writes_9 hl (by decide) rfl (fun ls hl => ?_)
  refine lv_aload_n hx hb dX3_writes_11 rfl (lv_at hl 1 rfl) ?_
  refine g_fr X hI hf fX3_5 q266 rfl rfl dX3_writes_12 (fun v3 hf => ?_)
  refine lv_iload hx hb dX3_writes_15 (lv_at hl 0 rfl) ?_
  refine lv_aload_n hx hb dX3_writes_17 rfl (lv_at hl 1 rfl) ?_
  refine g_fi X hI hf fX3_10 q277 rfl rfl dX3_writes_18 (fun v4 hf => ?_)
  refine g_si0 X hI hf dX3_writes_21 (fun h H locs hf hI => ?_)
  refine lv_aload_n hx hb dX3_writes_22 rfl (lv_at hl 1 rfl) ?_
  refine g_fr X hI hf fX3_5 q266 rfl rfl dX3_writes_23 (fun v5 hf => ?_)
  refine lv_iload hx hb dX3_writes_26 (lv_at hl 0 rfl) ?_
  refine lv_iconst (v := (1 : Int32)) hx hb dX3_writes_28 (by decide) ?_
  refine lv_iadd hx hb dX3_writes_29 ?_
  refine lv_iload_n hx hb dX3_writes_30 rfl (lv_at hl 2 rfl) ?_
  refine g_si0 X hI hf dX3_writes_31 (fun h H locs hf hI => ?_)
  refine lv_aload_n hx hb dX3_writes_32 rfl (lv_at hl 1 rfl) ?_
  refine g_fr X hI hf fX3_5 q266 rfl rfl dX3_writes_33 (fun v6 hf => ?_)
  refine lv_iload hx hb dX3_writes_36 (lv_at hl 0 rfl) ?_
  refine lv_iconst (v := (2 : Int32)) hx hb dX3_writes_38 (by decide) ?_
  refine lv_iadd hx hb dX3_writes_39 ?_
  refine lv_iload_n hx hb dX3_writes_40 rfl (lv_at hl 3 rfl) ?_
  refine g_si0 X hI hf dX3_writes_41 (fun h H locs hf hI => ?_)
  refine lv_aload_n hx hb dX3_writes_42 rfl (lv_at hl 1 rfl) ?_
  refine g_fr X hI hf fX3_5 q266 rfl rfl dX3_writes_43 (fun v7 hf => ?_)
  refine lv_iload hx hb dX3_writes_46 (lv_at hl 0 rfl) ?_
  refine lv_iconst (v := (3 : Int32)) hx hb dX3_writes_48 (by decide) ?_
  refine lv_iadd hx hb dX3_writes_49 ?_
  refine lv_iload_n hx hb dX3_writes_50 rfl (lv_at hl 4 rfl) ?_
  refine g_si0 X hI hf dX3_writes_51 (fun h H locs hf hI => ?_)
  refine lv_aload_n hx hb dX3_writes_52 rfl (lv_at hl 1 rfl) ?_
  refine lv_dup hx hb dX3_writes_53 rfl ?_
  refine g_fi X hI hf fX3_14 q288 rfl rfl dX3_writes_54 (fun v8 hf => ?_)
  refine lv_iconst (v := (1 : Int32)) hx hb dX3_writes_57 (by decide) ?_
  refine lv_iadd hx hb dX3_writes_58 ?_
  refine g_pi X hI hf fX3_14 q288 rfl dX3_writes_59 (fun h H locs hf hI => ?_)
  cases gRet_e hf
  exact g_retU X hI rfl dX3_writes_62
/-! X1_send -/
abbrev w_X1_send_87 (G : gG) (l : Launch) (p : Program) (e : Env) (s : State) (m : MethodId) (args : Array Value) (below : List Frame) (meth : Method) (c : Code) (h0 : g_H) (r : (Int32 ⊕ gE)) (h' : g_H) (k : Nat → Nat → Int32 → Int32 → gM (Int32 ⊕ gE)) : Prop := ∀ (a0 : Nat) (b0 : Nat) (u1 : Int32) (u2 : Int32) (h : g_H) (H : Heap) (locs : List Loc) (cells slots : Nat) (ls : Array Slot), (k a0 b0 u1 u2).1 h = some (r, h') → gI G h0 h H locs cells slots → lv_has ls 3 [(0, .ref a0)] → W p l e (g_rm 102 1892 h0 h') s m args below meth c H locs cells slots (gQ G below args s h0 h' (g_w g_wI r)) (F0 m 87 ls [.int u2, .int u1, .ref b0])
abbrev w_X1_send_62 (G : gG) (l : Launch) (p : Program) (e : Env) (s : State) (m : MethodId) (args : Array Value) (below : List Frame) (meth : Method) (c : Code) (h0 : g_H) (r : (Int32 ⊕ gE)) (h' : g_H) (k : Nat → Int32 → Nat → Int32 → gM (Int32 ⊕ gE)) : Prop := ∀ (a0 : Nat) (x1 : Int32) (b0 : Nat) (u1 : Int32) (h : g_H) (H : Heap) (locs : List Loc) (cells slots : Nat) (ls : Array Slot), (k a0 x1 b0 u1).1 h = some (r, h') → gI G h0 h H locs cells slots → lv_has ls 3 [(0, .ref a0), (1, .int x1)] → W p l e (g_rm 102 1892 h0 h') s m args below meth c H locs cells slots (gQ G below args s h0 h' (g_w g_wI r)) (F0 m 62 ls [.int u1, .ref b0])
abbrev w_X1_send_18 (G : gG) (l : Launch) (p : Program) (e : Env) (s : State) (m : MethodId) (args : Array Value) (below : List Frame) (meth : Method) (c : Code) (h0 : g_H) (r : (Int32 ⊕ gE)) (h' : g_H) (k : Nat → Int32 → Nat → Int32 → gM (Int32 ⊕ gE)) : Prop := ∀ (a0 : Nat) (x1 : Int32) (a2 : Nat) (u0 : Int32) (h : g_H) (H : Heap) (locs : List Loc) (cells slots : Nat) (ls : Array Slot), (k a0 x1 a2 u0).1 h = some (r, h') → gI G h0 h H locs cells slots → lv_has ls 3 [(0, .ref a0), (1, .int x1), (2, .ref a2)] → W p l e (g_rm 102 1892 h0 h') s m args below meth c H locs cells slots (gQ G below args s h0 h' (g_w g_wI r)) (F0 m 18 ls [.int u0])
def f_X1_send_87 (a0 : Nat) (b0 : Nat) (u1 : Int32) (u2 : Int32) : gM (Int32 ⊕ gE) :=
    gB (gFI a0 0 15) fun v101 =>
    gB (gCk b0 2) fun _ =>
    gB (f_X3_writes b0 u1 u2 v101) fun _ =>
    gB (gFI a0 0 14) fun v103 =>
    (gRet (.inl v103))
set_option maxHeartbeats 4000000 in
set_option maxRecDepth 100000 in
theorem b_X1_send_87 {G : gG} {l : Launch} {p : Program} {e : Env} {s : State} {m : MethodId} {args : Array Value} {below : List Frame} {meth : Method} {c : Code} {h0 : g_H} {r : (Int32 ⊕ gE)} {h' : g_H} (X : gX G l yX1_send.cls cX1_send 3 (some .int) [] yX1_send.name p s m args meth c) : w_X1_send_87 G l p e s m args below meth c h0 r h' (f_X1_send_87) := by
  have hx := X.1
  have hb := X.2.1
  have hown := X.2.2.2.1
  have hts := X.2.2.2.2.1
  intro a0 b0 u1 u2 h H locs cells slots ls hf hI hl
  unfold f_X1_send_87 at hf
  refine lv_aload_n hx hb dX1_send_87 rfl (lv_at hl 0 rfl) ?_
  refine g_fi X hI hf fX1_15 q476 rfl rfl dX1_send_88 (fun v101 hf => ?_)
  obtain ⟨hs, hf⟩ := gCk_b hf
  refine g_cBU hI hf (fun v9 h9 e9 l9 l9' => g_rV X hI l9 l9' ⟨Nat.le_refl _, Nat.le_refl _⟩ (As := [.int u1, .int u2, .int v101]) (m_X3_writes X.2.2.2.2.2.2.2.2.2.2.1 e9) ydX3_writes hs rfl rfl q1234 q1235 q1236 q123 q1237 rfl (Nat.le_of_ble_eq_true rfl) (Nat.le_of_ble_eq_true rfl) hl.1 rfl (Nat.le_of_ble_eq_true rfl) dX1_send_91) (fun r102 h H locs cells slots hf hI => ?_)
  refine lv_aload_n hx hb dX1_send_94 rfl (lv_at hl 0 rfl) ?_
  refine g_fi X hI hf fX1_14 q475 rfl rfl dX1_send_95 (fun v103 hf => ?_)
  cases gRet_e hf
  exact g_retI X hI rfl dX1_send_98
def f_X1_send_62 (a0 : Nat) (x1 : Int32) (b0 : Nat) (u1 : Int32) : gM (Int32 ⊕ gE) :=
    gB (gPI b0 4 3 u1) fun _ =>
    gB (gFR a0 0 1) fun v101 =>
    gB (gFI a0 0 14) fun v102 =>
    gIf (v102 = (-1 : Int32))
    (f_X1_send_87 a0 v101 x1 (10 : Int32))
    (gB (gFI a0 0 14) fun v103 =>
    f_X1_send_87 a0 v101 x1 v103)
set_option maxHeartbeats 4000000 in
set_option maxRecDepth 100000 in
theorem b_X1_send_62 {G : gG} {l : Launch} {p : Program} {e : Env} {s : State} {m : MethodId} {args : Array Value} {below : List Frame} {meth : Method} {c : Code} {h0 : g_H} {r : (Int32 ⊕ gE)} {h' : g_H} (X : gX G l yX1_send.cls cX1_send 3 (some .int) [] yX1_send.name p s m args meth c) : w_X1_send_62 G l p e s m args below meth c h0 r h' (f_X1_send_62) := by
  have hx := X.1
  have hb := X.2.1
  have hown := X.2.2.2.1
  have hts := X.2.2.2.2.1
  intro a0 x1 b0 u1 h H locs cells slots ls hf hI hl
  unfold f_X1_send_62 at hf
  refine g_piN X hI hf fX5_3 q243 rfl dX1_send_62 (fun h H locs hf hI => ?_)
  refine lv_aload_n hx hb dX1_send_65 rfl (lv_at hl 0 rfl) ?_
  refine g_fr X hI hf fX1_1 q461 rfl rfl dX1_send_66 (fun v101 hf => ?_)
  refine lv_iload_n hx hb dX1_send_69 rfl (lv_at hl 1 rfl) ?_
  refine lv_aload_n hx hb dX1_send_70 rfl (lv_at hl 0 rfl) ?_
  refine g_fi X hI hf fX1_14 q475 rfl rfl dX1_send_71 (fun v102 hf => ?_)
  refine lv_iconst (v := (-1 : Int32)) hx hb dX1_send_74 (by decide) ?_
  refine lv_icmp_ne (tgt := 83) hx hb dX1_send_75 (by decide) (fun c75 => ?_) (fun c75 => ?_)
  · have hf := g_f c75 hf
    refine lv_aload_n hx hb dX1_send_83 rfl (lv_at hl 0 rfl) ?_
    refine g_fi X hI hf fX1_14 q475 rfl rfl dX1_send_84 (fun v103 hf => ?_)
    exact b_X1_send_87 X _ _ _ _ _ _ _ _ _ _ hf hI (lv_sub hl [0] rfl)
  · have hf := g_t c75 hf
    refine lv_bipush (v := (10 : Int32)) hx hb dX1_send_78 (by decide) ?_
    refine lv_goto (tgt := 87) hx hb dX1_send_80 (by decide) ?_
    exact b_X1_send_87 X _ _ _ _ _ _ _ _ _ _ hf hI (lv_sub hl [0] rfl)
def f_X1_send_18 (a0 : Nat) (x1 : Int32) (a2 : Nat) (u0 : Int32) : gM (Int32 ⊕ gE) :=
    gT (f_X1_can u0) fun _ =>
    gB (gCk a0 0) fun _ =>
    gB (f_X1_remembers a0) fun _ =>
    gB (gCk a0 0) fun _ =>
    gB (f_X1_rides a0 a2 (1 : Int32)) fun _ =>
    gB (gCk a0 0) fun _ =>
    gB (f_X1_wearsOut a0) fun _ =>
    gB (gFI a2 4 2) fun v105 =>
    gB (gFI a0 0 16) fun v106 =>
    gB (gPI a2 4 2 (v105 ||| v106)) fun _ =>
    gB (gFI a0 0 14) fun v107 =>
    gIf (v107 = (-1 : Int32))
    (f_X1_send_62 a0 x1 a2 (2 : Int32))
    (f_X1_send_62 a0 x1 a2 (1 : Int32))
set_option maxHeartbeats 4000000 in
set_option maxRecDepth 100000 in
theorem b_X1_send_18 {G : gG} {l : Launch} {p : Program} {e : Env} {s : State} {m : MethodId} {args : Array Value} {below : List Frame} {meth : Method} {c : Code} {h0 : g_H} {r : (Int32 ⊕ gE)} {h' : g_H} (X : gX G l yX1_send.cls cX1_send 3 (some .int) [] yX1_send.name p s m args meth c) : w_X1_send_18 G l p e s m args below meth c h0 r h' (f_X1_send_18) := by
  have hx := X.1
  have hb := X.2.1
  have hown := X.2.2.2.1
  have hts := X.2.2.2.2.1
  intro a0 x1 a2 u0 h H locs cells slots ls hf hI hl
  unfold f_X1_send_18 at hf
  refine g_cTU X hI (by decide) hf (fun v9 h9 e9 l9 l9' => g_rS (b := 0) X hI l9 l9' ⟨Nat.le_refl _, Nat.le_refl _⟩ (As := [.int u0]) (m_X1_can X.2.2.2.2.2.2.2.2.2.2.1 e9) ydX1_can q1212 q1213 q121 q1214 rfl (Nat.le_of_ble_eq_true rfl) (Nat.le_of_ble_eq_true rfl) hl.1 rfl (Nat.le_of_ble_eq_true rfl) dX1_send_18) (fun r101 h H locs cells slots hf hI => ?_)
  refine lv_aload_n hx hb dX1_send_21 rfl (lv_at hl 0 rfl) ?_
  obtain ⟨hs, hf⟩ := gCk_b hf
  refine g_cBU hI hf (fun v9 h9 e9 l9 l9' => g_rV X hI l9 l9' ⟨Nat.le_refl _, Nat.le_refl _⟩ (As := []) (m_X1_remembers X.2.2.2.2.2.2.2.2.2.2.1 e9) ydX1_remembers hs rfl rfl q1230 q1232 qs38 q121 q1233 rfl (Nat.le_of_ble_eq_true rfl) (Nat.le_of_ble_eq_true rfl) hl.1 rfl (Nat.le_of_ble_eq_true rfl) dX1_send_22) (fun r102 h H locs cells slots hf hI => ?_)
  refine lv_aload_n hx hb dX1_send_25 rfl (lv_at hl 0 rfl) ?_
  refine lv_aload_n hx hb dX1_send_26 rfl (lv_at hl 2 rfl) ?_
  refine lv_iconst (v := (1 : Int32)) hx hb dX1_send_27 (by decide) ?_
  obtain ⟨hs, hf⟩ := gCk_b hf
  refine g_cBU hI hf (fun v9 h9 e9 l9 l9' => g_rV X hI l9 l9' ⟨Nat.le_refl _, Nat.le_refl _⟩ (As := [.ref a2, .int (1 : Int32)]) (m_X1_rides X.2.2.2.2.2.2.2.2.2.2.1 e9) ydX1_rides hs rfl rfl q693 q695 qs9 q121 q696 rfl (Nat.le_of_ble_eq_true rfl) (Nat.le_of_ble_eq_true rfl) hl.1 rfl (Nat.le_of_ble_eq_true rfl) dX1_send_28) (fun r103 h H locs cells slots hf hI => ?_)
  refine lv_aload_n hx hb dX1_send_31 rfl (lv_at hl 0 rfl) ?_
  obtain ⟨hs, hf⟩ := gCk_b hf
  refine g_cBU hI hf (fun v9 h9 e9 l9 l9' => g_rV X hI l9 l9' ⟨Nat.le_refl _, Nat.le_refl _⟩ (As := []) (m_X1_wearsOut X.2.2.2.2.2.2.2.2.2.2.1 e9) ydX1_wearsOut hs rfl rfl q735 q737 qs11 q121 q738 rfl (Nat.le_of_ble_eq_true rfl) (Nat.le_of_ble_eq_true rfl) hl.1 rfl (Nat.le_of_ble_eq_true rfl) dX1_send_32) (fun r104 h H locs cells slots hf hI => ?_)
  refine lv_aload_n hx hb dX1_send_35 rfl (lv_at hl 2 rfl) ?_
  refine lv_dup hx hb dX1_send_36 rfl ?_
  refine g_fiN X hI hf fX5_2 q239 rfl rfl dX1_send_37 (fun v105 hf => ?_)
  refine lv_aload_n hx hb dX1_send_40 rfl (lv_at hl 0 rfl) ?_
  refine g_fi X hI hf fX1_16 q477 rfl rfl dX1_send_41 (fun v106 hf => ?_)
  refine lv_ior hx hb dX1_send_44 ?_
  refine g_piN X hI hf fX5_2 q239 rfl dX1_send_45 (fun h H locs hf hI => ?_)
  refine lv_aload_n hx hb dX1_send_48 rfl (lv_at hl 2 rfl) ?_
  refine lv_aload_n hx hb dX1_send_49 rfl (lv_at hl 0 rfl) ?_
  refine g_fi X hI hf fX1_14 q475 rfl rfl dX1_send_50 (fun v107 hf => ?_)
  refine lv_iconst (v := (-1 : Int32)) hx hb dX1_send_53 (by decide) ?_
  refine lv_icmp_ne (tgt := 61) hx hb dX1_send_54 (by decide) (fun c54 => ?_) (fun c54 => ?_)
  · have hf := g_f c54 hf
    refine lv_iconst (v := (1 : Int32)) hx hb dX1_send_61 (by decide) ?_
    exact b_X1_send_62 X _ _ _ _ _ _ _ _ _ _ hf hI (lv_sub hl [0, 1] rfl)
  · have hf := g_t c54 hf
    refine lv_iconst (v := (2 : Int32)) hx hb dX1_send_57 (by decide) ?_
    refine lv_goto (tgt := 62) hx hb dX1_send_58 (by decide) ?_
    exact b_X1_send_62 X _ _ _ _ _ _ _ _ _ _ hf hI (lv_sub hl [0, 1] rfl)
def f_X1_send (a0 : Nat) (x1 : Int32) : gM (Int32 ⊕ gE) :=
    gB (gCk a0 0) fun _ =>
    gT (f_X1_oneAt a0 x1) fun r1 =>
    gB (gFI r1 4 3) fun v2 =>
    gIf (v2 = 0)
    (f_X1_send_18 a0 x1 r1 (1 : Int32))
    (f_X1_send_18 a0 x1 r1 (0 : Int32))
set_option maxHeartbeats 4000000 in
set_option maxRecDepth 100000 in
theorem m_X1_send {G : gG} {l : Launch} (hfl : l.stackTraces = false) {a0 : Nat} {x1 : Int32} {h h' : g_H} {r : (Int32 ⊕ gE)} (hf : (f_X1_send a0 x1).1 h = some (r, h')) : gMet G l yX1_send (Cond.code yX1_send cX1_send 3 (some .int)) 102 1892 [.ref a0, .int x1] h (g_w g_wI r) h' := by
  refine g_head hfl ((f_X1_send a0 x1).2 h r h' hf) (plainFor_of_name (by decide)) (Nat.le_of_ble_eq_true rfl) (fun p e s m below meth c H locs cells slots ls X hI hl9 => ?_)
  have hl : lv_has ls 3 [(0, .ref a0), (1, .int x1)] := hl9
  have hx := X.1
  have hb := X.2.1
  have hown := X.2.2.2.1
  have hts := X.2.2.2.2.1
  unfold f_X1_send at hf
  refine lv_aload_n hx hb dX1_send_0 rfl (lv_at hl 0 rfl) ?_
  refine lv_iload_n hx hb dX1_send_1 rfl (lv_at hl 1 rfl) ?_
  obtain ⟨hs, hf⟩ := gCk_b hf
  refine g_cTR X hI (by decide) hf (fun v9 h9 e9 l9 l9' => g_rV X hI l9 l9' ⟨Nat.le_refl _, Nat.le_refl _⟩ (As := [.int x1]) (m_X1_oneAt X.2.2.2.2.2.2.2.2.2.2.1 e9) ydX1_oneAt hs rfl rfl q1189 q1191 qs37 q121 q1192 rfl (Nat.le_of_ble_eq_true rfl) (Nat.le_of_ble_eq_true rfl) hl.1 rfl (Nat.le_of_ble_eq_true rfl) dX1_send_2) (fun r1 h H locs cells slots hf hI => ?_)
  refine lv_astore_n (lv' := [(2, .ref r1), (0, .ref a0), (1, .int x1)]) hx hb dX1_send_5 rfl hl (by decide) rfl (fun ls hl => ?_)
  refine lv_aload_n hx hb dX1_send_6 rfl (lv_at hl 0 rfl) ?_
  refine g_fiN X hI hf fX5_3 q243 rfl rfl dX1_send_7 (fun v2 hf => ?_)
  refine lv_if_ne (tgt := 17) hx hb dX1_send_10 (by decide) (fun c10 => ?_) (fun c10 => ?_)
  · have hf := g_f c10 hf
    refine lv_iconst (v := (0 : Int32)) hx hb dX1_send_17 (by decide) ?_
    exact b_X1_send_18 X _ _ _ _ _ _ _ _ _ _ hf hI (lv_sub hl [1, 2, 0] rfl)
  · have hf := g_t c10 hf
    refine lv_iconst (v := (1 : Int32)) hx hb dX1_send_13 (by decide) ?_
    refine lv_goto (tgt := 18) hx hb dX1_send_14 (by decide) ?_
    exact b_X1_send_18 X _ _ _ _ _ _ _ _ _ _ hf hI (lv_sub hl [1, 2, 0] rfl)
/-! X0_send -/
def f_X0_send (a0 : Nat) (x1 : Int32) (a2 : Nat) : gM Int32 :=
    gB (gCk a0 0) fun _ =>
    gB (f_X1_send a0 x1) fun r9 => match r9 with
    | .inl r1 => (gB (gSI a2 2 (0 : Int32) (r1)) fun _ =>
    (gRet (0 : Int32)))
    | .inr x9 => (gIf (x9.1 = 19)
    ((gRet (1 : Int32)))
    (gIf (x9.1 = 13)
    ((gRet (2 : Int32)))
    (gFail)))
set_option maxHeartbeats 4000000 in
set_option maxRecDepth 100000 in
theorem m_X0_send {G : gG} {l : Launch} (hfl : l.stackTraces = false) {a0 : Nat} {x1 : Int32} {a2 : Nat} {h h' : g_H} {r : Int32} (hf : (f_X0_send a0 x1 a2).1 h = some (r, h')) : gMet G l yX0_send (Cond.codeWith yX0_send cX0_send 4 (some .int) [(0, 9, 12, 24), (0, 9, 15, 42)]) 103 1914 [.ref a0, .int x1, .ref a2] h (.inl (g_wI r)) h' := by
  refine g_headW hfl ((f_X0_send a0 x1 a2).2 h r h' hf) (plainFor_of_name (by decide)) (Nat.le_of_ble_eq_true rfl) (fun p e s m below meth c H locs cells slots ls X hI hl9 => ?_)
  have hl : lv_has ls 4 [(0, .ref a0), (1, .int x1), (2, .ref a2)] := hl9
  have hx := X.1
  have hb := X.2.1
  have hown := X.2.2.2.1
  have hts := X.2.2.2.2.1
  unfold f_X0_send at hf
  refine lv_aload_n hx hb dX0_send_0 rfl (lv_at hl 2 rfl) ?_
  refine lv_iconst (v := (0 : Int32)) hx hb dX0_send_1 (by decide) ?_
  refine lv_aload_n hx hb dX0_send_2 rfl (lv_at hl 0 rfl) ?_
  refine lv_iload_n hx hb dX0_send_3 rfl (lv_at hl 1 rfl) ?_
  obtain ⟨hs, hf⟩ := gCk_b hf
  refine g_cHI hI hf (fun v9 h9 e9 l9 l9' => g_rV X hI l9 l9' ⟨Nat.le_refl _, Nat.le_refl _⟩ (As := [.int x1]) (m_X1_send X.2.2.2.2.2.2.2.2.2.2.1 e9) ydX1_send hs rfl rfl q1208 q1209 q1210 q121 q1211 rfl (Nat.le_of_ble_eq_true rfl) (Nat.le_of_ble_eq_true rfl) hl.1 rfl (Nat.le_of_ble_eq_true rfl) dX0_send_4) (fun r1 h H locs cells slots hf hI => ?_) ?_
  · refine lv_i2l hx hb dX0_send_7 rfl ?_
    refine g_si2 X hI hf dX0_send_8 (fun h H locs hf hI => ?_)
    refine lv_goto (tgt := 18) hx hb dX0_send_9 (by decide) ?_
    refine lv_iconst (v := (0 : Int32)) hx hb dX0_send_18 (by decide) ?_
    cases gRet_e hf
    exact g_retI X hI rfl dX0_send_19
  · intro ci9 x9 h H locs cells slots r9 ce9 hf hr9 hI hce hcv hcl
    by_cases k0 : ci9 = 19
    · subst k0
      cases hr9
      have hf := g_t rfl hf
      refine g_catch0 X hI (name := "java/lang/IndexOutOfBoundsException") rfl (by rfl) (by decide) (by decide) q1098 q1144 hce hcv hcl ?_
      refine lv_astore_n (lv' := [(3, .ref x9), (0, .ref a0), (1, .int x1), (2, .ref a2)]) hx hb dX0_send_12 rfl hl (by decide) rfl (fun ls hl => ?_)
      refine lv_iconst (v := (1 : Int32)) hx hb dX0_send_13 (by decide) ?_
      cases gRet_e hf
      exact g_retI X hI rfl dX0_send_14
    have hf := g_f k0 hf
    by_cases k1 : ci9 = 13
    · subst k1
      cases hr9
      have hf := g_t rfl hf
      refine g_catch1 X hI (name := "java/lang/IllegalStateException") rfl (by rfl) (by decide) (by decide) q1207 q1217 q1098 (List.mem_of_getElem? (i := 3) rfl) hce hcv hcl ?_
      refine lv_astore_n (lv' := [(3, .ref x9), (0, .ref a0), (1, .int x1), (2, .ref a2)]) hx hb dX0_send_15 rfl hl (by decide) rfl (fun ls hl => ?_)
      refine lv_iconst (v := (2 : Int32)) hx hb dX0_send_16 (by decide) ?_
      cases gRet_e hf
      exact g_retI X hI rfl dX0_send_17
    have hf := g_f k1 hf
    exact (gFail_f hf).elim
/-! X8_send -/
abbrev w_X8_send_39 (G : gG) (l : Launch) (p : Program) (e : Env) (s : State) (m : MethodId) (args : Array Value) (below : List Frame) (meth : Method) (c : Code) (h0 : g_H) (r : Int32) (h' : g_H) (k : gM Int32) : Prop := ∀ (h : g_H) (H : Heap) (locs : List Loc) (cells slots : Nat) (ls : Array Slot), (k).1 h = some (r, h') → gI G h0 h H locs cells slots → lv_has ls 4 [] → W p l e (g_rm 10 228 h0 h') s m args below meth c H locs cells slots (gQ G below args s h0 h' (.inl (g_wI r))) (F0 m 39 ls [])
abbrev w_X8_send_155 (G : gG) (l : Launch) (p : Program) (e : Env) (s : State) (m : MethodId) (args : Array Value) (below : List Frame) (meth : Method) (c : Code) (h0 : g_H) (r : Int32) (h' : g_H) (k : Nat → Int32 → Nat → Int32 → Int32 → gM Int32) : Prop := ∀ (a0 : Nat) (x2 : Int32) (b0 : Nat) (u1 : Int32) (u2 : Int32) (h : g_H) (H : Heap) (locs : List Loc) (cells slots : Nat) (ls : Array Slot), (k a0 x2 b0 u1 u2).1 h = some (r, h') → gI G h0 h H locs cells slots → lv_has ls 4 [(0, .ref a0), (2, .int x2)] → W p l e (g_rm 10 228 h0 h') s m args below meth c H locs cells slots (gQ G below args s h0 h' (.inl (g_wI r))) (F0 m 155 ls [.int u2, .int u1, .ref b0])
abbrev w_X8_send_117 (G : gG) (l : Launch) (p : Program) (e : Env) (s : State) (m : MethodId) (args : Array Value) (below : List Frame) (meth : Method) (c : Code) (h0 : g_H) (r : Int32) (h' : g_H) (k : Nat → Int32 → Int32 → gM Int32) : Prop := ∀ (a0 : Nat) (x1 : Int32) (x2 : Int32) (h : g_H) (H : Heap) (locs : List Loc) (cells slots : Nat) (ls : Array Slot), (k a0 x1 x2).1 h = some (r, h') → gI G h0 h H locs cells slots → lv_has ls 4 [(0, .ref a0), (1, .int x1), (2, .int x2)] → W p l e (g_rm 10 228 h0 h') s m args below meth c H locs cells slots (gQ G below args s h0 h' (.inl (g_wI r))) (F0 m 117 ls [])
abbrev w_X8_send_86 (G : gG) (l : Launch) (p : Program) (e : Env) (s : State) (m : MethodId) (args : Array Value) (below : List Frame) (meth : Method) (c : Code) (h0 : g_H) (r : Int32) (h' : g_H) (k : Nat → Int32 → Int32 → Int32 → gM Int32) : Prop := ∀ (a0 : Nat) (x1 : Int32) (x2 : Int32) (x3 : Int32) (h : g_H) (H : Heap) (locs : List Loc) (cells slots : Nat) (ls : Array Slot), (k a0 x1 x2 x3).1 h = some (r, h') → gI G h0 h H locs cells slots → lv_has ls 4 [(0, .ref a0), (1, .int x1), (2, .int x2), (3, .int x3)] → W p l e (g_rm 10 228 h0 h') s m args below meth c H locs cells slots (gQ G below args s h0 h' (.inl (g_wI r))) (F0 m 86 ls [])
abbrev w_X8_send_81 (G : gG) (l : Launch) (p : Program) (e : Env) (s : State) (m : MethodId) (args : Array Value) (below : List Frame) (meth : Method) (c : Code) (h0 : g_H) (r : Int32) (h' : g_H) (k : Nat → Int32 → Int32 → Nat → Int32 → Int32 → gM Int32) : Prop := ∀ (a0 : Nat) (x1 : Int32) (x2 : Int32) (b0 : Nat) (u1 : Int32) (u2 : Int32) (h : g_H) (H : Heap) (locs : List Loc) (cells slots : Nat) (ls : Array Slot), (k a0 x1 x2 b0 u1 u2).1 h = some (r, h') → gI G h0 h H locs cells slots → lv_has ls 4 [(0, .ref a0), (1, .int x1), (2, .int x2)] → W p l e (g_rm 10 228 h0 h') s m args below meth c H locs cells slots (gQ G below args s h0 h' (.inl (g_wI r))) (F0 m 81 ls [.int u2, .int u1, .ref b0])
abbrev w_X8_send_32 (G : gG) (l : Launch) (p : Program) (e : Env) (s : State) (m : MethodId) (args : Array Value) (below : List Frame) (meth : Method) (c : Code) (h0 : g_H) (r : Int32) (h' : g_H) (k : Nat → Int32 → Nat → Int32 → gM Int32) : Prop := ∀ (a0 : Nat) (x1 : Int32) (b0 : Nat) (u1 : Int32) (h : g_H) (H : Heap) (locs : List Loc) (cells slots : Nat) (ls : Array Slot), (k a0 x1 b0 u1).1 h = some (r, h') → gI G h0 h H locs cells slots → lv_has ls 4 [(0, .ref a0), (1, .int x1)] → W p l e (g_rm 10 228 h0 h') s m args below meth c H locs cells slots (gQ G below args s h0 h' (.inl (g_wI r))) (F0 m 32 ls [.int u1, .ref b0])
def f_X8_send_39 : gM Int32 :=
    (gRet (0 : Int32))
set_option maxHeartbeats 4000000 in
set_option maxRecDepth 100000 in
theorem b_X8_send_39 {G : gG} {l : Launch} {p : Program} {e : Env} {s : State} {m : MethodId} {args : Array Value} {below : List Frame} {meth : Method} {c : Code} {h0 : g_H} {r : Int32} {h' : g_H} (X : gX G l yX8_send.cls cX8_send 4 (some .int) [] yX8_send.name p s m args meth c) : w_X8_send_39 G l p e s m args below meth c h0 r h' (f_X8_send_39) := by
  have hx := X.1
  have hb := X.2.1
  have hown := X.2.2.2.1
  have hts := X.2.2.2.2.1
  intro h H locs cells slots ls hf hI hl
  unfold f_X8_send_39 at hf
  refine lv_iconst (v := (0 : Int32)) hx hb dX8_send_39 (by decide) ?_
  cases gRet_e hf
  exact g_retI X hI rfl dX8_send_40
def f_X8_send_155 (a0 : Nat) (x2 : Int32) (b0 : Nat) (u1 : Int32) (u2 : Int32) : gM Int32 :=
    gB (gSI b0 0 u1 u2) fun _ =>
    gB (gFR a0 7 1) fun v101 =>
    gB (gFI a0 7 30) fun v102 =>
    gB (gSI v101 0 (68 : Int32) v102) fun _ =>
    gB (gFR a0 7 1) fun v103 =>
    gB (gFR a0 7 1) fun v104 =>
    gB (gAI v104 0 (7 : Int32)) fun v105 =>
    gB (f_J13_min (60 : Int32) (v105 + (1 : Int32))) fun r106 =>
    gB (gSI v103 0 (7 : Int32) r106) fun _ =>
    (gRet x2)
set_option maxHeartbeats 4000000 in
set_option maxRecDepth 100000 in
theorem b_X8_send_155 {G : gG} {l : Launch} {p : Program} {e : Env} {s : State} {m : MethodId} {args : Array Value} {below : List Frame} {meth : Method} {c : Code} {h0 : g_H} {r : Int32} {h' : g_H} (X : gX G l yX8_send.cls cX8_send 4 (some .int) [] yX8_send.name p s m args meth c) : w_X8_send_155 G l p e s m args below meth c h0 r h' (f_X8_send_155) := by
  have hx := X.1
  have hb := X.2.1
  have hown := X.2.2.2.1
  have hts := X.2.2.2.2.1
  intro a0 x2 b0 u1 u2 h H locs cells slots ls hf hI hl
  unfold f_X8_send_155 at hf
  refine g_si0 X hI hf dX8_send_155 (fun h H locs hf hI => ?_)
  refine lv_aload_n hx hb dX8_send_156 rfl (lv_at hl 0 rfl) ?_
  refine g_fr X hI hf fX8_1 q1445 rfl rfl dX8_send_157 (fun v101 hf => ?_)
  refine lv_bipush (v := (68 : Int32)) hx hb dX8_send_160 (by decide) ?_
  refine lv_aload_n hx hb dX8_send_162 rfl (lv_at hl 0 rfl) ?_
  refine g_fi X hI hf fX8_30 q1474 rfl rfl dX8_send_163 (fun v102 hf => ?_)
  refine g_si0 X hI hf dX8_send_166 (fun h H locs hf hI => ?_)
  refine lv_aload_n hx hb dX8_send_167 rfl (lv_at hl 0 rfl) ?_
  refine g_fr X hI hf fX8_1 q1445 rfl rfl dX8_send_168 (fun v103 hf => ?_)
  refine lv_bipush (v := (7 : Int32)) hx hb dX8_send_171 (by decide) ?_
  refine lv_bipush (v := (60 : Int32)) hx hb dX8_send_173 (by decide) ?_
  refine lv_aload_n hx hb dX8_send_175 rfl (lv_at hl 0 rfl) ?_
  refine g_fr X hI hf fX8_1 q1445 rfl rfl dX8_send_176 (fun v104 hf => ?_)
  refine lv_bipush (v := (7 : Int32)) hx hb dX8_send_179 (by decide) ?_
  refine g_ai0 X hI hf dX8_send_181 (fun v105 hf => ?_)
  refine lv_iconst (v := (1 : Int32)) hx hb dX8_send_182 (by decide) ?_
  refine lv_iadd hx hb dX8_send_183 ?_
  refine g_cBI hI hf (fun v9 h9 e9 l9 l9' => g_rS (b := 0) X hI l9 l9' ⟨Nat.le_refl _, Nat.le_refl _⟩ (As := [.int (60 : Int32), .int (v105 + (1 : Int32))]) (m_J13_min X.2.2.2.2.2.2.2.2.2.2.1 e9) ydJ13_min q1845 q740 q151 q741 rfl (Nat.le_of_ble_eq_true rfl) (Nat.le_of_ble_eq_true rfl) hl.1 rfl (Nat.le_of_ble_eq_true rfl) dX8_send_184) (fun r106 h H locs cells slots hf hI => ?_)
  refine g_si0 X hI hf dX8_send_187 (fun h H locs hf hI => ?_)
  refine lv_iload_n hx hb dX8_send_188 rfl (lv_at hl 1 rfl) ?_
  cases gRet_e hf
  exact g_retI X hI rfl dX8_send_189
def f_X8_send_117 (a0 : Nat) (x1 : Int32) (x2 : Int32) : gM Int32 :=
    gB (gFR a0 7 1) fun v101 =>
    gB (gFR a0 7 1) fun v102 =>
    gB (gAI v102 0 (4 : Int32)) fun v103 =>
    gB (gSI v101 0 (65 : Int32) v103) fun _ =>
    gB (gFR a0 7 1) fun v104 =>
    gB (gSI v104 0 (66 : Int32) x1) fun _ =>
    gB (gFR a0 7 1) fun v105 =>
    gIf (x2 = (-1 : Int32))
    (f_X8_send_155 a0 x2 v105 (67 : Int32) (10 : Int32))
    (f_X8_send_155 a0 x2 v105 (67 : Int32) x2)
set_option maxHeartbeats 4000000 in
set_option maxRecDepth 100000 in
theorem b_X8_send_117 {G : gG} {l : Launch} {p : Program} {e : Env} {s : State} {m : MethodId} {args : Array Value} {below : List Frame} {meth : Method} {c : Code} {h0 : g_H} {r : Int32} {h' : g_H} (X : gX G l yX8_send.cls cX8_send 4 (some .int) [] yX8_send.name p s m args meth c) : w_X8_send_117 G l p e s m args below meth c h0 r h' (f_X8_send_117) := by
  have hx := X.1
  have hb := X.2.1
  have hown := X.2.2.2.1
  have hts := X.2.2.2.2.1
  intro a0 x1 x2 h H locs cells slots ls hf hI hl
  unfold f_X8_send_117 at hf
  refine lv_aload_n hx hb dX8_send_117 rfl (lv_at hl 0 rfl) ?_
  refine g_fr X hI hf fX8_1 q1445 rfl rfl dX8_send_118 (fun v101 hf => ?_)
  refine lv_bipush (v := (65 : Int32)) hx hb dX8_send_121 (by decide) ?_
  refine lv_aload_n hx hb dX8_send_123 rfl (lv_at hl 0 rfl) ?_
  refine g_fr X hI hf fX8_1 q1445 rfl rfl dX8_send_124 (fun v102 hf => ?_)
  refine lv_iconst (v := (4 : Int32)) hx hb dX8_send_127 (by decide) ?_
  refine g_ai0 X hI hf dX8_send_128 (fun v103 hf => ?_)
  refine g_si0 X hI hf dX8_send_129 (fun h H locs hf hI => ?_)
  refine lv_aload_n hx hb dX8_send_130 rfl (lv_at hl 0 rfl) ?_
  refine g_fr X hI hf fX8_1 q1445 rfl rfl dX8_send_131 (fun v104 hf => ?_)
  refine lv_bipush (v := (66 : Int32)) hx hb dX8_send_134 (by decide) ?_
  refine lv_iload_n hx hb dX8_send_136 rfl (lv_at hl 1 rfl) ?_
  refine g_si0 X hI hf dX8_send_137 (fun h H locs hf hI => ?_)
  refine lv_aload_n hx hb dX8_send_138 rfl (lv_at hl 0 rfl) ?_
  refine g_fr X hI hf fX8_1 q1445 rfl rfl dX8_send_139 (fun v105 hf => ?_)
  refine lv_bipush (v := (67 : Int32)) hx hb dX8_send_142 (by decide) ?_
  refine lv_iload_n hx hb dX8_send_144 rfl (lv_at hl 2 rfl) ?_
  refine lv_iconst (v := (-1 : Int32)) hx hb dX8_send_145 (by decide) ?_
  refine lv_icmp_ne (tgt := 154) hx hb dX8_send_146 (by decide) (fun c146 => ?_) (fun c146 => ?_)
  · have hf := g_f c146 hf
    refine lv_iload_n hx hb dX8_send_154 rfl (lv_at hl 2 rfl) ?_
    exact b_X8_send_155 X _ _ _ _ _ _ _ _ _ _ _ hf hI (lv_sub hl [0, 2] rfl)
  · have hf := g_t c146 hf
    refine lv_bipush (v := (10 : Int32)) hx hb dX8_send_149 (by decide) ?_
    refine lv_goto (tgt := 155) hx hb dX8_send_151 (by decide) ?_
    exact b_X8_send_155 X _ _ _ _ _ _ _ _ _ _ _ hf hI (lv_sub hl [0, 2] rfl)
def f_X8_send_86 : Nat → Nat → Int32 → Int32 → Int32 → gM Int32
  | 0, _, _, _, _ => gFail
  | n + 1, a0, x1, x2, x3 =>
    gIf (x3 < (4 : Int32))
    (f_X8_send_117 a0 x1 x2)
    (gB (gFR a0 7 1) fun v101 =>
    gB (gFR a0 7 1) fun v102 =>
    gB (gAI v102 0 (((65 : Int32) + x3) - (4 : Int32))) fun v103 =>
    gB (gSI v101 0 ((65 : Int32) + x3) v103) fun _ =>
    f_X8_send_86 n a0 x1 x2 (x3 + (-1 : Int32)))
set_option maxHeartbeats 4000000 in
set_option maxRecDepth 100000 in
theorem b_X8_send_86 {G : gG} {l : Launch} {p : Program} {e : Env} {s : State} {m : MethodId} {args : Array Value} {below : List Frame} {meth : Method} {c : Code} {h0 : g_H} {r : Int32} {h' : g_H} (X : gX G l yX8_send.cls cX8_send 4 (some .int) [] yX8_send.name p s m args meth c) : ∀ n : Nat, w_X8_send_86 G l p e s m args below meth c h0 r h' (f_X8_send_86 n) := by
  have hx := X.1
  have hb := X.2.1
  have hown := X.2.2.2.1
  have hts := X.2.2.2.2.1
  intro n
  induction n with
  | zero =>
    intro a0 x1 x2 x3 h H locs cells slots ls hf hI hl
    exact (gFail_f hf).elim
  | succ n ih =>
    intro a0 x1 x2 x3 h H locs cells slots ls hf hI hl
    rw [f_X8_send_86] at hf
    refine lv_iload_n hx hb dX8_send_86 rfl (lv_at hl 3 rfl) ?_
    refine lv_iconst (v := (4 : Int32)) hx hb dX8_send_87 (by decide) ?_
    refine lv_icmp_lt (tgt := 117) hx hb dX8_send_88 (by decide) (fun c88 => ?_) (fun c88 => ?_)
    · have hf := g_t c88 hf
      exact b_X8_send_117 X _ _ _ _ _ _ _ _ _ hf hI (lv_sub hl [0, 1, 2] rfl)
    · have hf := g_f c88 hf
      refine lv_aload_n hx hb dX8_send_91 rfl (lv_at hl 0 rfl) ?_
      refine g_fr X hI hf fX8_1 q1445 rfl rfl dX8_send_92 (fun v101 hf => ?_)
      refine lv_bipush (v := (65 : Int32)) hx hb dX8_send_95 (by decide) ?_
      refine lv_iload_n hx hb dX8_send_97 rfl (lv_at hl 3 rfl) ?_
      refine lv_iadd hx hb dX8_send_98 ?_
      refine lv_aload_n hx hb dX8_send_99 rfl (lv_at hl 0 rfl) ?_
      refine g_fr X hI hf fX8_1 q1445 rfl rfl dX8_send_100 (fun v102 hf => ?_)
      refine lv_bipush (v := (65 : Int32)) hx hb dX8_send_103 (by decide) ?_
      refine lv_iload_n hx hb dX8_send_105 rfl (lv_at hl 3 rfl) ?_
      refine lv_iadd hx hb dX8_send_106 ?_
      refine lv_iconst (v := (4 : Int32)) hx hb dX8_send_107 (by decide) ?_
      refine lv_isub hx hb dX8_send_108 ?_
      refine g_ai0 X hI hf dX8_send_109 (fun v103 hf => ?_)
      refine g_si0 X hI hf dX8_send_110 (fun h H locs hf hI => ?_)
      refine lv_iinc (v := (x3 + (-1 : Int32))) (lv' := [(3, .int (x3 + (-1 : Int32))), (0, .ref a0), (1, .int x1), (2, .int x2)]) hx hb dX8_send_111 hl (k := 3) rfl rfl (by decide) rfl (fun ls hl => ?_)
      refine lv_goto (tgt := 86) hx hb dX8_send_114 (by decide) ?_
      exact ih _ _ _ _ _ _ _ _ _ _ hf hI (lv_sub hl [1, 2, 3, 0] rfl)
def f_X8_send_81 (a0 : Nat) (x1 : Int32) (x2 : Int32) (b0 : Nat) (u1 : Int32) (u2 : Int32) : gM Int32 :=
    gB (gSI b0 0 u1 u2) fun _ =>
    f_X8_send_86 gN a0 x1 x2 (239 : Int32)
set_option maxHeartbeats 4000000 in
set_option maxRecDepth 100000 in
theorem b_X8_send_81 {G : gG} {l : Launch} {p : Program} {e : Env} {s : State} {m : MethodId} {args : Array Value} {below : List Frame} {meth : Method} {c : Code} {h0 : g_H} {r : Int32} {h' : g_H} (X : gX G l yX8_send.cls cX8_send 4 (some .int) [] yX8_send.name p s m args meth c) : w_X8_send_81 G l p e s m args below meth c h0 r h' (f_X8_send_81) := by
  have hx := X.1
  have hb := X.2.1
  have hown := X.2.2.2.1
  have hts := X.2.2.2.2.1
  intro a0 x1 x2 b0 u1 u2 h H locs cells slots ls hf hI hl
  unfold f_X8_send_81 at hf
  refine g_si0 X hI hf dX8_send_81 (fun h H locs hf hI => ?_)
  refine lv_sipush (v := (239 : Int32)) hx hb dX8_send_82 (by decide) ?_
  refine lv_istore_n (lv' := [(3, .int (239 : Int32)), (0, .ref a0), (1, .int x1), (2, .int x2)]) hx hb dX8_send_85 rfl hl (by decide) rfl (fun ls hl => ?_)
  exact b_X8_send_86 X gN _ _ _ _ _ _ _ _ _ _ hf hI (lv_sub hl [1, 2, 3, 0] rfl)
def f_X8_send_32 (a0 : Nat) (x1 : Int32) (b0 : Nat) (u1 : Int32) : gM Int32 :=
    gB (gCk b0 7) fun _ =>
    gB (f_X8_throwsIf b0 u1 (2 : Int32)) fun r101 =>
    gIf (r101 = 0)
    (gB (gCk a0 7) fun _ =>
    gB (f_X8_remembers a0) fun _ =>
    gB (gCk a0 7) fun _ =>
    gB (f_X8_looksAt a0 x1) fun _ =>
    gB (gCk a0 7) fun _ =>
    gB (f_X8_rides a0 (1 : Int32) (0 : Int32)) fun r104 =>
    gB (gCk a0 7) fun _ =>
    gB (f_X8_laysOn a0 x1) fun _ =>
    gB (gFR a0 7 1) fun v106 =>
    gB (f_X8_oneAt x1 (3 : Int32)) fun r107 =>
    gIf (r104 = (-1 : Int32))
    (f_X8_send_81 a0 x1 r104 v106 r107 (2 : Int32))
    (f_X8_send_81 a0 x1 r104 v106 r107 (1 : Int32)))
    (f_X8_send_39)
set_option maxHeartbeats 4000000 in
set_option maxRecDepth 100000 in
theorem b_X8_send_32 {G : gG} {l : Launch} {p : Program} {e : Env} {s : State} {m : MethodId} {args : Array Value} {below : List Frame} {meth : Method} {c : Code} {h0 : g_H} {r : Int32} {h' : g_H} (X : gX G l yX8_send.cls cX8_send 4 (some .int) [] yX8_send.name p s m args meth c) : w_X8_send_32 G l p e s m args below meth c h0 r h' (f_X8_send_32) := by
  have hx := X.1
  have hb := X.2.1
  have hown := X.2.2.2.1
  have hts := X.2.2.2.2.1
  intro a0 x1 b0 u1 h H locs cells slots ls hf hI hl
  unfold f_X8_send_32 at hf
  refine lv_iconst (v := (2 : Int32)) hx hb dX8_send_32 (by decide) ?_
  obtain ⟨hs, hf⟩ := gCk_b hf
  refine g_cBI hI hf (fun v9 h9 e9 l9 l9' => g_rV X hI l9 l9' ⟨Nat.le_refl _, Nat.le_refl _⟩ (As := [.int u1, .int (2 : Int32)]) (m_X8_throwsIf X.2.2.2.2.2.2.2.2.2.2.1 e9) ydX8_throwsIf hs rfl rfl q1736 q1738 qs72 q131 q1739 rfl (Nat.le_of_ble_eq_true rfl) (Nat.le_of_ble_eq_true rfl) hl.1 rfl (Nat.le_of_ble_eq_true rfl) dX8_send_33) (fun r101 h H locs cells slots hf hI => ?_)
  refine lv_if_eq (tgt := 41) hx hb dX8_send_36 (by decide) (fun c36 => ?_) (fun c36 => ?_)
  · have hf := g_t c36 hf
    refine lv_aload_n hx hb dX8_send_41 rfl (lv_at hl 0 rfl) ?_
    obtain ⟨hs, hf⟩ := gCk_b hf
    refine g_cBU hI hf (fun v9 h9 e9 l9 l9' => g_rV X hI l9 l9' ⟨Nat.le_refl _, Nat.le_refl _⟩ (As := []) (m_X8_remembers X.2.2.2.2.2.2.2.2.2.2.1 e9) ydX8_remembers hs rfl rfl q1808 q1810 qs83 q131 q1811 rfl (Nat.le_of_ble_eq_true rfl) (Nat.le_of_ble_eq_true rfl) hl.1 rfl (Nat.le_of_ble_eq_true rfl) dX8_send_42) (fun r102 h H locs cells slots hf hI => ?_)
    refine lv_aload_n hx hb dX8_send_45 rfl (lv_at hl 0 rfl) ?_
    refine lv_iload_n hx hb dX8_send_46 rfl (lv_at hl 1 rfl) ?_
    obtain ⟨hs, hf⟩ := gCk_b hf
    refine g_cBU hI hf (fun v9 h9 e9 l9 l9' => g_rV X hI l9 l9' ⟨Nat.le_refl _, Nat.le_refl _⟩ (As := [.int x1]) (m_X8_looksAt X.2.2.2.2.2.2.2.2.2.2.1 e9) ydX8_looksAt hs rfl rfl q1775 q1777 qs76 q131 q1778 rfl (Nat.le_of_ble_eq_true rfl) (Nat.le_of_ble_eq_true rfl) hl.1 rfl (Nat.le_of_ble_eq_true rfl) dX8_send_47) (fun r103 h H locs cells slots hf hI => ?_)
    refine lv_aload_n hx hb dX8_send_50 rfl (lv_at hl 0 rfl) ?_
    refine lv_iconst (v := (1 : Int32)) hx hb dX8_send_51 (by decide) ?_
    refine lv_iconst (v := (0 : Int32)) hx hb dX8_send_52 (by decide) ?_
    obtain ⟨hs, hf⟩ := gCk_b hf
    refine g_cBI hI hf (fun v9 h9 e9 l9 l9' => g_rV X hI l9 l9' ⟨Nat.le_refl _, Nat.le_refl _⟩ (As := [.int (1 : Int32), .int (0 : Int32)]) (m_X8_rides X.2.2.2.2.2.2.2.2.2.2.1 e9) ydX8_rides hs rfl rfl q1812 q1814 qs84 q131 q1815 rfl (Nat.le_of_ble_eq_true rfl) (Nat.le_of_ble_eq_true rfl) hl.1 rfl (Nat.le_of_ble_eq_true rfl) dX8_send_53) (fun r104 h H locs cells slots hf hI => ?_)
    refine lv_istore_n (lv' := [(2, .int r104), (0, .ref a0), (1, .int x1)]) hx hb dX8_send_56 rfl hl (by decide) rfl (fun ls hl => ?_)
    refine lv_aload_n hx hb dX8_send_57 rfl (lv_at hl 1 rfl) ?_
    refine lv_iload_n hx hb dX8_send_58 rfl (lv_at hl 2 rfl) ?_
    obtain ⟨hs, hf⟩ := gCk_b hf
    refine g_cBU hI hf (fun v9 h9 e9 l9 l9' => g_rV X hI l9 l9' ⟨Nat.le_refl _, Nat.le_refl _⟩ (As := [.int x1]) (m_X8_laysOn X.2.2.2.2.2.2.2.2.2.2.1 e9) ydX8_laysOn hs rfl rfl q1841 q1843 qs91 q131 q1844 rfl (Nat.le_of_ble_eq_true rfl) (Nat.le_of_ble_eq_true rfl) hl.1 rfl (Nat.le_of_ble_eq_true rfl) dX8_send_59) (fun r105 h H locs cells slots hf hI => ?_)
    refine lv_aload_n hx hb dX8_send_62 rfl (lv_at hl 1 rfl) ?_
    refine g_fr X hI hf fX8_1 q1445 rfl rfl dX8_send_63 (fun v106 hf => ?_)
    refine lv_iload_n hx hb dX8_send_66 rfl (lv_at hl 2 rfl) ?_
    refine lv_iconst (v := (3 : Int32)) hx hb dX8_send_67 (by decide) ?_
    refine g_cBI hI hf (fun v9 h9 e9 l9 l9' => g_rS (b := 0) X hI l9 l9' ⟨Nat.le_refl _, Nat.le_refl _⟩ (As := [.int x1, .int (3 : Int32)]) (m_X8_oneAt X.2.2.2.2.2.2.2.2.2.2.1 e9) ydX8_oneAt q1680 q1681 q131 q1682 rfl (Nat.le_of_ble_eq_true rfl) (Nat.le_of_ble_eq_true rfl) hl.1 rfl (Nat.le_of_ble_eq_true rfl) dX8_send_68) (fun r107 h H locs cells slots hf hI => ?_)
    refine lv_iload_n hx hb dX8_send_71 rfl (lv_at hl 0 rfl) ?_
    refine lv_iconst (v := (-1 : Int32)) hx hb dX8_send_72 (by decide) ?_
    refine lv_icmp_ne (tgt := 80) hx hb dX8_send_73 (by decide) (fun c73 => ?_) (fun c73 => ?_)
    · have hf := g_f c73 hf
      refine lv_iconst (v := (1 : Int32)) hx hb dX8_send_80 (by decide) ?_
      exact b_X8_send_81 X _ _ _ _ _ _ _ _ _ _ _ _ hf hI (lv_sub hl [1, 2, 0] rfl)
    · have hf := g_t c73 hf
      refine lv_iconst (v := (2 : Int32)) hx hb dX8_send_76 (by decide) ?_
      refine lv_goto (tgt := 81) hx hb dX8_send_77 (by decide) ?_
      exact b_X8_send_81 X _ _ _ _ _ _ _ _ _ _ _ _ hf hI (lv_sub hl [1, 2, 0] rfl)
  · have hf := g_f c36 hf
    exact b_X8_send_39 X _ _ _ _ _ _ hf hI (lv_sub hl [] rfl)
def f_X8_send (a0 : Nat) (x1 : Int32) : gM Int32 :=
    gB (gPI a0 7 0 (0 : Int32)) fun _ =>
    gB (gCk a0 7) fun _ =>
    gB (f_X8_noOne a0 x1) fun r1 =>
    gB (gCk a0 7) fun _ =>
    gB (f_X8_throwsIf a0 r1 (1 : Int32)) fun r2 =>
    gIf (r2 = 0)
    (gB (gCk a0 7) fun _ =>
    gB (f_X8_waits a0 x1) fun r3 =>
    gIf (r3 = 0)
    (f_X8_send_32 a0 x1 a0 (1 : Int32))
    (f_X8_send_32 a0 x1 a0 (0 : Int32)))
    (f_X8_send_39)
set_option maxHeartbeats 4000000 in
set_option maxRecDepth 100000 in
theorem m_X8_send {G : gG} {l : Launch} (hfl : l.stackTraces = false) {a0 : Nat} {x1 : Int32} {h h' : g_H} {r : Int32} (hf : (f_X8_send a0 x1).1 h = some (r, h')) : gMet G l yX8_send (Cond.code yX8_send cX8_send 4 (some .int)) 10 228 [.ref a0, .int x1] h (.inl (g_wI r)) h' := by
  refine g_head hfl ((f_X8_send a0 x1).2 h r h' hf) (plainFor_of_name (by decide)) (Nat.le_of_ble_eq_true rfl) (fun p e s m below meth c H locs cells slots ls X hI hl9 => ?_)
  have hl : lv_has ls 4 [(0, .ref a0), (1, .int x1)] := hl9
  have hx := X.1
  have hb := X.2.1
  have hown := X.2.2.2.1
  have hts := X.2.2.2.2.1
  unfold f_X8_send at hf
  refine lv_aload_n hx hb dX8_send_0 rfl (lv_at hl 0 rfl) ?_
  refine lv_iconst (v := (0 : Int32)) hx hb dX8_send_1 (by decide) ?_
  refine g_pi X hI hf fX8_0 q1444 rfl dX8_send_2 (fun h H locs hf hI => ?_)
  refine lv_aload_n hx hb dX8_send_5 rfl (lv_at hl 0 rfl) ?_
  refine lv_aload_n hx hb dX8_send_6 rfl (lv_at hl 0 rfl) ?_
  refine lv_iload_n hx hb dX8_send_7 rfl (lv_at hl 1 rfl) ?_
  obtain ⟨hs, hf⟩ := gCk_b hf
  refine g_cBI hI hf (fun v9 h9 e9 l9 l9' => g_rV X hI l9 l9' ⟨Nat.le_refl _, Nat.le_refl _⟩ (As := [.int x1]) (m_X8_noOne X.2.2.2.2.2.2.2.2.2.2.1 e9) ydX8_noOne hs rfl rfl q1763 q1765 qs74 q131 q1766 rfl (Nat.le_of_ble_eq_true rfl) (Nat.le_of_ble_eq_true rfl) hl.1 rfl (Nat.le_of_ble_eq_true rfl) dX8_send_8) (fun r1 h H locs cells slots hf hI => ?_)
  refine lv_iconst (v := (1 : Int32)) hx hb dX8_send_11 (by decide) ?_
  obtain ⟨hs, hf⟩ := gCk_b hf
  refine g_cBI hI hf (fun v9 h9 e9 l9 l9' => g_rV X hI l9 l9' ⟨Nat.le_refl _, Nat.le_refl _⟩ (As := [.int r1, .int (1 : Int32)]) (m_X8_throwsIf X.2.2.2.2.2.2.2.2.2.2.1 e9) ydX8_throwsIf hs rfl rfl q1736 q1738 qs72 q131 q1739 rfl (Nat.le_of_ble_eq_true rfl) (Nat.le_of_ble_eq_true rfl) hl.1 rfl (Nat.le_of_ble_eq_true rfl) dX8_send_12) (fun r2 h H locs cells slots hf hI => ?_)
  refine lv_if_ne (tgt := 39) hx hb dX8_send_15 (by decide) (fun c15 => ?_) (fun c15 => ?_)
  · have hf := g_f c15 hf
    exact b_X8_send_39 X _ _ _ _ _ _ hf hI (lv_sub hl [] rfl)
  · have hf := g_t c15 hf
    refine lv_aload_n hx hb dX8_send_18 rfl (lv_at hl 0 rfl) ?_
    refine lv_aload_n hx hb dX8_send_19 rfl (lv_at hl 0 rfl) ?_
    refine lv_iload_n hx hb dX8_send_20 rfl (lv_at hl 1 rfl) ?_
    obtain ⟨hs, hf⟩ := gCk_b hf
    refine g_cBI hI hf (fun v9 h9 e9 l9 l9' => g_rV X hI l9 l9' ⟨Nat.le_refl _, Nat.le_refl _⟩ (As := [.int x1]) (m_X8_waits X.2.2.2.2.2.2.2.2.2.2.1 e9) ydX8_waits hs rfl rfl q1804 q1806 qs82 q131 q1807 rfl (Nat.le_of_ble_eq_true rfl) (Nat.le_of_ble_eq_true rfl) hl.1 rfl (Nat.le_of_ble_eq_true rfl) dX8_send_21) (fun r3 h H locs cells slots hf hI => ?_)
    refine lv_if_ne (tgt := 31) hx hb dX8_send_24 (by decide) (fun c24 => ?_) (fun c24 => ?_)
    · have hf := g_f c24 hf
      refine lv_iconst (v := (0 : Int32)) hx hb dX8_send_31 (by decide) ?_
      exact b_X8_send_32 X _ _ _ _ _ _ _ _ _ _ hf hI (lv_sub hl [0, 1] rfl)
    · have hf := g_t c24 hf
      refine lv_iconst (v := (1 : Int32)) hx hb dX8_send_27 (by decide) ?_
      refine lv_goto (tgt := 32) hx hb dX8_send_28 (by decide) ?_
      exact b_X8_send_32 X _ _ _ _ _ _ _ _ _ _ hf hI (lv_sub hl [0, 1] rfl)
/-! X1_fright -/
abbrev w_X1_fright_51 (G : gG) (l : Launch) (p : Program) (e : Env) (s : State) (m : MethodId) (args : Array Value) (below : List Frame) (meth : Method) (c : Code) (h0 : g_H) (r : (Int32 ⊕ gE)) (h' : g_H) (k : Int32 → gM (Int32 ⊕ gE)) : Prop := ∀ (u0 : Int32) (h : g_H) (H : Heap) (locs : List Loc) (cells slots : Nat) (ls : Array Slot), (k u0).1 h = some (r, h') → gI G h0 h H locs cells slots → lv_has ls 6 [] → W p l e (g_rm 100 1842 h0 h') s m args below meth c H locs cells slots (gQ G below args s h0 h' (g_w g_wI r)) (F0 m 51 ls [.int u0])
def f_X1_fright_51 (u0 : Int32) : gM (Int32 ⊕ gE) :=
    (gRet (.inl u0))
set_option maxHeartbeats 4000000 in
set_option maxRecDepth 100000 in
theorem b_X1_fright_51 {G : gG} {l : Launch} {p : Program} {e : Env} {s : State} {m : MethodId} {args : Array Value} {below : List Frame} {meth : Method} {c : Code} {h0 : g_H} {r : (Int32 ⊕ gE)} {h' : g_H} (X : gX G l yX1_fright.cls cX1_fright 6 (some .int) [] yX1_fright.name p s m args meth c) : w_X1_fright_51 G l p e s m args below meth c h0 r h' (f_X1_fright_51) := by
  have hx := X.1
  have hb := X.2.1
  have hown := X.2.2.2.1
  have hts := X.2.2.2.2.1
  intro u0 h H locs cells slots ls hf hI hl
  unfold f_X1_fright_51 at hf
  cases gRet_e hf
  exact g_retI X hI rfl dX1_fright_51
def f_X1_fright (a0 : Nat) (x1 : Int32) (x2 : Int32) (x3 : Int32) (x4 : Int32) : gM (Int32 ⊕ gE) :=
    gB (gCk a0 0) fun _ =>
    gT (f_X1_oneAt a0 x1) fun r1 =>
    gT (f_X1_isSlot x2) fun _ =>
    gB (f_X1_isIn x3 (0 : Int32) (99 : Int32)) fun r3 =>
    gT (f_X1_must r3) fun _ =>
    gIf (x4 = 0)
    (gB (gFR a0 0 1) fun v5 =>
    gB (gCk v5 2) fun _ =>
    gB (f_X3_frights v5 r1 x2 x3) fun r6 =>
    f_X1_fright_51 r6)
    (gB (gFR a0 0 1) fun v7 =>
    gB (gCk v7 2) fun _ =>
    gB (f_X3_wears v7 r1 x2 x3) fun r8 =>
    f_X1_fright_51 r8)
set_option maxHeartbeats 4000000 in
set_option maxRecDepth 100000 in
theorem m_X1_fright {G : gG} {l : Launch} (hfl : l.stackTraces = false) {a0 : Nat} {x1 : Int32} {x2 : Int32} {x3 : Int32} {x4 : Int32} {h h' : g_H} {r : (Int32 ⊕ gE)} (hf : (f_X1_fright a0 x1 x2 x3 x4).1 h = some (r, h')) : gMet G l yX1_fright (Cond.code yX1_fright cX1_fright 6 (some .int)) 100 1842 [.ref a0, .int x1, .int x2, .int x3, .int x4] h (g_w g_wI r) h' := by
  refine g_head hfl ((f_X1_fright a0 x1 x2 x3 x4).2 h r h' hf) (plainFor_of_name (by decide)) (Nat.le_of_ble_eq_true rfl) (fun p e s m below meth c H locs cells slots ls X hI hl9 => ?_)
  have hl : lv_has ls 6 [(0, .ref a0), (1, .int x1), (2, .int x2), (3, .int x3), (4, .int x4)] := hl9
  have hx := X.1
  have hb := X.2.1
  have hown := X.2.2.2.1
  have hts := X.2.2.2.2.1
  unfold f_X1_fright at hf
  refine lv_aload_n hx hb dX1_fright_0 rfl (lv_at hl 0 rfl) ?_
  refine lv_iload_n hx hb dX1_fright_1 rfl (lv_at hl 1 rfl) ?_
  obtain ⟨hs, hf⟩ := gCk_b hf
  refine g_cTR X hI (by decide) hf (fun v9 h9 e9 l9 l9' => g_rV X hI l9 l9' ⟨Nat.le_refl _, Nat.le_refl _⟩ (As := [.int x1]) (m_X1_oneAt X.2.2.2.2.2.2.2.2.2.2.1 e9) ydX1_oneAt hs rfl rfl q1189 q1191 qs37 q121 q1192 rfl (Nat.le_of_ble_eq_true rfl) (Nat.le_of_ble_eq_true rfl) hl.1 rfl (Nat.le_of_ble_eq_true rfl) dX1_fright_2) (fun r1 h H locs cells slots hf hI => ?_)
  refine lv_astore (lv' := [(5, .ref r1), (0, .ref a0), (1, .int x1), (2, .int x2), (3, .int x3), (4, .int x4)]) hx hb dX1_fright_5 hl (by decide) rfl (fun ls hl => ?_)
  refine lv_iload_n hx hb dX1_fright_7 rfl (lv_at hl 3 rfl) ?_
  refine g_cTU X hI (by decide) hf (fun v9 h9 e9 l9 l9' => g_rS (b := 0) X hI l9 l9' ⟨Nat.le_refl _, Nat.le_refl _⟩ (As := [.int x2]) (m_X1_isSlot X.2.2.2.2.2.2.2.2.2.2.1 e9) ydX1_isSlot q1179 q1180 q121 q1181 rfl (Nat.le_of_ble_eq_true rfl) (Nat.le_of_ble_eq_true rfl) hl.1 rfl (Nat.le_of_ble_eq_true rfl) dX1_fright_8) (fun r2 h H locs cells slots hf hI => ?_)
  refine lv_iload_n hx hb dX1_fright_11 rfl (lv_at hl 4 rfl) ?_
  refine lv_iconst (v := (0 : Int32)) hx hb dX1_fright_12 (by decide) ?_
  refine lv_bipush (v := (99 : Int32)) hx hb dX1_fright_13 (by decide) ?_
  refine g_cBI hI hf (fun v9 h9 e9 l9 l9' => g_rS (b := 0) X hI l9 l9' ⟨Nat.le_refl _, Nat.le_refl _⟩ (As := [.int x3, .int (0 : Int32), .int (99 : Int32)]) (m_X1_isIn X.2.2.2.2.2.2.2.2.2.2.1 e9) ydX1_isIn q532 q533 q121 q534 rfl (Nat.le_of_ble_eq_true rfl) (Nat.le_of_ble_eq_true rfl) hl.1 rfl (Nat.le_of_ble_eq_true rfl) dX1_fright_15) (fun r3 h H locs cells slots hf hI => ?_)
  refine g_cTU X hI (by decide) hf (fun v9 h9 e9 l9 l9' => g_rS (b := 0) X hI l9 l9' ⟨Nat.le_refl _, Nat.le_refl _⟩ (As := [.int r3]) (m_X1_must X.2.2.2.2.2.2.2.2.2.2.1 e9) ydX1_must q1200 q1201 q121 q1202 rfl (Nat.le_of_ble_eq_true rfl) (Nat.le_of_ble_eq_true rfl) hl.1 rfl (Nat.le_of_ble_eq_true rfl) dX1_fright_18) (fun r4 h H locs cells slots hf hI => ?_)
  refine lv_iload hx hb dX1_fright_21 (lv_at hl 5 rfl) ?_
  refine lv_if_eq (tgt := 40) hx hb dX1_fright_23 (by decide) (fun c23 => ?_) (fun c23 => ?_)
  · have hf := g_t c23 hf
    refine lv_aload_n hx hb dX1_fright_40 rfl (lv_at hl 1 rfl) ?_
    refine g_fr X hI hf fX1_1 q461 rfl rfl dX1_fright_41 (fun v5 hf => ?_)
    refine lv_aload hx hb dX1_fright_44 (lv_at hl 0 rfl) ?_
    refine lv_iload_n hx hb dX1_fright_46 rfl (lv_at hl 3 rfl) ?_
    refine lv_iload_n hx hb dX1_fright_47 rfl (lv_at hl 4 rfl) ?_
    obtain ⟨hs, hf⟩ := gCk_b hf
    refine g_cBI hI hf (fun v9 h9 e9 l9 l9' => g_rV X hI l9 l9' ⟨Nat.le_refl _, Nat.le_refl _⟩ (As := [.ref r1, .int x2, .int x3]) (m_X3_frights X.2.2.2.2.2.2.2.2.2.2.1 e9) ydX3_frights hs rfl rfl q1203 q567 q568 q123 q569 rfl (Nat.le_of_ble_eq_true rfl) (Nat.le_of_ble_eq_true rfl) hl.1 rfl (Nat.le_of_ble_eq_true rfl) dX1_fright_48) (fun r6 h H locs cells slots hf hI => ?_)
    exact b_X1_fright_51 X _ _ _ _ _ _ _ hf hI (lv_sub hl [] rfl)
  · have hf := g_f c23 hf
    refine lv_aload_n hx hb dX1_fright_26 rfl (lv_at hl 1 rfl) ?_
    refine g_fr X hI hf fX1_1 q461 rfl rfl dX1_fright_27 (fun v7 hf => ?_)
    refine lv_aload hx hb dX1_fright_30 (lv_at hl 0 rfl) ?_
    refine lv_iload_n hx hb dX1_fright_32 rfl (lv_at hl 3 rfl) ?_
    refine lv_iload_n hx hb dX1_fright_33 rfl (lv_at hl 4 rfl) ?_
    obtain ⟨hs, hf⟩ := gCk_b hf
    refine g_cBI hI hf (fun v9 h9 e9 l9 l9' => g_rV X hI l9 l9' ⟨Nat.le_refl _, Nat.le_refl _⟩ (As := [.ref r1, .int x2, .int x3]) (m_X3_wears X.2.2.2.2.2.2.2.2.2.2.1 e9) ydX3_wears hs rfl rfl q697 q698 q699 q123 q700 rfl (Nat.le_of_ble_eq_true rfl) (Nat.le_of_ble_eq_true rfl) hl.1 rfl (Nat.le_of_ble_eq_true rfl) dX1_fright_34) (fun r8 h H locs cells slots hf hI => ?_)
    refine lv_goto (tgt := 51) hx hb dX1_fright_37 (by decide) ?_
    exact b_X1_fright_51 X _ _ _ _ _ _ _ hf hI (lv_sub hl [] rfl)
end
