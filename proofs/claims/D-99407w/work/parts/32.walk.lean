noncomputable section
/-! X0_fright -/
def f_X0_fright (a0 : Nat) (x1 : Int32) (x2 : Int32) (x3 : Int32) (x4 : Int32) (a5 : Nat) : gM Int32 :=
    gB (gCk a0 0) fun _ =>
    gB (f_X1_fright a0 x1 x2 x3 x4) fun r9 => match r9 with
    | .inl r1 => (gB (gSI a5 2 (0 : Int32) (r1)) fun _ =>
    (gRet (0 : Int32)))
    | .inr x9 => (gIf (x9.1 = 19)
    ((gRet (1 : Int32)))
    (gIf (x9.1 = 17)
    ((gRet (2 : Int32)))
    (gFail)))
set_option maxHeartbeats 4000000 in
set_option maxRecDepth 100000 in
theorem m_X0_fright {G : gG} {l : Launch} (hfl : l.stackTraces = false) {a0 : Nat} {x1 : Int32} {x2 : Int32} {x3 : Int32} {x4 : Int32} {a5 : Nat} {h h' : g_H} {r : Int32} (hf : (f_X0_fright a0 x1 x2 x3 x4 a5).1 h = some (r, h')) : gMet G l yX0_fright (Cond.codeWith yX0_fright cX0_fright 7 (some .int) [(0, 14, 17, 24), (0, 14, 21, 13)]) 101 1867 [.ref a0, .int x1, .int x2, .int x3, .int x4, .ref a5] h (.inl (g_wI r)) h' := by
  refine g_headW hfl ((f_X0_fright a0 x1 x2 x3 x4 a5).2 h r h' hf) (plainFor_of_name (by decide)) (Nat.le_of_ble_eq_true rfl) (fun p e s m below meth c H locs cells slots ls X hI hl9 => ?_)
  have hl : lv_has ls 7 [(0, .ref a0), (1, .int x1), (2, .int x2), (3, .int x3), (4, .int x4), (5, .ref a5)] := hl9
  have hx := X.1
  have hb := X.2.1
  have hown := X.2.2.2.1
  have hts := X.2.2.2.2.1
  unfold f_X0_fright at hf
  refine lv_aload hx hb dX0_fright_0 (lv_at hl 5 rfl) ?_
  refine lv_iconst (v := (0 : Int32)) hx hb dX0_fright_2 (by decide) ?_
  refine lv_aload_n hx hb dX0_fright_3 rfl (lv_at hl 0 rfl) ?_
  refine lv_iload_n hx hb dX0_fright_4 rfl (lv_at hl 1 rfl) ?_
  refine lv_iload_n hx hb dX0_fright_5 rfl (lv_at hl 2 rfl) ?_
  refine lv_iload_n hx hb dX0_fright_6 rfl (lv_at hl 3 rfl) ?_
  refine lv_iload hx hb dX0_fright_7 (lv_at hl 4 rfl) ?_
  obtain ⟨hs, hf⟩ := gCk_b hf
  refine g_cHI hI hf (fun v9 h9 e9 l9 l9' => g_rV X hI l9 l9' ⟨Nat.le_refl _, Nat.le_refl _⟩ (As := [.int x1, .int x2, .int x3, .int x4]) (m_X1_fright X.2.2.2.2.2.2.2.2.2.2.1 e9) ydX1_fright hs rfl rfl q1196 q1197 q1198 q121 q1199 rfl (Nat.le_of_ble_eq_true rfl) (Nat.le_of_ble_eq_true rfl) hl.1 rfl (Nat.le_of_ble_eq_true rfl) dX0_fright_9) (fun r1 h H locs cells slots hf hI => ?_) ?_
  · refine lv_i2l hx hb dX0_fright_12 rfl ?_
    refine g_si2 X hI hf dX0_fright_13 (fun h H locs hf hI => ?_)
    refine lv_goto (tgt := 25) hx hb dX0_fright_14 (by decide) ?_
    refine lv_iconst (v := (0 : Int32)) hx hb dX0_fright_25 (by decide) ?_
    cases gRet_e hf
    exact g_retI X hI rfl dX0_fright_26
  · intro ci9 x9 h H locs cells slots r9 ce9 hf hr9 hI hce hcv hcl
    by_cases k0 : ci9 = 19
    · subst k0
      cases hr9
      have hf := g_t rfl hf
      refine g_catch0 X hI (name := "java/lang/IndexOutOfBoundsException") rfl (by rfl) (by decide) (by decide) q1098 q1144 hce hcv hcl ?_
      refine lv_astore (lv' := [(6, .ref x9), (0, .ref a0), (1, .int x1), (2, .int x2), (3, .int x3), (4, .int x4), (5, .ref a5)]) hx hb dX0_fright_17 hl (by decide) rfl (fun ls hl => ?_)
      refine lv_iconst (v := (1 : Int32)) hx hb dX0_fright_19 (by decide) ?_
      cases gRet_e hf
      exact g_retI X hI rfl dX0_fright_20
    have hf := g_f k0 hf
    by_cases k1 : ci9 = 17
    · subst k1
      cases hr9
      have hf := g_t rfl hf
      refine g_catch1 X hI (name := "java/lang/IllegalArgumentException") rfl (by rfl) (by decide) (by decide) q785 q922 q1098 (List.mem_of_getElem? (i := 2) rfl) hce hcv hcl ?_
      refine lv_astore (lv' := [(6, .ref x9), (0, .ref a0), (1, .int x1), (2, .int x2), (3, .int x3), (4, .int x4), (5, .ref a5)]) hx hb dX0_fright_21 hl (by decide) rfl (fun ls hl => ?_)
      refine lv_iconst (v := (2 : Int32)) hx hb dX0_fright_23 (by decide) ?_
      cases gRet_e hf
      exact g_retI X hI rfl dX0_fright_24
    have hf := g_f k1 hf
    exact (gFail_f hf).elim
/-! X8_fright -/
abbrev w_X8_fright_56 (G : gG) (l : Launch) (p : Program) (e : Env) (s : State) (m : MethodId) (args : Array Value) (below : List Frame) (meth : Method) (c : Code) (h0 : g_H) (r : Int32) (h' : g_H) (k : gM Int32) : Prop := ∀ (h : g_H) (H : Heap) (locs : List Loc) (cells slots : Nat) (ls : Array Slot), (k).1 h = some (r, h') → gI G h0 h H locs cells slots → lv_has ls 6 [] → W p l e (g_rm 7 158 h0 h') s m args below meth c H locs cells slots (gQ G below args s h0 h' (.inl (g_wI r))) (F0 m 56 ls [])
abbrev w_X8_fright_100 (G : gG) (l : Launch) (p : Program) (e : Env) (s : State) (m : MethodId) (args : Array Value) (below : List Frame) (meth : Method) (c : Code) (h0 : g_H) (r : Int32) (h' : g_H) (k : Int32 → gM Int32) : Prop := ∀ (u0 : Int32) (h : g_H) (H : Heap) (locs : List Loc) (cells slots : Nat) (ls : Array Slot), (k u0).1 h = some (r, h') → gI G h0 h H locs cells slots → lv_has ls 6 [] → W p l e (g_rm 7 158 h0 h') s m args below meth c H locs cells slots (gQ G below args s h0 h' (.inl (g_wI r))) (F0 m 100 ls [.int u0])
abbrev w_X8_fright_49 (G : gG) (l : Launch) (p : Program) (e : Env) (s : State) (m : MethodId) (args : Array Value) (below : List Frame) (meth : Method) (c : Code) (h0 : g_H) (r : Int32) (h' : g_H) (k : Nat → Int32 → Int32 → Int32 → Int32 → Nat → Int32 → gM Int32) : Prop := ∀ (a0 : Nat) (x1 : Int32) (x2 : Int32) (x3 : Int32) (x4 : Int32) (b0 : Nat) (u1 : Int32) (h : g_H) (H : Heap) (locs : List Loc) (cells slots : Nat) (ls : Array Slot), (k a0 x1 x2 x3 x4 b0 u1).1 h = some (r, h') → gI G h0 h H locs cells slots → lv_has ls 6 [(0, .ref a0), (1, .int x1), (2, .int x2), (3, .int x3), (4, .int x4)] → W p l e (g_rm 7 158 h0 h') s m args below meth c H locs cells slots (gQ G below args s h0 h' (.inl (g_wI r))) (F0 m 49 ls [.int u1, .ref b0])
abbrev w_X8_fright_26 (G : gG) (l : Launch) (p : Program) (e : Env) (s : State) (m : MethodId) (args : Array Value) (below : List Frame) (meth : Method) (c : Code) (h0 : g_H) (r : Int32) (h' : g_H) (k : Nat → Int32 → Int32 → Int32 → Int32 → Nat → Int32 → gM Int32) : Prop := ∀ (a0 : Nat) (x1 : Int32) (x2 : Int32) (x3 : Int32) (x4 : Int32) (b0 : Nat) (u1 : Int32) (h : g_H) (H : Heap) (locs : List Loc) (cells slots : Nat) (ls : Array Slot), (k a0 x1 x2 x3 x4 b0 u1).1 h = some (r, h') → gI G h0 h H locs cells slots → lv_has ls 6 [(0, .ref a0), (1, .int x1), (2, .int x2), (3, .int x3), (4, .int x4)] → W p l e (g_rm 7 158 h0 h') s m args below meth c H locs cells slots (gQ G below args s h0 h' (.inl (g_wI r))) (F0 m 26 ls [.int u1, .ref b0])
abbrev w_X8_fright_21 (G : gG) (l : Launch) (p : Program) (e : Env) (s : State) (m : MethodId) (args : Array Value) (below : List Frame) (meth : Method) (c : Code) (h0 : g_H) (r : Int32) (h' : g_H) (k : Nat → Int32 → Int32 → Int32 → Int32 → Nat → gM Int32) : Prop := ∀ (a0 : Nat) (x1 : Int32) (x2 : Int32) (x3 : Int32) (x4 : Int32) (b0 : Nat) (h : g_H) (H : Heap) (locs : List Loc) (cells slots : Nat) (ls : Array Slot), (k a0 x1 x2 x3 x4 b0).1 h = some (r, h') → gI G h0 h H locs cells slots → lv_has ls 6 [(0, .ref a0), (1, .int x1), (2, .int x2), (3, .int x3), (4, .int x4)] → W p l e (g_rm 7 158 h0 h') s m args below meth c H locs cells slots (gQ G below args s h0 h' (.inl (g_wI r))) (F0 m 21 ls [.ref b0])
def f_X8_fright_56 : gM Int32 :=
    (gRet (0 : Int32))
set_option maxHeartbeats 4000000 in
set_option maxRecDepth 100000 in
theorem b_X8_fright_56 {G : gG} {l : Launch} {p : Program} {e : Env} {s : State} {m : MethodId} {args : Array Value} {below : List Frame} {meth : Method} {c : Code} {h0 : g_H} {r : Int32} {h' : g_H} (X : gX G l yX8_fright.cls cX8_fright 6 (some .int) [] yX8_fright.name p s m args meth c) : w_X8_fright_56 G l p e s m args below meth c h0 r h' (f_X8_fright_56) := by
  have hx := X.1
  have hb := X.2.1
  have hown := X.2.2.2.1
  have hts := X.2.2.2.2.1
  intro h H locs cells slots ls hf hI hl
  unfold f_X8_fright_56 at hf
  refine lv_iconst (v := (0 : Int32)) hx hb dX8_fright_56 (by decide) ?_
  cases gRet_e hf
  exact g_retI X hI rfl dX8_fright_57
def f_X8_fright_100 (u0 : Int32) : gM Int32 :=
    (gRet u0)
set_option maxHeartbeats 4000000 in
set_option maxRecDepth 100000 in
theorem b_X8_fright_100 {G : gG} {l : Launch} {p : Program} {e : Env} {s : State} {m : MethodId} {args : Array Value} {below : List Frame} {meth : Method} {c : Code} {h0 : g_H} {r : Int32} {h' : g_H} (X : gX G l yX8_fright.cls cX8_fright 6 (some .int) [] yX8_fright.name p s m args meth c) : w_X8_fright_100 G l p e s m args below meth c h0 r h' (f_X8_fright_100) := by
  have hx := X.1
  have hb := X.2.1
  have hown := X.2.2.2.1
  have hts := X.2.2.2.2.1
  intro u0 h H locs cells slots ls hf hI hl
  unfold f_X8_fright_100 at hf
  cases gRet_e hf
  exact g_retI X hI rfl dX8_fright_100
def f_X8_fright_49 (a0 : Nat) (x1 : Int32) (x2 : Int32) (x3 : Int32) (x4 : Int32) (b0 : Nat) (u1 : Int32) : gM Int32 :=
    gB (gCk b0 7) fun _ =>
    gB (f_X8_throwsIf b0 u1 (2 : Int32)) fun r101 =>
    gIf (r101 = 0)
    (gB (gCk a0 7) fun _ =>
    gB (f_X8_propIn a0 x2) fun r102 =>
    gIf (r102 = (-1 : Int32))
    ((gRet (0 : Int32)))
    (gB (gCk a0 7) fun _ =>
    gB (f_X8_looksAt a0 x1) fun _ =>
    gIf (x4 = 0)
    (gB (gCk a0 7) fun _ =>
    gB (f_X8_frightsBy a0 r102 x3) fun r104 =>
    f_X8_fright_100 r104)
    (gB (gCk a0 7) fun _ =>
    gB (f_X8_wearsBy a0 r102 x3) fun r105 =>
    f_X8_fright_100 r105)))
    (f_X8_fright_56)
set_option maxHeartbeats 4000000 in
set_option maxRecDepth 100000 in
theorem b_X8_fright_49 {G : gG} {l : Launch} {p : Program} {e : Env} {s : State} {m : MethodId} {args : Array Value} {below : List Frame} {meth : Method} {c : Code} {h0 : g_H} {r : Int32} {h' : g_H} (X : gX G l yX8_fright.cls cX8_fright 6 (some .int) [] yX8_fright.name p s m args meth c) : w_X8_fright_49 G l p e s m args below meth c h0 r h' (f_X8_fright_49) := by
  have hx := X.1
  have hb := X.2.1
  have hown := X.2.2.2.1
  have hts := X.2.2.2.2.1
  intro a0 x1 x2 x3 x4 b0 u1 h H locs cells slots ls hf hI hl
  unfold f_X8_fright_49 at hf
  refine lv_iconst (v := (2 : Int32)) hx hb dX8_fright_49 (by decide) ?_
  obtain ⟨hs, hf⟩ := gCk_b hf
  refine g_cBI hI hf (fun v9 h9 e9 l9 l9' => g_rV X hI l9 l9' ⟨Nat.le_refl _, Nat.le_refl _⟩ (As := [.int u1, .int (2 : Int32)]) (m_X8_throwsIf X.2.2.2.2.2.2.2.2.2.2.1 e9) ydX8_throwsIf hs rfl rfl q1736 q1738 qs72 q131 q1739 rfl (Nat.le_of_ble_eq_true rfl) (Nat.le_of_ble_eq_true rfl) hl.1 rfl (Nat.le_of_ble_eq_true rfl) dX8_fright_50) (fun r101 h H locs cells slots hf hI => ?_)
  refine lv_if_eq (tgt := 58) hx hb dX8_fright_53 (by decide) (fun c53 => ?_) (fun c53 => ?_)
  · have hf := g_t c53 hf
    refine lv_aload_n hx hb dX8_fright_58 rfl (lv_at hl 0 rfl) ?_
    refine lv_iload_n hx hb dX8_fright_59 rfl (lv_at hl 2 rfl) ?_
    obtain ⟨hs, hf⟩ := gCk_b hf
    refine g_cBI hI hf (fun v9 h9 e9 l9 l9' => g_rV X hI l9 l9' ⟨Nat.le_refl _, Nat.le_refl _⟩ (As := [.int x2]) (m_X8_propIn X.2.2.2.2.2.2.2.2.2.2.1 e9) ydX8_propIn hs rfl rfl q1655 q1657 qs58 q131 q1658 rfl (Nat.le_of_ble_eq_true rfl) (Nat.le_of_ble_eq_true rfl) hl.1 rfl (Nat.le_of_ble_eq_true rfl) dX8_fright_60) (fun r102 h H locs cells slots hf hI => ?_)
    refine lv_istore (lv' := [(5, .int r102), (0, .ref a0), (1, .int x1), (2, .int x2), (3, .int x3), (4, .int x4)]) hx hb dX8_fright_63 hl (by decide) rfl (fun ls hl => ?_)
    refine lv_iload hx hb dX8_fright_65 (lv_at hl 0 rfl) ?_
    refine lv_iconst (v := (-1 : Int32)) hx hb dX8_fright_67 (by decide) ?_
    refine lv_icmp_ne (tgt := 73) hx hb dX8_fright_68 (by decide) (fun c68 => ?_) (fun c68 => ?_)
    · have hf := g_f c68 hf
      refine lv_aload_n hx hb dX8_fright_73 rfl (lv_at hl 1 rfl) ?_
      refine lv_iload_n hx hb dX8_fright_74 rfl (lv_at hl 2 rfl) ?_
      obtain ⟨hs, hf⟩ := gCk_b hf
      refine g_cBU hI hf (fun v9 h9 e9 l9 l9' => g_rV X hI l9 l9' ⟨Nat.le_refl _, Nat.le_refl _⟩ (As := [.int x1]) (m_X8_looksAt X.2.2.2.2.2.2.2.2.2.2.1 e9) ydX8_looksAt hs rfl rfl q1775 q1777 qs76 q131 q1778 rfl (Nat.le_of_ble_eq_true rfl) (Nat.le_of_ble_eq_true rfl) hl.1 rfl (Nat.le_of_ble_eq_true rfl) dX8_fright_75) (fun r103 h H locs cells slots hf hI => ?_)
      refine lv_iload hx hb dX8_fright_78 (lv_at hl 5 rfl) ?_
      refine lv_if_eq (tgt := 93) hx hb dX8_fright_80 (by decide) (fun c80 => ?_) (fun c80 => ?_)
      · have hf := g_t c80 hf
        refine lv_aload_n hx hb dX8_fright_93 rfl (lv_at hl 1 rfl) ?_
        refine lv_iload hx hb dX8_fright_94 (lv_at hl 0 rfl) ?_
        refine lv_iload_n hx hb dX8_fright_96 rfl (lv_at hl 4 rfl) ?_
        obtain ⟨hs, hf⟩ := gCk_b hf
        refine g_cBI hI hf (fun v9 h9 e9 l9 l9' => g_rV X hI l9 l9' ⟨Nat.le_refl _, Nat.le_refl _⟩ (As := [.int r102, .int x3]) (m_X8_frightsBy X.2.2.2.2.2.2.2.2.2.2.1 e9) ydX8_frightsBy hs rfl rfl q1795 q1797 qs81 q131 q1798 rfl (Nat.le_of_ble_eq_true rfl) (Nat.le_of_ble_eq_true rfl) hl.1 rfl (Nat.le_of_ble_eq_true rfl) dX8_fright_97) (fun r104 h H locs cells slots hf hI => ?_)
        exact b_X8_fright_100 X _ _ _ _ _ _ _ hf hI (lv_sub hl [] rfl)
      · have hf := g_f c80 hf
        refine lv_aload_n hx hb dX8_fright_83 rfl (lv_at hl 1 rfl) ?_
        refine lv_iload hx hb dX8_fright_84 (lv_at hl 0 rfl) ?_
        refine lv_iload_n hx hb dX8_fright_86 rfl (lv_at hl 4 rfl) ?_
        obtain ⟨hs, hf⟩ := gCk_b hf
        refine g_cBI hI hf (fun v9 h9 e9 l9 l9' => g_rV X hI l9 l9' ⟨Nat.le_refl _, Nat.le_refl _⟩ (As := [.int r102, .int x3]) (m_X8_wearsBy X.2.2.2.2.2.2.2.2.2.2.1 e9) ydX8_wearsBy hs rfl rfl q1779 q1781 qs77 q131 q1782 rfl (Nat.le_of_ble_eq_true rfl) (Nat.le_of_ble_eq_true rfl) hl.1 rfl (Nat.le_of_ble_eq_true rfl) dX8_fright_87) (fun r105 h H locs cells slots hf hI => ?_)
        refine lv_goto (tgt := 100) hx hb dX8_fright_90 (by decide) ?_
        exact b_X8_fright_100 X _ _ _ _ _ _ _ hf hI (lv_sub hl [] rfl)
    · have hf := g_t c68 hf
      refine lv_iconst (v := (0 : Int32)) hx hb dX8_fright_71 (by decide) ?_
      cases gRet_e hf
      exact g_retI X hI rfl dX8_fright_72
  · have hf := g_f c53 hf
    exact b_X8_fright_56 X _ _ _ _ _ _ hf hI (lv_sub hl [] rfl)
def f_X8_fright_26 (a0 : Nat) (x1 : Int32) (x2 : Int32) (x3 : Int32) (x4 : Int32) (b0 : Nat) (u1 : Int32) : gM Int32 :=
    gB (gCk b0 7) fun _ =>
    gB (f_X8_throwsIf b0 u1 (1 : Int32)) fun r101 =>
    gIf (r101 = 0)
    (gB (f_X8_in x3 (0 : Int32) (99 : Int32)) fun r102 =>
    gIf (r102 = 0)
    (f_X8_fright_49 a0 x1 x2 x3 x4 a0 (1 : Int32))
    (f_X8_fright_49 a0 x1 x2 x3 x4 a0 (0 : Int32)))
    (f_X8_fright_56)
set_option maxHeartbeats 4000000 in
set_option maxRecDepth 100000 in
theorem b_X8_fright_26 {G : gG} {l : Launch} {p : Program} {e : Env} {s : State} {m : MethodId} {args : Array Value} {below : List Frame} {meth : Method} {c : Code} {h0 : g_H} {r : Int32} {h' : g_H} (X : gX G l yX8_fright.cls cX8_fright 6 (some .int) [] yX8_fright.name p s m args meth c) : w_X8_fright_26 G l p e s m args below meth c h0 r h' (f_X8_fright_26) := by
  have hx := X.1
  have hb := X.2.1
  have hown := X.2.2.2.1
  have hts := X.2.2.2.2.1
  intro a0 x1 x2 x3 x4 b0 u1 h H locs cells slots ls hf hI hl
  unfold f_X8_fright_26 at hf
  refine lv_iconst (v := (1 : Int32)) hx hb dX8_fright_26 (by decide) ?_
  obtain ⟨hs, hf⟩ := gCk_b hf
  refine g_cBI hI hf (fun v9 h9 e9 l9 l9' => g_rV X hI l9 l9' ⟨Nat.le_refl _, Nat.le_refl _⟩ (As := [.int u1, .int (1 : Int32)]) (m_X8_throwsIf X.2.2.2.2.2.2.2.2.2.2.1 e9) ydX8_throwsIf hs rfl rfl q1736 q1738 qs72 q131 q1739 rfl (Nat.le_of_ble_eq_true rfl) (Nat.le_of_ble_eq_true rfl) hl.1 rfl (Nat.le_of_ble_eq_true rfl) dX8_fright_27) (fun r101 h H locs cells slots hf hI => ?_)
  refine lv_if_ne (tgt := 56) hx hb dX8_fright_30 (by decide) (fun c30 => ?_) (fun c30 => ?_)
  · have hf := g_f c30 hf
    exact b_X8_fright_56 X _ _ _ _ _ _ hf hI (lv_sub hl [] rfl)
  · have hf := g_t c30 hf
    refine lv_aload_n hx hb dX8_fright_33 rfl (lv_at hl 0 rfl) ?_
    refine lv_iload_n hx hb dX8_fright_34 rfl (lv_at hl 3 rfl) ?_
    refine lv_iconst (v := (0 : Int32)) hx hb dX8_fright_35 (by decide) ?_
    refine lv_bipush (v := (99 : Int32)) hx hb dX8_fright_36 (by decide) ?_
    refine g_cBI hI hf (fun v9 h9 e9 l9 l9' => g_rS (b := 0) X hI l9 l9' ⟨Nat.le_refl _, Nat.le_refl _⟩ (As := [.int x3, .int (0 : Int32), .int (99 : Int32)]) (m_X8_in X.2.2.2.2.2.2.2.2.2.2.1 e9) ydX8_in q1634 q1635 q131 q1636 rfl (Nat.le_of_ble_eq_true rfl) (Nat.le_of_ble_eq_true rfl) hl.1 rfl (Nat.le_of_ble_eq_true rfl) dX8_fright_38) (fun r102 h H locs cells slots hf hI => ?_)
    refine lv_if_ne (tgt := 48) hx hb dX8_fright_41 (by decide) (fun c41 => ?_) (fun c41 => ?_)
    · have hf := g_f c41 hf
      refine lv_iconst (v := (0 : Int32)) hx hb dX8_fright_48 (by decide) ?_
      exact b_X8_fright_49 X _ _ _ _ _ _ _ _ _ _ _ _ _ hf hI (lv_sub hl [0, 1, 2, 3, 4] rfl)
    · have hf := g_t c41 hf
      refine lv_iconst (v := (1 : Int32)) hx hb dX8_fright_44 (by decide) ?_
      refine lv_goto (tgt := 49) hx hb dX8_fright_45 (by decide) ?_
      exact b_X8_fright_49 X _ _ _ _ _ _ _ _ _ _ _ _ _ hf hI (lv_sub hl [0, 1, 2, 3, 4] rfl)
def f_X8_fright_21 (a0 : Nat) (x1 : Int32) (x2 : Int32) (x3 : Int32) (x4 : Int32) (b0 : Nat) : gM Int32 :=
    f_X8_fright_26 a0 x1 x2 x3 x4 b0 (1 : Int32)
set_option maxHeartbeats 4000000 in
set_option maxRecDepth 100000 in
theorem b_X8_fright_21 {G : gG} {l : Launch} {p : Program} {e : Env} {s : State} {m : MethodId} {args : Array Value} {below : List Frame} {meth : Method} {c : Code} {h0 : g_H} {r : Int32} {h' : g_H} (X : gX G l yX8_fright.cls cX8_fright 6 (some .int) [] yX8_fright.name p s m args meth c) : w_X8_fright_21 G l p e s m args below meth c h0 r h' (f_X8_fright_21) := by
  have hx := X.1
  have hb := X.2.1
  have hown := X.2.2.2.1
  have hts := X.2.2.2.2.1
  intro a0 x1 x2 x3 x4 b0 h H locs cells slots ls hf hI hl
  unfold f_X8_fright_21 at hf
  refine lv_iconst (v := (1 : Int32)) hx hb dX8_fright_21 (by decide) ?_
  refine lv_goto (tgt := 26) hx hb dX8_fright_22 (by decide) ?_
  exact b_X8_fright_26 X _ _ _ _ _ _ _ _ _ _ _ _ _ hf hI (lv_sub hl [0, 1, 2, 3, 4] rfl)
def f_X8_fright (a0 : Nat) (x1 : Int32) (x2 : Int32) (x3 : Int32) (x4 : Int32) : gM Int32 :=
    gB (gPI a0 7 0 (0 : Int32)) fun _ =>
    gB (gCk a0 7) fun _ =>
    gB (f_X8_noOne a0 x1) fun r1 =>
    gIf (r1 = 0)
    (gB (f_X8_noSlot x2) fun r2 =>
    gIf (r2 = 0)
    (f_X8_fright_26 a0 x1 x2 x3 x4 a0 (0 : Int32))
    (f_X8_fright_21 a0 x1 x2 x3 x4 a0))
    (f_X8_fright_21 a0 x1 x2 x3 x4 a0)
set_option maxHeartbeats 4000000 in
set_option maxRecDepth 100000 in
theorem m_X8_fright {G : gG} {l : Launch} (hfl : l.stackTraces = false) {a0 : Nat} {x1 : Int32} {x2 : Int32} {x3 : Int32} {x4 : Int32} {h h' : g_H} {r : Int32} (hf : (f_X8_fright a0 x1 x2 x3 x4).1 h = some (r, h')) : gMet G l yX8_fright (Cond.code yX8_fright cX8_fright 6 (some .int)) 7 158 [.ref a0, .int x1, .int x2, .int x3, .int x4] h (.inl (g_wI r)) h' := by
  refine g_head hfl ((f_X8_fright a0 x1 x2 x3 x4).2 h r h' hf) (plainFor_of_name (by decide)) (Nat.le_of_ble_eq_true rfl) (fun p e s m below meth c H locs cells slots ls X hI hl9 => ?_)
  have hl : lv_has ls 6 [(0, .ref a0), (1, .int x1), (2, .int x2), (3, .int x3), (4, .int x4)] := hl9
  have hx := X.1
  have hb := X.2.1
  have hown := X.2.2.2.1
  have hts := X.2.2.2.2.1
  unfold f_X8_fright at hf
  refine lv_aload_n hx hb dX8_fright_0 rfl (lv_at hl 0 rfl) ?_
  refine lv_iconst (v := (0 : Int32)) hx hb dX8_fright_1 (by decide) ?_
  refine g_pi X hI hf fX8_0 q1444 rfl dX8_fright_2 (fun h H locs hf hI => ?_)
  refine lv_aload_n hx hb dX8_fright_5 rfl (lv_at hl 0 rfl) ?_
  refine lv_aload_n hx hb dX8_fright_6 rfl (lv_at hl 0 rfl) ?_
  refine lv_iload_n hx hb dX8_fright_7 rfl (lv_at hl 1 rfl) ?_
  obtain ⟨hs, hf⟩ := gCk_b hf
  refine g_cBI hI hf (fun v9 h9 e9 l9 l9' => g_rV X hI l9 l9' ⟨Nat.le_refl _, Nat.le_refl _⟩ (As := [.int x1]) (m_X8_noOne X.2.2.2.2.2.2.2.2.2.2.1 e9) ydX8_noOne hs rfl rfl q1763 q1765 qs74 q131 q1766 rfl (Nat.le_of_ble_eq_true rfl) (Nat.le_of_ble_eq_true rfl) hl.1 rfl (Nat.le_of_ble_eq_true rfl) dX8_fright_8) (fun r1 h H locs cells slots hf hI => ?_)
  refine lv_if_ne (tgt := 21) hx hb dX8_fright_11 (by decide) (fun c11 => ?_) (fun c11 => ?_)
  · have hf := g_f c11 hf
    exact b_X8_fright_21 X _ _ _ _ _ _ _ _ _ _ _ _ hf hI (lv_sub hl [0, 1, 2, 3, 4] rfl)
  · have hf := g_t c11 hf
    refine lv_iload_n hx hb dX8_fright_14 rfl (lv_at hl 2 rfl) ?_
    refine g_cBI hI hf (fun v9 h9 e9 l9 l9' => g_rS (b := 0) X hI l9 l9' ⟨Nat.le_refl _, Nat.le_refl _⟩ (As := [.int x2]) (m_X8_noSlot X.2.2.2.2.2.2.2.2.2.2.1 e9) ydX8_noSlot q1756 q1757 q131 q1758 rfl (Nat.le_of_ble_eq_true rfl) (Nat.le_of_ble_eq_true rfl) hl.1 rfl (Nat.le_of_ble_eq_true rfl) dX8_fright_15) (fun r2 h H locs cells slots hf hI => ?_)
    refine lv_if_eq (tgt := 25) hx hb dX8_fright_18 (by decide) (fun c18 => ?_) (fun c18 => ?_)
    · have hf := g_t c18 hf
      refine lv_iconst (v := (0 : Int32)) hx hb dX8_fright_25 (by decide) ?_
      exact b_X8_fright_26 X _ _ _ _ _ _ _ _ _ _ _ _ _ hf hI (lv_sub hl [0, 1, 2, 3, 4] rfl)
    · have hf := g_f c18 hf
      exact b_X8_fright_21 X _ _ _ _ _ _ _ _ _ _ _ _ hf hI (lv_sub hl [0, 1, 2, 3, 4] rfl)
/-! X1_accused -/
def f_X1_accused (a0 : Nat) (x1 : Int32) (x2 : Int32) : gM (Int32 ⊕ gE) :=
    gB (gCk a0 0) fun _ =>
    gT (f_X1_oneAt a0 x1) fun r1 =>
    gIf (x2 = (0 : Int32))
    (gB (gFI r1 4 0) fun v2 =>
    (gRet (.inl v2)))
    (gIf (x2 = (1 : Int32))
    (gB (gFI r1 4 1) fun v3 =>
    (gRet (.inl v3)))
    (gIf (x2 = (2 : Int32))
    (gB (gFI r1 4 2) fun v4 =>
    (gRet (.inl v4)))
    (gIf (x2 = (3 : Int32))
    (gB (gFI r1 4 3) fun v5 =>
    (gRet (.inl v5)))
    (gB (gNew 20 6) fun a6 =>
    gB (gCk a6 20) fun _ =>
    gRet (.inr (20, a6))))))
set_option maxHeartbeats 4000000 in
set_option maxRecDepth 100000 in
theorem m_X1_accused {G : gG} {l : Launch} (hfl : l.stackTraces = false) {a0 : Nat} {x1 : Int32} {x2 : Int32} {h h' : g_H} {r : (Int32 ⊕ gE)} (hf : (f_X1_accused a0 x1 x2).1 h = some (r, h')) : gMet G l yX1_accused (Cond.code yX1_accused cX1_accused 4 (some .int)) 8 130 [.ref a0, .int x1, .int x2] h (g_w g_wI r) h' := by
  refine g_head hfl ((f_X1_accused a0 x1 x2).2 h r h' hf) (plainFor_of_name (by decide)) (Nat.le_of_ble_eq_true rfl) (fun p e s m below meth c H locs cells slots ls X hI hl9 => ?_)
  have hl : lv_has ls 4 [(0, .ref a0), (1, .int x1), (2, .int x2)] := hl9
  have hx := X.1
  have hb := X.2.1
  have hown := X.2.2.2.1
  have hts := X.2.2.2.2.1
  unfold f_X1_accused at hf
  refine lv_aload_n hx hb dX1_accused_0 rfl (lv_at hl 0 rfl) ?_
  refine lv_iload_n hx hb dX1_accused_1 rfl (lv_at hl 1 rfl) ?_
  obtain ⟨hs, hf⟩ := gCk_b hf
  refine g_cTR X hI (by decide) hf (fun v9 h9 e9 l9 l9' => g_rV X hI l9 l9' ⟨Nat.le_refl _, Nat.le_refl _⟩ (As := [.int x1]) (m_X1_oneAt X.2.2.2.2.2.2.2.2.2.2.1 e9) ydX1_oneAt hs rfl rfl q1189 q1191 qs37 q121 q1192 rfl (Nat.le_of_ble_eq_true rfl) (Nat.le_of_ble_eq_true rfl) hl.1 rfl (Nat.le_of_ble_eq_true rfl) dX1_accused_2) (fun r1 h H locs cells slots hf hI => ?_)
  refine lv_astore_n (lv' := [(3, .ref r1), (0, .ref a0), (1, .int x1), (2, .int x2)]) hx hb dX1_accused_5 rfl hl (by decide) rfl (fun ls hl => ?_)
  refine lv_iload_n hx hb dX1_accused_6 rfl (lv_at hl 3 rfl) ?_
  by_cases c7_0 : x2 = (0 : Int32)
  · have hf := g_t c7_0 hf
    refine g_tsIn (k := (0 : Int32)) (off := 29) (tgt := 36) hx hb c7_0 dX1_accused_7 (by decide) (by decide) rfl (by decide) ?_
    refine lv_aload_n hx hb dX1_accused_36 rfl (lv_at hl 0 rfl) ?_
    refine g_fiN X hI hf fX5_0 q230 rfl rfl dX1_accused_37 (fun v2 hf => ?_)
    cases gRet_e hf
    exact g_retI X hI rfl dX1_accused_40
  have hf := g_f c7_0 hf
  by_cases c7_1 : x2 = (1 : Int32)
  · have hf := g_t c7_1 hf
    refine g_tsIn (k := (1 : Int32)) (off := 34) (tgt := 41) hx hb c7_1 dX1_accused_7 (by decide) (by decide) rfl (by decide) ?_
    refine lv_aload_n hx hb dX1_accused_41 rfl (lv_at hl 0 rfl) ?_
    refine g_fiN X hI hf fX5_1 q235 rfl rfl dX1_accused_42 (fun v3 hf => ?_)
    cases gRet_e hf
    exact g_retI X hI rfl dX1_accused_45
  have hf := g_f c7_1 hf
  by_cases c7_2 : x2 = (2 : Int32)
  · have hf := g_t c7_2 hf
    refine g_tsIn (k := (2 : Int32)) (off := 39) (tgt := 46) hx hb c7_2 dX1_accused_7 (by decide) (by decide) rfl (by decide) ?_
    refine lv_aload_n hx hb dX1_accused_46 rfl (lv_at hl 0 rfl) ?_
    refine g_fiN X hI hf fX5_2 q239 rfl rfl dX1_accused_47 (fun v4 hf => ?_)
    cases gRet_e hf
    exact g_retI X hI rfl dX1_accused_50
  have hf := g_f c7_2 hf
  by_cases c7_3 : x2 = (3 : Int32)
  · have hf := g_t c7_3 hf
    refine g_tsIn (k := (3 : Int32)) (off := 44) (tgt := 51) hx hb c7_3 dX1_accused_7 (by decide) (by decide) rfl (by decide) ?_
    refine lv_aload_n hx hb dX1_accused_51 rfl (lv_at hl 0 rfl) ?_
    refine g_fiN X hI hf fX5_3 q243 rfl rfl dX1_accused_52 (fun v5 hf => ?_)
    cases gRet_e hf
    exact g_retI X hI rfl dX1_accused_55
  have hf := g_f c7_3 hf
  refine lv_tableOut (tgt := 56) hx hb dX1_accused_7 (by have := lv_neT c7_0 (a := 0) rfl; have := lv_neT c7_1 (a := 1) rfl; have := lv_neT c7_2 (a := 2) rfl; have := lv_neT c7_3 (a := 3) rfl; omega) (by decide) ?_
  refine g_make (names := ["java/lang/RuntimeException", "java/lang/Exception"]) (ik := 79) (ic := 81) (cls := "java/util/NoSuchElementException") X hI hf ⟨Nat.le_refl _, Nat.le_refl _⟩ rfl rfl rfl rfl (by decide) (by decide) q1157 q150 (g_hat X x20_1 x20_2) (List.all_eq_true.mp x20_3) hl.1 dX1_accused_56 dX1_accused_59 dX1_accused_60 (Nat.lt_of_lt_of_le (show 2 + 3 < 6 by decide) (Nat.le_of_ble_eq_true rfl)) (Nat.le_of_ble_eq_true rfl) (Nat.le_of_ble_eq_true rfl) (fun a6 h H cells slots hf hI => ?_)
  obtain ⟨hs, hf⟩ := gCk_b hf
  cases gRet_e hf
  exact g_athrow X hI (by decide) hs rfl rfl dX1_accused_63
/-! X0_accused -/
def f_X0_accused (a0 : Nat) (x1 : Int32) (x2 : Int32) (a3 : Nat) : gM Int32 :=
    gB (gCk a0 0) fun _ =>
    gB (f_X1_accused a0 x1 x2) fun r9 => match r9 with
    | .inl r1 => (gB (gSI a3 2 (0 : Int32) (r1)) fun _ =>
    (gRet (0 : Int32)))
    | .inr x9 => (gIf (x9.1 = 19)
    ((gRet (1 : Int32)))
    (gIf (x9.1 = 20)
    ((gRet (2 : Int32)))
    (gFail)))
set_option maxHeartbeats 4000000 in
set_option maxRecDepth 100000 in
theorem m_X0_accused {G : gG} {l : Launch} (hfl : l.stackTraces = false) {a0 : Nat} {x1 : Int32} {x2 : Int32} {a3 : Nat} {h h' : g_H} {r : Int32} (hf : (f_X0_accused a0 x1 x2 a3).1 h = some (r, h')) : gMet G l yX0_accused (Cond.codeWith yX0_accused cX0_accused 5 (some .int) [(0, 10, 13, 24), (0, 10, 17, 26)]) 9 153 [.ref a0, .int x1, .int x2, .ref a3] h (.inl (g_wI r)) h' := by
  refine g_headW hfl ((f_X0_accused a0 x1 x2 a3).2 h r h' hf) (plainFor_of_name (by decide)) (Nat.le_of_ble_eq_true rfl) (fun p e s m below meth c H locs cells slots ls X hI hl9 => ?_)
  have hl : lv_has ls 5 [(0, .ref a0), (1, .int x1), (2, .int x2), (3, .ref a3)] := hl9
  have hx := X.1
  have hb := X.2.1
  have hown := X.2.2.2.1
  have hts := X.2.2.2.2.1
  unfold f_X0_accused at hf
  refine lv_aload_n hx hb dX0_accused_0 rfl (lv_at hl 3 rfl) ?_
  refine lv_iconst (v := (0 : Int32)) hx hb dX0_accused_1 (by decide) ?_
  refine lv_aload_n hx hb dX0_accused_2 rfl (lv_at hl 0 rfl) ?_
  refine lv_iload_n hx hb dX0_accused_3 rfl (lv_at hl 1 rfl) ?_
  refine lv_iload_n hx hb dX0_accused_4 rfl (lv_at hl 2 rfl) ?_
  obtain ⟨hs, hf⟩ := gCk_b hf
  refine g_cHI hI hf (fun v9 h9 e9 l9 l9' => g_rV X hI l9 l9' ⟨Nat.le_refl _, Nat.le_refl _⟩ (As := [.int x1, .int x2]) (m_X1_accused X.2.2.2.2.2.2.2.2.2.2.1 e9) ydX1_accused hs rfl rfl q1185 q1186 q1187 q121 q1188 rfl (Nat.le_of_ble_eq_true rfl) (Nat.le_of_ble_eq_true rfl) hl.1 rfl (Nat.le_of_ble_eq_true rfl) dX0_accused_5) (fun r1 h H locs cells slots hf hI => ?_) ?_
  · refine lv_i2l hx hb dX0_accused_8 rfl ?_
    refine g_si2 X hI hf dX0_accused_9 (fun h H locs hf hI => ?_)
    refine lv_goto (tgt := 21) hx hb dX0_accused_10 (by decide) ?_
    refine lv_iconst (v := (0 : Int32)) hx hb dX0_accused_21 (by decide) ?_
    cases gRet_e hf
    exact g_retI X hI rfl dX0_accused_22
  · intro ci9 x9 h H locs cells slots r9 ce9 hf hr9 hI hce hcv hcl
    by_cases k0 : ci9 = 19
    · subst k0
      cases hr9
      have hf := g_t rfl hf
      refine g_catch0 X hI (name := "java/lang/IndexOutOfBoundsException") rfl (by rfl) (by decide) (by decide) q1098 q1144 hce hcv hcl ?_
      refine lv_astore (lv' := [(4, .ref x9), (0, .ref a0), (1, .int x1), (2, .int x2), (3, .ref a3)]) hx hb dX0_accused_13 hl (by decide) rfl (fun ls hl => ?_)
      refine lv_iconst (v := (1 : Int32)) hx hb dX0_accused_15 (by decide) ?_
      cases gRet_e hf
      exact g_retI X hI rfl dX0_accused_16
    have hf := g_f k0 hf
    by_cases k1 : ci9 = 20
    · subst k1
      cases hr9
      have hf := g_t rfl hf
      refine g_catch1 X hI (name := "java/util/NoSuchElementException") rfl (by rfl) (by decide) (by decide) q1130 q1159 q1098 (List.mem_of_getElem? (i := 1) rfl) hce hcv hcl ?_
      refine lv_astore (lv' := [(4, .ref x9), (0, .ref a0), (1, .int x1), (2, .int x2), (3, .ref a3)]) hx hb dX0_accused_17 hl (by decide) rfl (fun ls hl => ?_)
      refine lv_iconst (v := (2 : Int32)) hx hb dX0_accused_19 (by decide) ?_
      cases gRet_e hf
      exact g_retI X hI rfl dX0_accused_20
    have hf := g_f k1 hf
    exact (gFail_f hf).elim
/-! X8_accused -/
abbrev w_X8_accused_50 (G : gG) (l : Launch) (p : Program) (e : Env) (s : State) (m : MethodId) (args : Array Value) (below : List Frame) (meth : Method) (c : Code) (h0 : g_H) (r : Int32) (h' : g_H) (k : Int32 → gM Int32) : Prop := ∀ (u0 : Int32) (h : g_H) (H : Heap) (locs : List Loc) (cells slots : Nat) (ls : Array Slot), (k u0).1 h = some (r, h') → gI G h0 h H locs cells slots → lv_has ls 3 [] → W p l e (g_rm 3 63 h0 h') s m args below meth c H locs cells slots (gQ G below args s h0 h' (.inl (g_wI r))) (F0 m 50 ls [.int u0])
abbrev w_X8_accused_40 (G : gG) (l : Launch) (p : Program) (e : Env) (s : State) (m : MethodId) (args : Array Value) (below : List Frame) (meth : Method) (c : Code) (h0 : g_H) (r : Int32) (h' : g_H) (k : gM Int32) : Prop := ∀ (h : g_H) (H : Heap) (locs : List Loc) (cells slots : Nat) (ls : Array Slot), (k).1 h = some (r, h') → gI G h0 h H locs cells slots → lv_has ls 3 [] → W p l e (g_rm 3 63 h0 h') s m args below meth c H locs cells slots (gQ G below args s h0 h' (.inl (g_wI r))) (F0 m 40 ls [])
abbrev w_X8_accused_33 (G : gG) (l : Launch) (p : Program) (e : Env) (s : State) (m : MethodId) (args : Array Value) (below : List Frame) (meth : Method) (c : Code) (h0 : g_H) (r : Int32) (h' : g_H) (k : Nat → Int32 → Int32 → Nat → Int32 → gM Int32) : Prop := ∀ (a0 : Nat) (x1 : Int32) (x2 : Int32) (b0 : Nat) (u1 : Int32) (h : g_H) (H : Heap) (locs : List Loc) (cells slots : Nat) (ls : Array Slot), (k a0 x1 x2 b0 u1).1 h = some (r, h') → gI G h0 h H locs cells slots → lv_has ls 3 [(0, .ref a0), (1, .int x1), (2, .int x2)] → W p l e (g_rm 3 63 h0 h') s m args below meth c H locs cells slots (gQ G below args s h0 h' (.inl (g_wI r))) (F0 m 33 ls [.int u1, .ref b0])
def f_X8_accused_50 (u0 : Int32) : gM Int32 :=
    (gRet u0)
set_option maxHeartbeats 4000000 in
set_option maxRecDepth 100000 in
theorem b_X8_accused_50 {G : gG} {l : Launch} {p : Program} {e : Env} {s : State} {m : MethodId} {args : Array Value} {below : List Frame} {meth : Method} {c : Code} {h0 : g_H} {r : Int32} {h' : g_H} (X : gX G l yX8_accused.cls cX8_accused 3 (some .int) [] yX8_accused.name p s m args meth c) : w_X8_accused_50 G l p e s m args below meth c h0 r h' (f_X8_accused_50) := by
  have hx := X.1
  have hb := X.2.1
  have hown := X.2.2.2.1
  have hts := X.2.2.2.2.1
  intro u0 h H locs cells slots ls hf hI hl
  unfold f_X8_accused_50 at hf
  cases gRet_e hf
  exact g_retI X hI rfl dX8_accused_50
def f_X8_accused_40 : gM Int32 :=
    f_X8_accused_50 (0 : Int32)
set_option maxHeartbeats 4000000 in
set_option maxRecDepth 100000 in
theorem b_X8_accused_40 {G : gG} {l : Launch} {p : Program} {e : Env} {s : State} {m : MethodId} {args : Array Value} {below : List Frame} {meth : Method} {c : Code} {h0 : g_H} {r : Int32} {h' : g_H} (X : gX G l yX8_accused.cls cX8_accused 3 (some .int) [] yX8_accused.name p s m args meth c) : w_X8_accused_40 G l p e s m args below meth c h0 r h' (f_X8_accused_40) := by
  have hx := X.1
  have hb := X.2.1
  have hown := X.2.2.2.1
  have hts := X.2.2.2.2.1
  intro h H locs cells slots ls hf hI hl
  unfold f_X8_accused_40 at hf
  refine lv_iconst (v := (0 : Int32)) hx hb dX8_accused_40 (by decide) ?_
  refine lv_goto (tgt := 50) hx hb dX8_accused_41 (by decide) ?_
  exact b_X8_accused_50 X _ _ _ _ _ _ _ hf hI (lv_sub hl [] rfl)
def f_X8_accused_33 (a0 : Nat) (x1 : Int32) (x2 : Int32) (b0 : Nat) (u1 : Int32) : gM Int32 :=
    gB (gCk b0 7) fun _ =>
    gB (f_X8_throwsIf b0 u1 (2 : Int32)) fun r101 =>
    gIf (r101 = 0)
    (gB (gCk a0 7) fun _ =>
    gB (f_X8_of a0 x1 x2) fun r102 =>
    f_X8_accused_50 r102)
    (f_X8_accused_40)
set_option maxHeartbeats 4000000 in
set_option maxRecDepth 100000 in
theorem b_X8_accused_33 {G : gG} {l : Launch} {p : Program} {e : Env} {s : State} {m : MethodId} {args : Array Value} {below : List Frame} {meth : Method} {c : Code} {h0 : g_H} {r : Int32} {h' : g_H} (X : gX G l yX8_accused.cls cX8_accused 3 (some .int) [] yX8_accused.name p s m args meth c) : w_X8_accused_33 G l p e s m args below meth c h0 r h' (f_X8_accused_33) := by
  have hx := X.1
  have hb := X.2.1
  have hown := X.2.2.2.1
  have hts := X.2.2.2.2.1
  intro a0 x1 x2 b0 u1 h H locs cells slots ls hf hI hl
  unfold f_X8_accused_33 at hf
  refine lv_iconst (v := (2 : Int32)) hx hb dX8_accused_33 (by decide) ?_
  obtain ⟨hs, hf⟩ := gCk_b hf
  refine g_cBI hI hf (fun v9 h9 e9 l9 l9' => g_rV X hI l9 l9' ⟨Nat.le_refl _, Nat.le_refl _⟩ (As := [.int u1, .int (2 : Int32)]) (m_X8_throwsIf X.2.2.2.2.2.2.2.2.2.2.1 e9) ydX8_throwsIf hs rfl rfl q1736 q1738 qs72 q131 q1739 rfl (Nat.le_of_ble_eq_true rfl) (Nat.le_of_ble_eq_true rfl) hl.1 rfl (Nat.le_of_ble_eq_true rfl) dX8_accused_34) (fun r101 h H locs cells slots hf hI => ?_)
  refine lv_if_eq (tgt := 44) hx hb dX8_accused_37 (by decide) (fun c37 => ?_) (fun c37 => ?_)
  · have hf := g_t c37 hf
    refine lv_aload_n hx hb dX8_accused_44 rfl (lv_at hl 0 rfl) ?_
    refine lv_iload_n hx hb dX8_accused_45 rfl (lv_at hl 1 rfl) ?_
    refine lv_iload_n hx hb dX8_accused_46 rfl (lv_at hl 2 rfl) ?_
    obtain ⟨hs, hf⟩ := gCk_b hf
    refine g_cBI hI hf (fun v9 h9 e9 l9 l9' => g_rV X hI l9 l9' ⟨Nat.le_refl _, Nat.le_refl _⟩ (As := [.int x1, .int x2]) (m_X8_of X.2.2.2.2.2.2.2.2.2.2.1 e9) ydX8_of hs rfl rfl q1767 q1769 qs75 q131 q1770 rfl (Nat.le_of_ble_eq_true rfl) (Nat.le_of_ble_eq_true rfl) hl.1 rfl (Nat.le_of_ble_eq_true rfl) dX8_accused_47) (fun r102 h H locs cells slots hf hI => ?_)
    exact b_X8_accused_50 X _ _ _ _ _ _ _ hf hI (lv_sub hl [] rfl)
  · have hf := g_f c37 hf
    exact b_X8_accused_40 X _ _ _ _ _ _ hf hI (lv_sub hl [] rfl)
def f_X8_accused (a0 : Nat) (x1 : Int32) (x2 : Int32) : gM Int32 :=
    gB (gPI a0 7 0 (0 : Int32)) fun _ =>
    gB (gCk a0 7) fun _ =>
    gB (f_X8_noOne a0 x1) fun r1 =>
    gB (gCk a0 7) fun _ =>
    gB (f_X8_throwsIf a0 r1 (1 : Int32)) fun r2 =>
    gIf (r2 = 0)
    (gB (f_X8_in x2 (0 : Int32) (3 : Int32)) fun r3 =>
    gIf (r3 = 0)
    (f_X8_accused_33 a0 x1 x2 a0 (1 : Int32))
    (f_X8_accused_33 a0 x1 x2 a0 (0 : Int32)))
    (f_X8_accused_40)
set_option maxHeartbeats 4000000 in
set_option maxRecDepth 100000 in
theorem m_X8_accused {G : gG} {l : Launch} (hfl : l.stackTraces = false) {a0 : Nat} {x1 : Int32} {x2 : Int32} {h h' : g_H} {r : Int32} (hf : (f_X8_accused a0 x1 x2).1 h = some (r, h')) : gMet G l yX8_accused (Cond.code yX8_accused cX8_accused 3 (some .int)) 3 63 [.ref a0, .int x1, .int x2] h (.inl (g_wI r)) h' := by
  refine g_head hfl ((f_X8_accused a0 x1 x2).2 h r h' hf) (plainFor_of_name (by decide)) (Nat.le_of_ble_eq_true rfl) (fun p e s m below meth c H locs cells slots ls X hI hl9 => ?_)
  have hl : lv_has ls 3 [(0, .ref a0), (1, .int x1), (2, .int x2)] := hl9
  have hx := X.1
  have hb := X.2.1
  have hown := X.2.2.2.1
  have hts := X.2.2.2.2.1
  unfold f_X8_accused at hf
  refine lv_aload_n hx hb dX8_accused_0 rfl (lv_at hl 0 rfl) ?_
  refine lv_iconst (v := (0 : Int32)) hx hb dX8_accused_1 (by decide) ?_
  refine g_pi X hI hf fX8_0 q1444 rfl dX8_accused_2 (fun h H locs hf hI => ?_)
  refine lv_aload_n hx hb dX8_accused_5 rfl (lv_at hl 0 rfl) ?_
  refine lv_aload_n hx hb dX8_accused_6 rfl (lv_at hl 0 rfl) ?_
  refine lv_iload_n hx hb dX8_accused_7 rfl (lv_at hl 1 rfl) ?_
  obtain ⟨hs, hf⟩ := gCk_b hf
  refine g_cBI hI hf (fun v9 h9 e9 l9 l9' => g_rV X hI l9 l9' ⟨Nat.le_refl _, Nat.le_refl _⟩ (As := [.int x1]) (m_X8_noOne X.2.2.2.2.2.2.2.2.2.2.1 e9) ydX8_noOne hs rfl rfl q1763 q1765 qs74 q131 q1766 rfl (Nat.le_of_ble_eq_true rfl) (Nat.le_of_ble_eq_true rfl) hl.1 rfl (Nat.le_of_ble_eq_true rfl) dX8_accused_8) (fun r1 h H locs cells slots hf hI => ?_)
  refine lv_iconst (v := (1 : Int32)) hx hb dX8_accused_11 (by decide) ?_
  obtain ⟨hs, hf⟩ := gCk_b hf
  refine g_cBI hI hf (fun v9 h9 e9 l9 l9' => g_rV X hI l9 l9' ⟨Nat.le_refl _, Nat.le_refl _⟩ (As := [.int r1, .int (1 : Int32)]) (m_X8_throwsIf X.2.2.2.2.2.2.2.2.2.2.1 e9) ydX8_throwsIf hs rfl rfl q1736 q1738 qs72 q131 q1739 rfl (Nat.le_of_ble_eq_true rfl) (Nat.le_of_ble_eq_true rfl) hl.1 rfl (Nat.le_of_ble_eq_true rfl) dX8_accused_12) (fun r2 h H locs cells slots hf hI => ?_)
  refine lv_if_ne (tgt := 40) hx hb dX8_accused_15 (by decide) (fun c15 => ?_) (fun c15 => ?_)
  · have hf := g_f c15 hf
    exact b_X8_accused_40 X _ _ _ _ _ _ hf hI (lv_sub hl [] rfl)
  · have hf := g_t c15 hf
    refine lv_aload_n hx hb dX8_accused_18 rfl (lv_at hl 0 rfl) ?_
    refine lv_iload_n hx hb dX8_accused_19 rfl (lv_at hl 2 rfl) ?_
    refine lv_iconst (v := (0 : Int32)) hx hb dX8_accused_20 (by decide) ?_
    refine lv_iconst (v := (3 : Int32)) hx hb dX8_accused_21 (by decide) ?_
    refine g_cBI hI hf (fun v9 h9 e9 l9 l9' => g_rS (b := 0) X hI l9 l9' ⟨Nat.le_refl _, Nat.le_refl _⟩ (As := [.int x2, .int (0 : Int32), .int (3 : Int32)]) (m_X8_in X.2.2.2.2.2.2.2.2.2.2.1 e9) ydX8_in q1634 q1635 q131 q1636 rfl (Nat.le_of_ble_eq_true rfl) (Nat.le_of_ble_eq_true rfl) hl.1 rfl (Nat.le_of_ble_eq_true rfl) dX8_accused_22) (fun r3 h H locs cells slots hf hI => ?_)
    refine lv_if_ne (tgt := 32) hx hb dX8_accused_25 (by decide) (fun c25 => ?_) (fun c25 => ?_)
    · have hf := g_f c25 hf
      refine lv_iconst (v := (0 : Int32)) hx hb dX8_accused_32 (by decide) ?_
      exact b_X8_accused_33 X _ _ _ _ _ _ _ _ _ _ _ hf hI (lv_sub hl [0, 1, 2] rfl)
    · have hf := g_t c25 hf
      refine lv_iconst (v := (1 : Int32)) hx hb dX8_accused_28 (by decide) ?_
      refine lv_goto (tgt := 33) hx hb dX8_accused_29 (by decide) ?_
      exact b_X8_accused_33 X _ _ _ _ _ _ _ _ _ _ _ hf hI (lv_sub hl [0, 1, 2] rfl)
/-! X1_slot -/
def f_X1_slot (a0 : Nat) (x1 : Int32) : gM (Int32 ⊕ gE) :=
    gT (f_X1_isSlot x1) fun _ =>
    gB (gFR a0 0 1) fun v2 =>
    gB (gFR v2 2 3) fun v3 =>
    gB (gAI v3 0 x1) fun v4 =>
    (gRet (.inl v4))
set_option maxHeartbeats 4000000 in
set_option maxRecDepth 100000 in
theorem m_X1_slot {G : gG} {l : Launch} (hfl : l.stackTraces = false) {a0 : Nat} {x1 : Int32} {h h' : g_H} {r : (Int32 ⊕ gE)} (hf : (f_X1_slot a0 x1).1 h = some (r, h')) : gMet G l yX1_slot (Cond.code yX1_slot cX1_slot 2 (some .int)) 8 129 [.ref a0, .int x1] h (g_w g_wI r) h' := by
  refine g_head hfl ((f_X1_slot a0 x1).2 h r h' hf) (plainFor_of_name (by decide)) (Nat.le_of_ble_eq_true rfl) (fun p e s m below meth c H locs cells slots ls X hI hl9 => ?_)
  have hl : lv_has ls 2 [(0, .ref a0), (1, .int x1)] := hl9
  have hx := X.1
  have hb := X.2.1
  have hown := X.2.2.2.1
  have hts := X.2.2.2.2.1
  unfold f_X1_slot at hf
  refine lv_iload_n hx hb dX1_slot_0 rfl (lv_at hl 1 rfl) ?_
  refine g_cTU X hI (by decide) hf (fun v9 h9 e9 l9 l9' => g_rS (b := 0) X hI l9 l9' ⟨Nat.le_refl _, Nat.le_refl _⟩ (As := [.int x1]) (m_X1_isSlot X.2.2.2.2.2.2.2.2.2.2.1 e9) ydX1_isSlot q1179 q1180 q121 q1181 rfl (Nat.le_of_ble_eq_true rfl) (Nat.le_of_ble_eq_true rfl) hl.1 rfl (Nat.le_of_ble_eq_true rfl) dX1_slot_1) (fun r1 h H locs cells slots hf hI => ?_)
  refine lv_aload_n hx hb dX1_slot_4 rfl (lv_at hl 0 rfl) ?_
  refine g_fr X hI hf fX1_1 q461 rfl rfl dX1_slot_5 (fun v2 hf => ?_)
  refine g_frN X hI hf fX3_3 q264 rfl rfl dX1_slot_8 (fun v3 hf => ?_)
  refine lv_iload_n hx hb dX1_slot_11 rfl (lv_at hl 1 rfl) ?_
  refine g_ai0 X hI hf dX1_slot_12 (fun v4 hf => ?_)
  cases gRet_e hf
  exact g_retI X hI rfl dX1_slot_13
/-! X0_slot -/
def f_X0_slot (a0 : Nat) (x1 : Int32) (a2 : Nat) : gM Int32 :=
    gB (gCk a0 0) fun _ =>
    gB (f_X1_slot a0 x1) fun r9 => match r9 with
    | .inl r1 => (gB (gSI a2 2 (0 : Int32) (r1)) fun _ =>
    (gRet (0 : Int32)))
    | .inr x9 => (gIf (x9.1 = 19)
    ((gRet (1 : Int32)))
    (gFail))
set_option maxHeartbeats 4000000 in
set_option maxRecDepth 100000 in
theorem m_X0_slot {G : gG} {l : Launch} (hfl : l.stackTraces = false) {a0 : Nat} {x1 : Int32} {a2 : Nat} {h h' : g_H} {r : Int32} (hf : (f_X0_slot a0 x1 a2).1 h = some (r, h')) : gMet G l yX0_slot (Cond.codeWith yX0_slot cX0_slot 4 (some .int) [(0, 9, 12, 24)]) 9 150 [.ref a0, .int x1, .ref a2] h (.inl (g_wI r)) h' := by
  refine g_headW hfl ((f_X0_slot a0 x1 a2).2 h r h' hf) (plainFor_of_name (by decide)) (Nat.le_of_ble_eq_true rfl) (fun p e s m below meth c H locs cells slots ls X hI hl9 => ?_)
  have hl : lv_has ls 4 [(0, .ref a0), (1, .int x1), (2, .ref a2)] := hl9
  have hx := X.1
  have hb := X.2.1
  have hown := X.2.2.2.1
  have hts := X.2.2.2.2.1
  unfold f_X0_slot at hf
  refine lv_aload_n hx hb dX0_slot_0 rfl (lv_at hl 2 rfl) ?_
  refine lv_iconst (v := (0 : Int32)) hx hb dX0_slot_1 (by decide) ?_
  refine lv_aload_n hx hb dX0_slot_2 rfl (lv_at hl 0 rfl) ?_
  refine lv_iload_n hx hb dX0_slot_3 rfl (lv_at hl 1 rfl) ?_
  obtain ⟨hs, hf⟩ := gCk_b hf
  refine g_cHI hI hf (fun v9 h9 e9 l9 l9' => g_rV X hI l9 l9' ⟨Nat.le_refl _, Nat.le_refl _⟩ (As := [.int x1]) (m_X1_slot X.2.2.2.2.2.2.2.2.2.2.1 e9) ydX1_slot hs rfl rfl q1175 q1176 q1177 q121 q1178 rfl (Nat.le_of_ble_eq_true rfl) (Nat.le_of_ble_eq_true rfl) hl.1 rfl (Nat.le_of_ble_eq_true rfl) dX0_slot_4) (fun r1 h H locs cells slots hf hI => ?_) ?_
  · refine lv_i2l hx hb dX0_slot_7 rfl ?_
    refine g_si2 X hI hf dX0_slot_8 (fun h H locs hf hI => ?_)
    refine lv_goto (tgt := 15) hx hb dX0_slot_9 (by decide) ?_
    refine lv_iconst (v := (0 : Int32)) hx hb dX0_slot_15 (by decide) ?_
    cases gRet_e hf
    exact g_retI X hI rfl dX0_slot_16
  · intro ci9 x9 h H locs cells slots r9 ce9 hf hr9 hI hce hcv hcl
    by_cases k0 : ci9 = 19
    · subst k0
      cases hr9
      have hf := g_t rfl hf
      refine g_catch0 X hI (name := "java/lang/IndexOutOfBoundsException") rfl (by rfl) (by decide) (by decide) q1098 q1144 hce hcv hcl ?_
      refine lv_astore_n (lv' := [(3, .ref x9), (0, .ref a0), (1, .int x1), (2, .ref a2)]) hx hb dX0_slot_12 rfl hl (by decide) rfl (fun ls hl => ?_)
      refine lv_iconst (v := (1 : Int32)) hx hb dX0_slot_13 (by decide) ?_
      cases gRet_e hf
      exact g_retI X hI rfl dX0_slot_14
    have hf := g_f k0 hf
    exact (gFail_f hf).elim
/-! X8_slot -/
abbrev w_X8_slot_26 (G : gG) (l : Launch) (p : Program) (e : Env) (s : State) (m : MethodId) (args : Array Value) (below : List Frame) (meth : Method) (c : Code) (h0 : g_H) (r : Int32) (h' : g_H) (k : Int32 → gM Int32) : Prop := ∀ (u0 : Int32) (h : g_H) (H : Heap) (locs : List Loc) (cells slots : Nat) (ls : Array Slot), (k u0).1 h = some (r, h') → gI G h0 h H locs cells slots → lv_has ls 2 [] → W p l e (g_rm 4 85 h0 h') s m args below meth c H locs cells slots (gQ G below args s h0 h' (.inl (g_wI r))) (F0 m 26 ls [.int u0])
def f_X8_slot_26 (u0 : Int32) : gM Int32 :=
    (gRet u0)
set_option maxHeartbeats 4000000 in
set_option maxRecDepth 100000 in
theorem b_X8_slot_26 {G : gG} {l : Launch} {p : Program} {e : Env} {s : State} {m : MethodId} {args : Array Value} {below : List Frame} {meth : Method} {c : Code} {h0 : g_H} {r : Int32} {h' : g_H} (X : gX G l yX8_slot.cls cX8_slot 2 (some .int) [] yX8_slot.name p s m args meth c) : w_X8_slot_26 G l p e s m args below meth c h0 r h' (f_X8_slot_26) := by
  have hx := X.1
  have hb := X.2.1
  have hown := X.2.2.2.1
  have hts := X.2.2.2.2.1
  intro u0 h H locs cells slots ls hf hI hl
  unfold f_X8_slot_26 at hf
  cases gRet_e hf
  exact g_retI X hI rfl dX8_slot_26
def f_X8_slot (a0 : Nat) (x1 : Int32) : gM Int32 :=
    gB (gPI a0 7 0 (0 : Int32)) fun _ =>
    gB (f_X8_noSlot x1) fun r1 =>
    gB (gCk a0 7) fun _ =>
    gB (f_X8_throwsIf a0 r1 (1 : Int32)) fun r2 =>
    gIf (r2 = 0)
    (gB (gCk a0 7) fun _ =>
    gB (f_X8_propIn a0 x1) fun r3 =>
    f_X8_slot_26 r3)
    (f_X8_slot_26 (0 : Int32))
set_option maxHeartbeats 4000000 in
set_option maxRecDepth 100000 in
theorem m_X8_slot {G : gG} {l : Launch} (hfl : l.stackTraces = false) {a0 : Nat} {x1 : Int32} {h h' : g_H} {r : Int32} (hf : (f_X8_slot a0 x1).1 h = some (r, h')) : gMet G l yX8_slot (Cond.code yX8_slot cX8_slot 2 (some .int)) 4 85 [.ref a0, .int x1] h (.inl (g_wI r)) h' := by
  refine g_head hfl ((f_X8_slot a0 x1).2 h r h' hf) (plainFor_of_name (by decide)) (Nat.le_of_ble_eq_true rfl) (fun p e s m below meth c H locs cells slots ls X hI hl9 => ?_)
  have hl : lv_has ls 2 [(0, .ref a0), (1, .int x1)] := hl9
  have hx := X.1
  have hb := X.2.1
  have hown := X.2.2.2.1
  have hts := X.2.2.2.2.1
  unfold f_X8_slot at hf
  refine lv_aload_n hx hb dX8_slot_0 rfl (lv_at hl 0 rfl) ?_
  refine lv_iconst (v := (0 : Int32)) hx hb dX8_slot_1 (by decide) ?_
  refine g_pi X hI hf fX8_0 q1444 rfl dX8_slot_2 (fun h H locs hf hI => ?_)
  refine lv_aload_n hx hb dX8_slot_5 rfl (lv_at hl 0 rfl) ?_
  refine lv_iload_n hx hb dX8_slot_6 rfl (lv_at hl 1 rfl) ?_
  refine g_cBI hI hf (fun v9 h9 e9 l9 l9' => g_rS (b := 0) X hI l9 l9' ⟨Nat.le_refl _, Nat.le_refl _⟩ (As := [.int x1]) (m_X8_noSlot X.2.2.2.2.2.2.2.2.2.2.1 e9) ydX8_noSlot q1756 q1757 q131 q1758 rfl (Nat.le_of_ble_eq_true rfl) (Nat.le_of_ble_eq_true rfl) hl.1 rfl (Nat.le_of_ble_eq_true rfl) dX8_slot_7) (fun r1 h H locs cells slots hf hI => ?_)
  refine lv_iconst (v := (1 : Int32)) hx hb dX8_slot_10 (by decide) ?_
  obtain ⟨hs, hf⟩ := gCk_b hf
  refine g_cBI hI hf (fun v9 h9 e9 l9 l9' => g_rV X hI l9 l9' ⟨Nat.le_refl _, Nat.le_refl _⟩ (As := [.int r1, .int (1 : Int32)]) (m_X8_throwsIf X.2.2.2.2.2.2.2.2.2.2.1 e9) ydX8_throwsIf hs rfl rfl q1736 q1738 qs72 q131 q1739 rfl (Nat.le_of_ble_eq_true rfl) (Nat.le_of_ble_eq_true rfl) hl.1 rfl (Nat.le_of_ble_eq_true rfl) dX8_slot_11) (fun r2 h H locs cells slots hf hI => ?_)
  refine lv_if_eq (tgt := 21) hx hb dX8_slot_14 (by decide) (fun c14 => ?_) (fun c14 => ?_)
  · have hf := g_t c14 hf
    refine lv_aload_n hx hb dX8_slot_21 rfl (lv_at hl 0 rfl) ?_
    refine lv_iload_n hx hb dX8_slot_22 rfl (lv_at hl 1 rfl) ?_
    obtain ⟨hs, hf⟩ := gCk_b hf
    refine g_cBI hI hf (fun v9 h9 e9 l9 l9' => g_rV X hI l9 l9' ⟨Nat.le_refl _, Nat.le_refl _⟩ (As := [.int x1]) (m_X8_propIn X.2.2.2.2.2.2.2.2.2.2.1 e9) ydX8_propIn hs rfl rfl q1655 q1657 qs58 q131 q1658 rfl (Nat.le_of_ble_eq_true rfl) (Nat.le_of_ble_eq_true rfl) hl.1 rfl (Nat.le_of_ble_eq_true rfl) dX8_slot_23) (fun r3 h H locs cells slots hf hI => ?_)
    exact b_X8_slot_26 X _ _ _ _ _ _ _ hf hI (lv_sub hl [] rfl)
  · have hf := g_f c14 hf
    refine lv_iconst (v := (0 : Int32)) hx hb dX8_slot_17 (by decide) ?_
    refine lv_goto (tgt := 26) hx hb dX8_slot_18 (by decide) ?_
    exact b_X8_slot_26 X _ _ _ _ _ _ _ hf hI (lv_sub hl [] rfl)
/-! X1_prop -/
def f_X1_prop (a0 : Nat) (x1 : Int32) (x2 : Int32) : gM (Int32 ⊕ gE) :=
    gB (gCk a0 0) fun _ =>
    gT (f_X1_propAt a0 x1) fun r1 =>
    gIf (x2 = (0 : Int32))
    (gB (gFI r1 3 0) fun v2 =>
    (gRet (.inl v2)))
    (gIf (x2 = (1 : Int32))
    (gB (gFI r1 3 1) fun v3 =>
    (gRet (.inl v3)))
    (gIf (x2 = (2 : Int32))
    (gB (gFI r1 3 2) fun v4 =>
    (gRet (.inl v4)))
    (gIf (x2 = (3 : Int32))
    (gB (gFI r1 3 3) fun v5 =>
    (gRet (.inl v5)))
    (gB (gNew 20 6) fun a6 =>
    gB (gCk a6 20) fun _ =>
    gRet (.inr (20, a6))))))
set_option maxHeartbeats 4000000 in
set_option maxRecDepth 100000 in
theorem m_X1_prop {G : gG} {l : Launch} (hfl : l.stackTraces = false) {a0 : Nat} {x1 : Int32} {x2 : Int32} {h h' : g_H} {r : (Int32 ⊕ gE)} (hf : (f_X1_prop a0 x1 x2).1 h = some (r, h')) : gMet G l yX1_prop (Cond.code yX1_prop cX1_prop 4 (some .int)) 8 130 [.ref a0, .int x1, .int x2] h (g_w g_wI r) h' := by
  refine g_head hfl ((f_X1_prop a0 x1 x2).2 h r h' hf) (plainFor_of_name (by decide)) (Nat.le_of_ble_eq_true rfl) (fun p e s m below meth c H locs cells slots ls X hI hl9 => ?_)
  have hl : lv_has ls 4 [(0, .ref a0), (1, .int x1), (2, .int x2)] := hl9
  have hx := X.1
  have hb := X.2.1
  have hown := X.2.2.2.1
  have hts := X.2.2.2.2.1
  unfold f_X1_prop at hf
  refine lv_aload_n hx hb dX1_prop_0 rfl (lv_at hl 0 rfl) ?_
  refine lv_iload_n hx hb dX1_prop_1 rfl (lv_at hl 1 rfl) ?_
  obtain ⟨hs, hf⟩ := gCk_b hf
  refine g_cTR X hI (by decide) hf (fun v9 h9 e9 l9 l9' => g_rV X hI l9 l9' ⟨Nat.le_refl _, Nat.le_refl _⟩ (As := [.int x1]) (m_X1_propAt X.2.2.2.2.2.2.2.2.2.2.1 e9) ydX1_propAt hs rfl rfl q1135 q1137 qs36 q121 q1138 rfl (Nat.le_of_ble_eq_true rfl) (Nat.le_of_ble_eq_true rfl) hl.1 rfl (Nat.le_of_ble_eq_true rfl) dX1_prop_2) (fun r1 h H locs cells slots hf hI => ?_)
  refine lv_astore_n (lv' := [(3, .ref r1), (0, .ref a0), (1, .int x1), (2, .int x2)]) hx hb dX1_prop_5 rfl hl (by decide) rfl (fun ls hl => ?_)
  refine lv_iload_n hx hb dX1_prop_6 rfl (lv_at hl 3 rfl) ?_
  by_cases c7_0 : x2 = (0 : Int32)
  · have hf := g_t c7_0 hf
    refine g_tsIn (k := (0 : Int32)) (off := 29) (tgt := 36) hx hb c7_0 dX1_prop_7 (by decide) (by decide) rfl (by decide) ?_
    refine lv_aload_n hx hb dX1_prop_36 rfl (lv_at hl 0 rfl) ?_
    refine g_fiN X hI hf fX4_0 q198 rfl rfl dX1_prop_37 (fun v2 hf => ?_)
    cases gRet_e hf
    exact g_retI X hI rfl dX1_prop_40
  have hf := g_f c7_0 hf
  by_cases c7_1 : x2 = (1 : Int32)
  · have hf := g_t c7_1 hf
    refine g_tsIn (k := (1 : Int32)) (off := 34) (tgt := 41) hx hb c7_1 dX1_prop_7 (by decide) (by decide) rfl (by decide) ?_
    refine lv_aload_n hx hb dX1_prop_41 rfl (lv_at hl 0 rfl) ?_
    refine g_fiN X hI hf fX4_1 q202 rfl rfl dX1_prop_42 (fun v3 hf => ?_)
    cases gRet_e hf
    exact g_retI X hI rfl dX1_prop_45
  have hf := g_f c7_1 hf
  by_cases c7_2 : x2 = (2 : Int32)
  · have hf := g_t c7_2 hf
    refine g_tsIn (k := (2 : Int32)) (off := 39) (tgt := 46) hx hb c7_2 dX1_prop_7 (by decide) (by decide) rfl (by decide) ?_
    refine lv_aload_n hx hb dX1_prop_46 rfl (lv_at hl 0 rfl) ?_
    refine g_fiN X hI hf fX4_2 q206 rfl rfl dX1_prop_47 (fun v4 hf => ?_)
    cases gRet_e hf
    exact g_retI X hI rfl dX1_prop_50
  have hf := g_f c7_2 hf
  by_cases c7_3 : x2 = (3 : Int32)
  · have hf := g_t c7_3 hf
    refine g_tsIn (k := (3 : Int32)) (off := 44) (tgt := 51) hx hb c7_3 dX1_prop_7 (by decide) (by decide) rfl (by decide) ?_
    refine lv_aload_n hx hb dX1_prop_51 rfl (lv_at hl 0 rfl) ?_
    refine g_fiN X hI hf fX4_3 q210 rfl rfl dX1_prop_52 (fun v5 hf => ?_)
    cases gRet_e hf
    exact g_retI X hI rfl dX1_prop_55
  have hf := g_f c7_3 hf
  refine lv_tableOut (tgt := 56) hx hb dX1_prop_7 (by have := lv_neT c7_0 (a := 0) rfl; have := lv_neT c7_1 (a := 1) rfl; have := lv_neT c7_2 (a := 2) rfl; have := lv_neT c7_3 (a := 3) rfl; omega) (by decide) ?_
  refine g_make (names := ["java/lang/RuntimeException", "java/lang/Exception"]) (ik := 79) (ic := 81) (cls := "java/util/NoSuchElementException") X hI hf ⟨Nat.le_refl _, Nat.le_refl _⟩ rfl rfl rfl rfl (by decide) (by decide) q1157 q150 (g_hat X x20_1 x20_2) (List.all_eq_true.mp x20_3) hl.1 dX1_prop_56 dX1_prop_59 dX1_prop_60 (Nat.lt_of_lt_of_le (show 2 + 3 < 6 by decide) (Nat.le_of_ble_eq_true rfl)) (Nat.le_of_ble_eq_true rfl) (Nat.le_of_ble_eq_true rfl) (fun a6 h H cells slots hf hI => ?_)
  obtain ⟨hs, hf⟩ := gCk_b hf
  cases gRet_e hf
  exact g_athrow X hI (by decide) hs rfl rfl dX1_prop_63
/-! X0_prop -/
def f_X0_prop (a0 : Nat) (x1 : Int32) (x2 : Int32) (a3 : Nat) : gM Int32 :=
    gB (gCk a0 0) fun _ =>
    gB (f_X1_prop a0 x1 x2) fun r9 => match r9 with
    | .inl r1 => (gB (gSI a3 2 (0 : Int32) (r1)) fun _ =>
    (gRet (0 : Int32)))
    | .inr x9 => (gIf (x9.1 = 19)
    ((gRet (1 : Int32)))
    (gIf (x9.1 = 20)
    ((gRet (2 : Int32)))
    (gFail)))
set_option maxHeartbeats 4000000 in
set_option maxRecDepth 100000 in
theorem m_X0_prop {G : gG} {l : Launch} (hfl : l.stackTraces = false) {a0 : Nat} {x1 : Int32} {x2 : Int32} {a3 : Nat} {h h' : g_H} {r : Int32} (hf : (f_X0_prop a0 x1 x2 a3).1 h = some (r, h')) : gMet G l yX0_prop (Cond.codeWith yX0_prop cX0_prop 5 (some .int) [(0, 10, 13, 24), (0, 10, 17, 26)]) 9 153 [.ref a0, .int x1, .int x2, .ref a3] h (.inl (g_wI r)) h' := by
  refine g_headW hfl ((f_X0_prop a0 x1 x2 a3).2 h r h' hf) (plainFor_of_name (by decide)) (Nat.le_of_ble_eq_true rfl) (fun p e s m below meth c H locs cells slots ls X hI hl9 => ?_)
  have hl : lv_has ls 5 [(0, .ref a0), (1, .int x1), (2, .int x2), (3, .ref a3)] := hl9
  have hx := X.1
  have hb := X.2.1
  have hown := X.2.2.2.1
  have hts := X.2.2.2.2.1
  unfold f_X0_prop at hf
  refine lv_aload_n hx hb dX0_prop_0 rfl (lv_at hl 3 rfl) ?_
  refine lv_iconst (v := (0 : Int32)) hx hb dX0_prop_1 (by decide) ?_
  refine lv_aload_n hx hb dX0_prop_2 rfl (lv_at hl 0 rfl) ?_
  refine lv_iload_n hx hb dX0_prop_3 rfl (lv_at hl 1 rfl) ?_
  refine lv_iload_n hx hb dX0_prop_4 rfl (lv_at hl 2 rfl) ?_
  obtain ⟨hs, hf⟩ := gCk_b hf
  refine g_cHI hI hf (fun v9 h9 e9 l9 l9' => g_rV X hI l9 l9' ⟨Nat.le_refl _, Nat.le_refl _⟩ (As := [.int x1, .int x2]) (m_X1_prop X.2.2.2.2.2.2.2.2.2.2.1 e9) ydX1_prop hs rfl rfl q1131 q1132 q1133 q121 q1134 rfl (Nat.le_of_ble_eq_true rfl) (Nat.le_of_ble_eq_true rfl) hl.1 rfl (Nat.le_of_ble_eq_true rfl) dX0_prop_5) (fun r1 h H locs cells slots hf hI => ?_) ?_
  · refine lv_i2l hx hb dX0_prop_8 rfl ?_
    refine g_si2 X hI hf dX0_prop_9 (fun h H locs hf hI => ?_)
    refine lv_goto (tgt := 21) hx hb dX0_prop_10 (by decide) ?_
    refine lv_iconst (v := (0 : Int32)) hx hb dX0_prop_21 (by decide) ?_
    cases gRet_e hf
    exact g_retI X hI rfl dX0_prop_22
  · intro ci9 x9 h H locs cells slots r9 ce9 hf hr9 hI hce hcv hcl
    by_cases k0 : ci9 = 19
    · subst k0
      cases hr9
      have hf := g_t rfl hf
      refine g_catch0 X hI (name := "java/lang/IndexOutOfBoundsException") rfl (by rfl) (by decide) (by decide) q1098 q1144 hce hcv hcl ?_
      refine lv_astore (lv' := [(4, .ref x9), (0, .ref a0), (1, .int x1), (2, .int x2), (3, .ref a3)]) hx hb dX0_prop_13 hl (by decide) rfl (fun ls hl => ?_)
      refine lv_iconst (v := (1 : Int32)) hx hb dX0_prop_15 (by decide) ?_
      cases gRet_e hf
      exact g_retI X hI rfl dX0_prop_16
    have hf := g_f k0 hf
    by_cases k1 : ci9 = 20
    · subst k1
      cases hr9
      have hf := g_t rfl hf
      refine g_catch1 X hI (name := "java/util/NoSuchElementException") rfl (by rfl) (by decide) (by decide) q1130 q1159 q1098 (List.mem_of_getElem? (i := 1) rfl) hce hcv hcl ?_
      refine lv_astore (lv' := [(4, .ref x9), (0, .ref a0), (1, .int x1), (2, .int x2), (3, .ref a3)]) hx hb dX0_prop_17 hl (by decide) rfl (fun ls hl => ?_)
      refine lv_iconst (v := (2 : Int32)) hx hb dX0_prop_19 (by decide) ?_
      cases gRet_e hf
      exact g_retI X hI rfl dX0_prop_20
    have hf := g_f k1 hf
    exact (gFail_f hf).elim
/-! X8_prop -/
abbrev w_X8_prop_50 (G : gG) (l : Launch) (p : Program) (e : Env) (s : State) (m : MethodId) (args : Array Value) (below : List Frame) (meth : Method) (c : Code) (h0 : g_H) (r : Int32) (h' : g_H) (k : Int32 → gM Int32) : Prop := ∀ (u0 : Int32) (h : g_H) (H : Heap) (locs : List Loc) (cells slots : Nat) (ls : Array Slot), (k u0).1 h = some (r, h') → gI G h0 h H locs cells slots → lv_has ls 3 [] → W p l e (g_rm 3 63 h0 h') s m args below meth c H locs cells slots (gQ G below args s h0 h' (.inl (g_wI r))) (F0 m 50 ls [.int u0])
abbrev w_X8_prop_40 (G : gG) (l : Launch) (p : Program) (e : Env) (s : State) (m : MethodId) (args : Array Value) (below : List Frame) (meth : Method) (c : Code) (h0 : g_H) (r : Int32) (h' : g_H) (k : gM Int32) : Prop := ∀ (h : g_H) (H : Heap) (locs : List Loc) (cells slots : Nat) (ls : Array Slot), (k).1 h = some (r, h') → gI G h0 h H locs cells slots → lv_has ls 3 [] → W p l e (g_rm 3 63 h0 h') s m args below meth c H locs cells slots (gQ G below args s h0 h' (.inl (g_wI r))) (F0 m 40 ls [])
abbrev w_X8_prop_33 (G : gG) (l : Launch) (p : Program) (e : Env) (s : State) (m : MethodId) (args : Array Value) (below : List Frame) (meth : Method) (c : Code) (h0 : g_H) (r : Int32) (h' : g_H) (k : Nat → Int32 → Int32 → Nat → Int32 → gM Int32) : Prop := ∀ (a0 : Nat) (x1 : Int32) (x2 : Int32) (b0 : Nat) (u1 : Int32) (h : g_H) (H : Heap) (locs : List Loc) (cells slots : Nat) (ls : Array Slot), (k a0 x1 x2 b0 u1).1 h = some (r, h') → gI G h0 h H locs cells slots → lv_has ls 3 [(0, .ref a0), (1, .int x1), (2, .int x2)] → W p l e (g_rm 3 63 h0 h') s m args below meth c H locs cells slots (gQ G below args s h0 h' (.inl (g_wI r))) (F0 m 33 ls [.int u1, .ref b0])
def f_X8_prop_50 (u0 : Int32) : gM Int32 :=
    (gRet u0)
set_option maxHeartbeats 4000000 in
set_option maxRecDepth 100000 in
theorem b_X8_prop_50 {G : gG} {l : Launch} {p : Program} {e : Env} {s : State} {m : MethodId} {args : Array Value} {below : List Frame} {meth : Method} {c : Code} {h0 : g_H} {r : Int32} {h' : g_H} (X : gX G l yX8_prop.cls cX8_prop 3 (some .int) [] yX8_prop.name p s m args meth c) : w_X8_prop_50 G l p e s m args below meth c h0 r h' (f_X8_prop_50) := by
  have hx := X.1
  have hb := X.2.1
  have hown := X.2.2.2.1
  have hts := X.2.2.2.2.1
  intro u0 h H locs cells slots ls hf hI hl
  unfold f_X8_prop_50 at hf
  cases gRet_e hf
  exact g_retI X hI rfl dX8_prop_50
def f_X8_prop_40 : gM Int32 :=
    f_X8_prop_50 (0 : Int32)
set_option maxHeartbeats 4000000 in
set_option maxRecDepth 100000 in
theorem b_X8_prop_40 {G : gG} {l : Launch} {p : Program} {e : Env} {s : State} {m : MethodId} {args : Array Value} {below : List Frame} {meth : Method} {c : Code} {h0 : g_H} {r : Int32} {h' : g_H} (X : gX G l yX8_prop.cls cX8_prop 3 (some .int) [] yX8_prop.name p s m args meth c) : w_X8_prop_40 G l p e s m args below meth c h0 r h' (f_X8_prop_40) := by
  have hx := X.1
  have hb := X.2.1
  have hown := X.2.2.2.1
  have hts := X.2.2.2.2.1
  intro h H locs cells slots ls hf hI hl
  unfold f_X8_prop_40 at hf
  refine lv_iconst (v := (0 : Int32)) hx hb dX8_prop_40 (by decide) ?_
  refine lv_goto (tgt := 50) hx hb dX8_prop_41 (by decide) ?_
  exact b_X8_prop_50 X _ _ _ _ _ _ _ hf hI (lv_sub hl [] rfl)
def f_X8_prop_33 (a0 : Nat) (x1 : Int32) (x2 : Int32) (b0 : Nat) (u1 : Int32) : gM Int32 :=
    gB (gCk b0 7) fun _ =>
    gB (f_X8_throwsIf b0 u1 (2 : Int32)) fun r101 =>
    gIf (r101 = 0)
    (gB (gCk a0 7) fun _ =>
    gB (f_X8_ofProp a0 x1 x2) fun r102 =>
    f_X8_prop_50 r102)
    (f_X8_prop_40)
set_option maxHeartbeats 4000000 in
set_option maxRecDepth 100000 in
theorem b_X8_prop_33 {G : gG} {l : Launch} {p : Program} {e : Env} {s : State} {m : MethodId} {args : Array Value} {below : List Frame} {meth : Method} {c : Code} {h0 : g_H} {r : Int32} {h' : g_H} (X : gX G l yX8_prop.cls cX8_prop 3 (some .int) [] yX8_prop.name p s m args meth c) : w_X8_prop_33 G l p e s m args below meth c h0 r h' (f_X8_prop_33) := by
  have hx := X.1
  have hb := X.2.1
  have hown := X.2.2.2.1
  have hts := X.2.2.2.2.1
  intro a0 x1 x2 b0 u1 h H locs cells slots ls hf hI hl
  unfold f_X8_prop_33 at hf
  refine lv_iconst (v := (2 : Int32)) hx hb dX8_prop_33 (by decide) ?_
  obtain ⟨hs, hf⟩ := gCk_b hf
  refine g_cBI hI hf (fun v9 h9 e9 l9 l9' => g_rV X hI l9 l9' ⟨Nat.le_refl _, Nat.le_refl _⟩ (As := [.int u1, .int (2 : Int32)]) (m_X8_throwsIf X.2.2.2.2.2.2.2.2.2.2.1 e9) ydX8_throwsIf hs rfl rfl q1736 q1738 qs72 q131 q1739 rfl (Nat.le_of_ble_eq_true rfl) (Nat.le_of_ble_eq_true rfl) hl.1 rfl (Nat.le_of_ble_eq_true rfl) dX8_prop_34) (fun r101 h H locs cells slots hf hI => ?_)
  refine lv_if_eq (tgt := 44) hx hb dX8_prop_37 (by decide) (fun c37 => ?_) (fun c37 => ?_)
  · have hf := g_t c37 hf
    refine lv_aload_n hx hb dX8_prop_44 rfl (lv_at hl 0 rfl) ?_
    refine lv_iload_n hx hb dX8_prop_45 rfl (lv_at hl 1 rfl) ?_
    refine lv_iload_n hx hb dX8_prop_46 rfl (lv_at hl 2 rfl) ?_
    obtain ⟨hs, hf⟩ := gCk_b hf
    refine g_cBI hI hf (fun v9 h9 e9 l9 l9' => g_rV X hI l9 l9' ⟨Nat.le_refl _, Nat.le_refl _⟩ (As := [.int x1, .int x2]) (m_X8_ofProp X.2.2.2.2.2.2.2.2.2.2.1 e9) ydX8_ofProp hs rfl rfl q1659 q1661 qs59 q131 q1662 rfl (Nat.le_of_ble_eq_true rfl) (Nat.le_of_ble_eq_true rfl) hl.1 rfl (Nat.le_of_ble_eq_true rfl) dX8_prop_47) (fun r102 h H locs cells slots hf hI => ?_)
    exact b_X8_prop_50 X _ _ _ _ _ _ _ hf hI (lv_sub hl [] rfl)
  · have hf := g_f c37 hf
    exact b_X8_prop_40 X _ _ _ _ _ _ hf hI (lv_sub hl [] rfl)
def f_X8_prop (a0 : Nat) (x1 : Int32) (x2 : Int32) : gM Int32 :=
    gB (gPI a0 7 0 (0 : Int32)) fun _ =>
    gB (gCk a0 7) fun _ =>
    gB (f_X8_noProp a0 x1) fun r1 =>
    gB (gCk a0 7) fun _ =>
    gB (f_X8_throwsIf a0 r1 (1 : Int32)) fun r2 =>
    gIf (r2 = 0)
    (gB (f_X8_in x2 (0 : Int32) (3 : Int32)) fun r3 =>
    gIf (r3 = 0)
    (f_X8_prop_33 a0 x1 x2 a0 (1 : Int32))
    (f_X8_prop_33 a0 x1 x2 a0 (0 : Int32)))
    (f_X8_prop_40)
set_option maxHeartbeats 4000000 in
set_option maxRecDepth 100000 in
theorem m_X8_prop {G : gG} {l : Launch} (hfl : l.stackTraces = false) {a0 : Nat} {x1 : Int32} {x2 : Int32} {h h' : g_H} {r : Int32} (hf : (f_X8_prop a0 x1 x2).1 h = some (r, h')) : gMet G l yX8_prop (Cond.code yX8_prop cX8_prop 3 (some .int)) 3 63 [.ref a0, .int x1, .int x2] h (.inl (g_wI r)) h' := by
  refine g_head hfl ((f_X8_prop a0 x1 x2).2 h r h' hf) (plainFor_of_name (by decide)) (Nat.le_of_ble_eq_true rfl) (fun p e s m below meth c H locs cells slots ls X hI hl9 => ?_)
  have hl : lv_has ls 3 [(0, .ref a0), (1, .int x1), (2, .int x2)] := hl9
  have hx := X.1
  have hb := X.2.1
  have hown := X.2.2.2.1
  have hts := X.2.2.2.2.1
  unfold f_X8_prop at hf
  refine lv_aload_n hx hb dX8_prop_0 rfl (lv_at hl 0 rfl) ?_
  refine lv_iconst (v := (0 : Int32)) hx hb dX8_prop_1 (by decide) ?_
  refine g_pi X hI hf fX8_0 q1444 rfl dX8_prop_2 (fun h H locs hf hI => ?_)
  refine lv_aload_n hx hb dX8_prop_5 rfl (lv_at hl 0 rfl) ?_
  refine lv_aload_n hx hb dX8_prop_6 rfl (lv_at hl 0 rfl) ?_
  refine lv_iload_n hx hb dX8_prop_7 rfl (lv_at hl 1 rfl) ?_
  obtain ⟨hs, hf⟩ := gCk_b hf
  refine g_cBI hI hf (fun v9 h9 e9 l9 l9' => g_rV X hI l9 l9' ⟨Nat.le_refl _, Nat.le_refl _⟩ (As := [.int x1]) (m_X8_noProp X.2.2.2.2.2.2.2.2.2.2.1 e9) ydX8_noProp hs rfl rfl q1748 q1750 qs73 q131 q1751 rfl (Nat.le_of_ble_eq_true rfl) (Nat.le_of_ble_eq_true rfl) hl.1 rfl (Nat.le_of_ble_eq_true rfl) dX8_prop_8) (fun r1 h H locs cells slots hf hI => ?_)
  refine lv_iconst (v := (1 : Int32)) hx hb dX8_prop_11 (by decide) ?_
  obtain ⟨hs, hf⟩ := gCk_b hf
  refine g_cBI hI hf (fun v9 h9 e9 l9 l9' => g_rV X hI l9 l9' ⟨Nat.le_refl _, Nat.le_refl _⟩ (As := [.int r1, .int (1 : Int32)]) (m_X8_throwsIf X.2.2.2.2.2.2.2.2.2.2.1 e9) ydX8_throwsIf hs rfl rfl q1736 q1738 qs72 q131 q1739 rfl (Nat.le_of_ble_eq_true rfl) (Nat.le_of_ble_eq_true rfl) hl.1 rfl (Nat.le_of_ble_eq_true rfl) dX8_prop_12) (fun r2 h H locs cells slots hf hI => ?_)
  refine lv_if_ne (tgt := 40) hx hb dX8_prop_15 (by decide) (fun c15 => ?_) (fun c15 => ?_)
  · have hf := g_f c15 hf
    exact b_X8_prop_40 X _ _ _ _ _ _ hf hI (lv_sub hl [] rfl)
  · have hf := g_t c15 hf
    refine lv_aload_n hx hb dX8_prop_18 rfl (lv_at hl 0 rfl) ?_
    refine lv_iload_n hx hb dX8_prop_19 rfl (lv_at hl 2 rfl) ?_
    refine lv_iconst (v := (0 : Int32)) hx hb dX8_prop_20 (by decide) ?_
    refine lv_iconst (v := (3 : Int32)) hx hb dX8_prop_21 (by decide) ?_
    refine g_cBI hI hf (fun v9 h9 e9 l9 l9' => g_rS (b := 0) X hI l9 l9' ⟨Nat.le_refl _, Nat.le_refl _⟩ (As := [.int x2, .int (0 : Int32), .int (3 : Int32)]) (m_X8_in X.2.2.2.2.2.2.2.2.2.2.1 e9) ydX8_in q1634 q1635 q131 q1636 rfl (Nat.le_of_ble_eq_true rfl) (Nat.le_of_ble_eq_true rfl) hl.1 rfl (Nat.le_of_ble_eq_true rfl) dX8_prop_22) (fun r3 h H locs cells slots hf hI => ?_)
    refine lv_if_ne (tgt := 32) hx hb dX8_prop_25 (by decide) (fun c25 => ?_) (fun c25 => ?_)
    · have hf := g_f c25 hf
      refine lv_iconst (v := (0 : Int32)) hx hb dX8_prop_32 (by decide) ?_
      exact b_X8_prop_33 X _ _ _ _ _ _ _ _ _ _ _ hf hI (lv_sub hl [0, 1, 2] rfl)
    · have hf := g_t c25 hf
      refine lv_iconst (v := (1 : Int32)) hx hb dX8_prop_28 (by decide) ?_
      refine lv_goto (tgt := 33) hx hb dX8_prop_29 (by decide) ?_
      exact b_X8_prop_33 X _ _ _ _ _ _ _ _ _ _ _ hf hI (lv_sub hl [0, 1, 2] rfl)
/-! X1_fault -/
def f_X1_fault (a0 : Nat) : gM Int32 :=
    gB (gFI a0 0 11) fun v1 =>
    (gRet v1)
set_option maxHeartbeats 4000000 in
set_option maxRecDepth 100000 in
theorem m_X1_fault {G : gG} {l : Launch} (hfl : l.stackTraces = false) {a0 : Nat} {h h' : g_H} {r : Int32} (hf : (f_X1_fault a0).1 h = some (r, h')) : gMet G l yX1_fault (Cond.code yX1_fault cX1_fault 1 (some .int)) 1 20 [.ref a0] h (.inl (g_wI r)) h' := by
  refine g_head hfl ((f_X1_fault a0).2 h r h' hf) (plainFor_of_name (by decide)) (Nat.le_of_ble_eq_true rfl) (fun p e s m below meth c H locs cells slots ls X hI hl9 => ?_)
  have hl : lv_has ls 1 [(0, .ref a0)] := hl9
  have hx := X.1
  have hb := X.2.1
  have hown := X.2.2.2.1
  have hts := X.2.2.2.2.1
  unfold f_X1_fault at hf
  refine lv_aload_n hx hb dX1_fault_0 rfl (lv_at hl 0 rfl) ?_
  refine g_fi X hI hf fX1_11 q472 rfl rfl dX1_fault_1 (fun v1 hf => ?_)
  cases gRet_e hf
  exact g_retI X hI rfl dX1_fault_4
/-! X8_fault -/
def f_X8_fault (a0 : Nat) : gM Int32 :=
    gB (gPI a0 7 0 (0 : Int32)) fun _ =>
    gB (gFI a0 7 14) fun v1 =>
    (gRet v1)
set_option maxHeartbeats 4000000 in
set_option maxRecDepth 100000 in
theorem m_X8_fault {G : gG} {l : Launch} (hfl : l.stackTraces = false) {a0 : Nat} {h h' : g_H} {r : Int32} (hf : (f_X8_fault a0).1 h = some (r, h')) : gMet G l yX8_fault (Cond.code yX8_fault cX8_fault 1 (some .int)) 1 20 [.ref a0] h (.inl (g_wI r)) h' := by
  refine g_head hfl ((f_X8_fault a0).2 h r h' hf) (plainFor_of_name (by decide)) (Nat.le_of_ble_eq_true rfl) (fun p e s m below meth c H locs cells slots ls X hI hl9 => ?_)
  have hl : lv_has ls 1 [(0, .ref a0)] := hl9
  have hx := X.1
  have hb := X.2.1
  have hown := X.2.2.2.1
  have hts := X.2.2.2.2.1
  unfold f_X8_fault at hf
  refine lv_aload_n hx hb dX8_fault_0 rfl (lv_at hl 0 rfl) ?_
  refine lv_iconst (v := (0 : Int32)) hx hb dX8_fault_1 (by decide) ?_
  refine g_pi X hI hf fX8_0 q1444 rfl dX8_fault_2 (fun h H locs hf hI => ?_)
  refine lv_aload_n hx hb dX8_fault_5 rfl (lv_at hl 0 rfl) ?_
  refine g_fi X hI hf fX8_14 q1458 rfl rfl dX8_fault_6 (fun v1 hf => ?_)
  cases gRet_e hf
  exact g_retI X hI rfl dX8_fault_9
/-! X2_begins -/
def f_X2_begins (a0 : Nat) (x1 : Int32) : gM Unit :=
    gB (gPI a0 1 7 x1) fun _ =>
    gB (gPI a0 1 8 (0 : Int32)) fun _ =>
    gB (gPI a0 1 9 (0 : Int32)) fun _ =>
    gRet ()
set_option maxHeartbeats 4000000 in
set_option maxRecDepth 100000 in
theorem m_X2_begins {G : gG} {l : Launch} (hfl : l.stackTraces = false) {a0 : Nat} {x1 : Int32} {h h' : g_H} {r : Unit} (hf : (f_X2_begins a0 x1).1 h = some (r, h')) : gMet G l yX2_begins (Cond.code yX2_begins cX2_begins 2 none) 1 20 [.ref a0, .int x1] h (.inl (g_wU r)) h' := by
  refine g_head hfl ((f_X2_begins a0 x1).2 h r h' hf) (plainFor_of_name (by decide)) (Nat.le_of_ble_eq_true rfl) (fun p e s m below meth c H locs cells slots ls X hI hl9 => ?_)
  have hl : lv_has ls 2 [(0, .ref a0), (1, .int x1)] := hl9
  have hx := X.1
  have hb := X.2.1
  have hown := X.2.2.2.1
  have hts := X.2.2.2.2.1
  unfold f_X2_begins at hf
  refine lv_aload_n hx hb dX2_begins_0 rfl (lv_at hl 0 rfl) ?_
  refine lv_iload_n hx hb dX2_begins_1 rfl (lv_at hl 1 rfl) ?_
  refine g_pi X hI hf fX2_7 q404 rfl dX2_begins_2 (fun h H locs hf hI => ?_)
  refine lv_aload_n hx hb dX2_begins_5 rfl (lv_at hl 0 rfl) ?_
  refine lv_iconst (v := (0 : Int32)) hx hb dX2_begins_6 (by decide) ?_
  refine g_pi X hI hf fX2_8 q405 rfl dX2_begins_7 (fun h H locs hf hI => ?_)
  refine lv_aload_n hx hb dX2_begins_10 rfl (lv_at hl 0 rfl) ?_
  refine lv_iconst (v := (0 : Int32)) hx hb dX2_begins_11 (by decide) ?_
  refine g_pi X hI hf fX2_9 q406 rfl dX2_begins_12 (fun h H locs hf hI => ?_)
  cases gRet_e hf
  exact g_retU X hI rfl dX2_begins_15
/-! X2_sign -/
abbrev w_X2_sign_66 (G : gG) (l : Launch) (p : Program) (e : Env) (s : State) (m : MethodId) (args : Array Value) (below : List Frame) (meth : Method) (c : Code) (h0 : g_H) (r : Int32) (h' : g_H) (k : Int32 → gM Int32) : Prop := ∀ (u0 : Int32) (h : g_H) (H : Heap) (locs : List Loc) (cells slots : Nat) (ls : Array Slot), (k u0).1 h = some (r, h') → gI G h0 h H locs cells slots → lv_has ls 1 [] → W p l e (g_rm 1 20 h0 h') s m args below meth c H locs cells slots (gQ G below args s h0 h' (.inl (g_wI r))) (F0 m 66 ls [.int u0])
abbrev w_X2_sign_38 (G : gG) (l : Launch) (p : Program) (e : Env) (s : State) (m : MethodId) (args : Array Value) (below : List Frame) (meth : Method) (c : Code) (h0 : g_H) (r : Int32) (h' : g_H) (k : Nat → gM Int32) : Prop := ∀ (a0 : Nat) (h : g_H) (H : Heap) (locs : List Loc) (cells slots : Nat) (ls : Array Slot), (k a0).1 h = some (r, h') → gI G h0 h H locs cells slots → lv_has ls 1 [(0, .ref a0)] → W p l e (g_rm 1 20 h0 h') s m args below meth c H locs cells slots (gQ G below args s h0 h' (.inl (g_wI r))) (F0 m 38 ls [])
abbrev w_X2_sign_0 (G : gG) (l : Launch) (p : Program) (e : Env) (s : State) (m : MethodId) (args : Array Value) (below : List Frame) (meth : Method) (c : Code) (h0 : g_H) (r : Int32) (h' : g_H) (k : Nat → gM Int32) : Prop := ∀ (a0 : Nat) (h : g_H) (H : Heap) (locs : List Loc) (cells slots : Nat) (ls : Array Slot), (k a0).1 h = some (r, h') → gI G h0 h H locs cells slots → lv_has ls 1 [(0, .ref a0)] → W p l e (g_rm 1 20 h0 h') s m args below meth c H locs cells slots (gQ G below args s h0 h' (.inl (g_wI r))) (F0 m 0 ls [])
def f_X2_sign_66 (u0 : Int32) : gM Int32 :=
    (gRet u0)
set_option maxHeartbeats 4000000 in
set_option maxRecDepth 100000 in
theorem b_X2_sign_66 {G : gG} {l : Launch} {p : Program} {e : Env} {s : State} {m : MethodId} {args : Array Value} {below : List Frame} {meth : Method} {c : Code} {h0 : g_H} {r : Int32} {h' : g_H} (X : gX G l yX2_sign.cls cX2_sign 1 (some .int) [] yX2_sign.name p s m args meth c) : w_X2_sign_66 G l p e s m args below meth c h0 r h' (f_X2_sign_66) := by
  have hx := X.1
  have hb := X.2.1
  have hown := X.2.2.2.1
  have hts := X.2.2.2.2.1
  intro u0 h H locs cells slots ls hf hI hl
  unfold f_X2_sign_66 at hf
  cases gRet_e hf
  exact g_retI X hI rfl dX2_sign_66
def f_X2_sign_38 (a0 : Nat) : gM Int32 :=
    gB (gFI a0 1 8) fun v101 =>
    gB (gFI a0 1 7) fun v102 =>
    gIf (v102 ≤ v101)
    (f_X2_sign_66 (-1 : Int32))
    (gB (gFR a0 1 0) fun v103 =>
    gB (gFI a0 1 8) fun v104 =>
    gB (gAI v103 1 v104) fun v105 =>
    f_X2_sign_66 (v105 &&& (255 : Int32)))
set_option maxHeartbeats 4000000 in
set_option maxRecDepth 100000 in
theorem b_X2_sign_38 {G : gG} {l : Launch} {p : Program} {e : Env} {s : State} {m : MethodId} {args : Array Value} {below : List Frame} {meth : Method} {c : Code} {h0 : g_H} {r : Int32} {h' : g_H} (X : gX G l yX2_sign.cls cX2_sign 1 (some .int) [] yX2_sign.name p s m args meth c) : w_X2_sign_38 G l p e s m args below meth c h0 r h' (f_X2_sign_38) := by
  have hx := X.1
  have hb := X.2.1
  have hown := X.2.2.2.1
  have hts := X.2.2.2.2.1
  intro a0 h H locs cells slots ls hf hI hl
  unfold f_X2_sign_38 at hf
  refine lv_aload_n hx hb dX2_sign_38 rfl (lv_at hl 0 rfl) ?_
  refine g_fi X hI hf fX2_8 q405 rfl rfl dX2_sign_39 (fun v101 hf => ?_)
  refine lv_aload_n hx hb dX2_sign_42 rfl (lv_at hl 0 rfl) ?_
  refine g_fi X hI hf fX2_7 q404 rfl rfl dX2_sign_43 (fun v102 hf => ?_)
  refine lv_icmp_ge (tgt := 65) hx hb dX2_sign_46 (by decide) (fun c46 => ?_) (fun c46 => ?_)
  · have hf := g_t c46 hf
    refine lv_iconst (v := (-1 : Int32)) hx hb dX2_sign_65 (by decide) ?_
    exact b_X2_sign_66 X _ _ _ _ _ _ _ hf hI (lv_sub hl [] rfl)
  · have hf := g_f c46 hf
    refine lv_aload_n hx hb dX2_sign_49 rfl (lv_at hl 0 rfl) ?_
    refine g_fr X hI hf fX2_0 q395 rfl rfl dX2_sign_50 (fun v103 hf => ?_)
    refine lv_aload_n hx hb dX2_sign_53 rfl (lv_at hl 0 rfl) ?_
    refine g_fi X hI hf fX2_8 q405 rfl rfl dX2_sign_54 (fun v104 hf => ?_)
    refine g_ai1 X hI hf dX2_sign_57 (fun v105 hf => ?_)
    refine lv_sipush (v := (255 : Int32)) hx hb dX2_sign_58 (by decide) ?_
    refine lv_iand hx hb dX2_sign_61 ?_
    refine lv_goto (tgt := 66) hx hb dX2_sign_62 (by decide) ?_
    exact b_X2_sign_66 X _ _ _ _ _ _ _ hf hI (lv_sub hl [] rfl)
def f_X2_sign_0 : Nat → Nat → gM Int32
  | 0, _ => gFail
  | n + 1, a0 =>
    gB (gFI a0 1 8) fun v101 =>
    gB (gFI a0 1 7) fun v102 =>
    gIf (v102 ≤ v101)
    (f_X2_sign_38 a0)
    (gB (gFR a0 1 0) fun v103 =>
    gB (gFI a0 1 8) fun v104 =>
    gB (gAI v103 1 v104) fun v105 =>
    gIf (v105 = (32 : Int32))
    (gB (gFI a0 1 8) fun v106 =>
    gB (gPI a0 1 8 (v106 + (1 : Int32))) fun _ =>
    f_X2_sign_0 n a0)
    (f_X2_sign_38 a0))
set_option maxHeartbeats 4000000 in
set_option maxRecDepth 100000 in
theorem b_X2_sign_0 {G : gG} {l : Launch} {p : Program} {e : Env} {s : State} {m : MethodId} {args : Array Value} {below : List Frame} {meth : Method} {c : Code} {h0 : g_H} {r : Int32} {h' : g_H} (X : gX G l yX2_sign.cls cX2_sign 1 (some .int) [] yX2_sign.name p s m args meth c) : ∀ n : Nat, w_X2_sign_0 G l p e s m args below meth c h0 r h' (f_X2_sign_0 n) := by
  have hx := X.1
  have hb := X.2.1
  have hown := X.2.2.2.1
  have hts := X.2.2.2.2.1
  intro n
  induction n with
  | zero =>
    intro a0 h H locs cells slots ls hf hI hl
    exact (gFail_f hf).elim
  | succ n ih =>
    intro a0 h H locs cells slots ls hf hI hl
    rw [f_X2_sign_0] at hf
    refine lv_aload_n hx hb dX2_sign_0 rfl (lv_at hl 0 rfl) ?_
    refine g_fi X hI hf fX2_8 q405 rfl rfl dX2_sign_1 (fun v101 hf => ?_)
    refine lv_aload_n hx hb dX2_sign_4 rfl (lv_at hl 0 rfl) ?_
    refine g_fi X hI hf fX2_7 q404 rfl rfl dX2_sign_5 (fun v102 hf => ?_)
    refine lv_icmp_ge (tgt := 38) hx hb dX2_sign_8 (by decide) (fun c8 => ?_) (fun c8 => ?_)
    · have hf := g_t c8 hf
      exact b_X2_sign_38 X _ _ _ _ _ _ _ hf hI (lv_sub hl [0] rfl)
    · have hf := g_f c8 hf
      refine lv_aload_n hx hb dX2_sign_11 rfl (lv_at hl 0 rfl) ?_
      refine g_fr X hI hf fX2_0 q395 rfl rfl dX2_sign_12 (fun v103 hf => ?_)
      refine lv_aload_n hx hb dX2_sign_15 rfl (lv_at hl 0 rfl) ?_
      refine g_fi X hI hf fX2_8 q405 rfl rfl dX2_sign_16 (fun v104 hf => ?_)
      refine g_ai1 X hI hf dX2_sign_19 (fun v105 hf => ?_)
      refine lv_bipush (v := (32 : Int32)) hx hb dX2_sign_20 (by decide) ?_
      refine lv_icmp_ne (tgt := 38) hx hb dX2_sign_22 (by decide) (fun c22 => ?_) (fun c22 => ?_)
      · have hf := g_f c22 hf
        exact b_X2_sign_38 X _ _ _ _ _ _ _ hf hI (lv_sub hl [0] rfl)
      · have hf := g_t c22 hf
        refine lv_aload_n hx hb dX2_sign_25 rfl (lv_at hl 0 rfl) ?_
        refine lv_dup hx hb dX2_sign_26 rfl ?_
        refine g_fi X hI hf fX2_8 q405 rfl rfl dX2_sign_27 (fun v106 hf => ?_)
        refine lv_iconst (v := (1 : Int32)) hx hb dX2_sign_30 (by decide) ?_
        refine lv_iadd hx hb dX2_sign_31 ?_
        refine g_pi X hI hf fX2_8 q405 rfl dX2_sign_32 (fun h H locs hf hI => ?_)
        refine lv_goto (tgt := 0) hx hb dX2_sign_35 (by decide) ?_
        exact ih _ _ _ _ _ _ _ hf hI (lv_sub hl [0] rfl)
def f_X2_sign (a0 : Nat) : gM Int32 :=
    f_X2_sign_0 gN a0
set_option maxHeartbeats 4000000 in
set_option maxRecDepth 100000 in
theorem m_X2_sign {G : gG} {l : Launch} (hfl : l.stackTraces = false) {a0 : Nat} {h h' : g_H} {r : Int32} (hf : (f_X2_sign a0).1 h = some (r, h')) : gMet G l yX2_sign (Cond.code yX2_sign cX2_sign 1 (some .int)) 1 20 [.ref a0] h (.inl (g_wI r)) h' := by
  refine g_head hfl ((f_X2_sign a0).2 h r h' hf) (plainFor_of_name (by decide)) (Nat.le_of_ble_eq_true rfl) (fun p e s m below meth c H locs cells slots ls X hI hl9 => ?_)
  have hl : lv_has ls 1 [(0, .ref a0)] := hl9
  have hx := X.1
  have hb := X.2.1
  have hown := X.2.2.2.1
  have hts := X.2.2.2.2.1
  unfold f_X2_sign at hf
  exact b_X2_sign_0 X gN _ _ _ _ _ _ _ hf hI (lv_sub hl [0] rfl)
/-! X2_fail -/
def f_X2_fail (a0 : Nat) (x1 : Int32) : gM (Unit ⊕ gE) :=
    gB (gFR a0 1 5) fun v1 =>
    gB (gPI v1 5 6 x1) fun _ =>
    gB (gFR a0 1 5) fun v2 =>
    gB (gCk v2 5) fun _ =>
    gRet (.inr (5, v2))
set_option maxHeartbeats 4000000 in
set_option maxRecDepth 100000 in
theorem m_X2_fail {G : gG} {l : Launch} (hfl : l.stackTraces = false) {a0 : Nat} {x1 : Int32} {h h' : g_H} {r : (Unit ⊕ gE)} (hf : (f_X2_fail a0 x1).1 h = some (r, h')) : gMet G l yX2_fail (Cond.code yX2_fail cX2_fail 2 none) 1 20 [.ref a0, .int x1] h (g_w g_wU r) h' := by
  refine g_head hfl ((f_X2_fail a0 x1).2 h r h' hf) (plainFor_of_name (by decide)) (Nat.le_of_ble_eq_true rfl) (fun p e s m below meth c H locs cells slots ls X hI hl9 => ?_)
  have hl : lv_has ls 2 [(0, .ref a0), (1, .int x1)] := hl9
  have hx := X.1
  have hb := X.2.1
  have hown := X.2.2.2.1
  have hts := X.2.2.2.2.1
  unfold f_X2_fail at hf
  refine lv_aload_n hx hb dX2_fail_0 rfl (lv_at hl 0 rfl) ?_
  refine g_fr X hI hf fX2_5 q402 rfl rfl dX2_fail_1 (fun v1 hf => ?_)
  refine lv_iload_n hx hb dX2_fail_4 rfl (lv_at hl 1 rfl) ?_
  refine g_piN X hI hf fX6_6 q378 rfl dX2_fail_5 (fun h H locs hf hI => ?_)
  refine lv_aload_n hx hb dX2_fail_8 rfl (lv_at hl 0 rfl) ?_
  refine g_fr X hI hf fX2_5 q402 rfl rfl dX2_fail_9 (fun v2 hf => ?_)
  obtain ⟨hs, hf⟩ := gCk_b hf
  cases gRet_e hf
  exact g_athrow X hI (by decide) hs rfl rfl dX2_fail_12
/-! X2_more -/
abbrev w_X2_more_92 (G : gG) (l : Launch) (p : Program) (e : Env) (s : State) (m : MethodId) (args : Array Value) (below : List Frame) (meth : Method) (c : Code) (h0 : g_H) (r : (Int32 ⊕ gE)) (h' : g_H) (k : Int32 → gM (Int32 ⊕ gE)) : Prop := ∀ (x3 : Int32) (h : g_H) (H : Heap) (locs : List Loc) (cells slots : Nat) (ls : Array Slot), (k x3).1 h = some (r, h') → gI G h0 h H locs cells slots → lv_has ls 5 [(3, .int x3)] → W p l e (g_rm 2 41 h0 h') s m args below meth c H locs cells slots (gQ G below args s h0 h' (g_w g_wI r)) (F0 m 92 ls [])
abbrev w_X2_more_73 (G : gG) (l : Launch) (p : Program) (e : Env) (s : State) (m : MethodId) (args : Array Value) (below : List Frame) (meth : Method) (c : Code) (h0 : g_H) (r : (Int32 ⊕ gE)) (h' : g_H) (k : Nat → Int32 → Int32 → Int32 → Int32 → gM (Int32 ⊕ gE)) : Prop := ∀ (a0 : Nat) (x1 : Int32) (x2 : Int32) (x3 : Int32) (u0 : Int32) (h : g_H) (H : Heap) (locs : List Loc) (cells slots : Nat) (ls : Array Slot), (k a0 x1 x2 x3 u0).1 h = some (r, h') → gI G h0 h H locs cells slots → lv_has ls 5 [(0, .ref a0), (1, .int x1), (2, .int x2), (3, .int x3)] → W p l e (g_rm 2 41 h0 h') s m args below meth c H locs cells slots (gQ G below args s h0 h' (g_w g_wI r)) (F0 m 73 ls [.int u0])
abbrev w_X2_more_61 (G : gG) (l : Launch) (p : Program) (e : Env) (s : State) (m : MethodId) (args : Array Value) (below : List Frame) (meth : Method) (c : Code) (h0 : g_H) (r : (Int32 ⊕ gE)) (h' : g_H) (k : Nat → Int32 → Int32 → Int32 → gM (Int32 ⊕ gE)) : Prop := ∀ (a0 : Nat) (x1 : Int32) (x2 : Int32) (x3 : Int32) (h : g_H) (H : Heap) (locs : List Loc) (cells slots : Nat) (ls : Array Slot), (k a0 x1 x2 x3).1 h = some (r, h') → gI G h0 h H locs cells slots → lv_has ls 5 [(0, .ref a0), (1, .int x1), (2, .int x2), (3, .int x3)] → W p l e (g_rm 2 41 h0 h') s m args below meth c H locs cells slots (gQ G below args s h0 h' (g_w g_wI r)) (F0 m 61 ls [])
abbrev w_X2_more_42 (G : gG) (l : Launch) (p : Program) (e : Env) (s : State) (m : MethodId) (args : Array Value) (below : List Frame) (meth : Method) (c : Code) (h0 : g_H) (r : (Int32 ⊕ gE)) (h' : g_H) (k : Nat → Int32 → Int32 → Int32 → gM (Int32 ⊕ gE)) : Prop := ∀ (a0 : Nat) (x1 : Int32) (x2 : Int32) (u0 : Int32) (h : g_H) (H : Heap) (locs : List Loc) (cells slots : Nat) (ls : Array Slot), (k a0 x1 x2 u0).1 h = some (r, h') → gI G h0 h H locs cells slots → lv_has ls 5 [(0, .ref a0), (1, .int x1), (2, .int x2)] → W p l e (g_rm 2 41 h0 h') s m args below meth c H locs cells slots (gQ G below args s h0 h' (g_w g_wI r)) (F0 m 42 ls [.int u0])
abbrev w_X2_more_29 (G : gG) (l : Launch) (p : Program) (e : Env) (s : State) (m : MethodId) (args : Array Value) (below : List Frame) (meth : Method) (c : Code) (h0 : g_H) (r : (Int32 ⊕ gE)) (h' : g_H) (k : Nat → Int32 → Int32 → gM (Int32 ⊕ gE)) : Prop := ∀ (a0 : Nat) (x1 : Int32) (x2 : Int32) (h : g_H) (H : Heap) (locs : List Loc) (cells slots : Nat) (ls : Array Slot), (k a0 x1 x2).1 h = some (r, h') → gI G h0 h H locs cells slots → lv_has ls 5 [(0, .ref a0), (1, .int x1), (2, .int x2)] → W p l e (g_rm 2 41 h0 h') s m args below meth c H locs cells slots (gQ G below args s h0 h' (g_w g_wI r)) (F0 m 29 ls [])
def f_X2_more_92 (x3 : Int32) : gM (Int32 ⊕ gE) :=
    gB (gGd (x3 = 0 ∨ x3 = 1)) fun _ =>
    (gRet (.inl x3))
set_option maxHeartbeats 4000000 in
set_option maxRecDepth 100000 in
theorem b_X2_more_92 {G : gG} {l : Launch} {p : Program} {e : Env} {s : State} {m : MethodId} {args : Array Value} {below : List Frame} {meth : Method} {c : Code} {h0 : g_H} {r : (Int32 ⊕ gE)} {h' : g_H} (X : gX G l yX2_more.cls cX2_more 5 (some .boolean) [] yX2_more.name p s m args meth c) : w_X2_more_92 G l p e s m args below meth c h0 r h' (f_X2_more_92) := by
  have hx := X.1
  have hb := X.2.1
  have hown := X.2.2.2.1
  have hts := X.2.2.2.2.1
  intro x3 h H locs cells slots ls hf hI hl
  unfold f_X2_more_92 at hf
  refine lv_iload_n hx hb dX2_more_92 rfl (lv_at hl 0 rfl) ?_
  obtain ⟨hz, hf⟩ := gB_gd hf
  cases gRet_e hf
  exact g_retZ X hI hz rfl dX2_more_93
def f_X2_more_73 (a0 : Nat) (x1 : Int32) (x2 : Int32) (x3 : Int32) (u0 : Int32) : gM (Int32 ⊕ gE) :=
    gIf (x3 = 0)
    (f_X2_more_92 x3)
    (gIf (x1 = x2)
    (gB (gFI a0 1 8) fun v101 =>
    gB (gCk a0 1) fun _ =>
    gT (f_X2_fail a0 v101) fun _ =>
    f_X2_more_92 x3)
    (f_X2_more_92 x3))
set_option maxHeartbeats 4000000 in
set_option maxRecDepth 100000 in
theorem b_X2_more_73 {G : gG} {l : Launch} {p : Program} {e : Env} {s : State} {m : MethodId} {args : Array Value} {below : List Frame} {meth : Method} {c : Code} {h0 : g_H} {r : (Int32 ⊕ gE)} {h' : g_H} (X : gX G l yX2_more.cls cX2_more 5 (some .boolean) [] yX2_more.name p s m args meth c) : w_X2_more_73 G l p e s m args below meth c h0 r h' (f_X2_more_73) := by
  have hx := X.1
  have hb := X.2.1
  have hown := X.2.2.2.1
  have hts := X.2.2.2.2.1
  intro a0 x1 x2 x3 u0 h H locs cells slots ls hf hI hl
  unfold f_X2_more_73 at hf
  refine lv_istore (lv' := [(4, .int u0), (0, .ref a0), (1, .int x1), (2, .int x2), (3, .int x3)]) hx hb dX2_more_73 hl (by decide) rfl (fun ls hl => ?_)
  refine lv_iload_n hx hb dX2_more_75 rfl (lv_at hl 4 rfl) ?_
  refine lv_if_eq (tgt := 92) hx hb dX2_more_76 (by decide) (fun c76 => ?_) (fun c76 => ?_)
  · have hf := g_t c76 hf
    exact b_X2_more_92 X _ _ _ _ _ _ _ hf hI (lv_sub hl [4] rfl)
  · have hf := g_f c76 hf
    refine lv_iload_n hx hb dX2_more_79 rfl (lv_at hl 2 rfl) ?_
    refine lv_iload_n hx hb dX2_more_80 rfl (lv_at hl 3 rfl) ?_
    refine lv_icmp_ne (tgt := 92) hx hb dX2_more_81 (by decide) (fun c81 => ?_) (fun c81 => ?_)
    · have hf := g_f c81 hf
      exact b_X2_more_92 X _ _ _ _ _ _ _ hf hI (lv_sub hl [4] rfl)
    · have hf := g_t c81 hf
      refine lv_aload_n hx hb dX2_more_84 rfl (lv_at hl 1 rfl) ?_
      refine lv_aload_n hx hb dX2_more_85 rfl (lv_at hl 1 rfl) ?_
      refine g_fi X hI hf fX2_8 q405 rfl rfl dX2_more_86 (fun v101 hf => ?_)
      obtain ⟨hs, hf⟩ := gCk_b hf
      refine g_cTU X hI (by decide) hf (fun v9 h9 e9 l9 l9' => g_rV X hI l9 l9' ⟨Nat.le_refl _, Nat.le_refl _⟩ (As := [.int v101]) (m_X2_fail X.2.2.2.2.2.2.2.2.2.2.1 e9) ydX2_fail hs rfl rfl q813 q815 qs19 q122 q816 rfl (Nat.le_of_ble_eq_true rfl) (Nat.le_of_ble_eq_true rfl) hl.1 rfl (Nat.le_of_ble_eq_true rfl) dX2_more_89) (fun r102 h H locs cells slots hf hI => ?_)
      exact b_X2_more_92 X _ _ _ _ _ _ _ hf hI (lv_sub hl [4] rfl)
def f_X2_more_61 (a0 : Nat) (x1 : Int32) (x2 : Int32) (x3 : Int32) : gM (Int32 ⊕ gE) :=
    gIf (x3 = 0)
    (f_X2_more_73 a0 x1 x2 x3 (-1 : Int32))
    (gB (gCk a0 1) fun _ =>
    gB (f_X2_sign a0) fun r101 =>
    f_X2_more_73 a0 x1 x2 x3 r101)
set_option maxHeartbeats 4000000 in
set_option maxRecDepth 100000 in
theorem b_X2_more_61 {G : gG} {l : Launch} {p : Program} {e : Env} {s : State} {m : MethodId} {args : Array Value} {below : List Frame} {meth : Method} {c : Code} {h0 : g_H} {r : (Int32 ⊕ gE)} {h' : g_H} (X : gX G l yX2_more.cls cX2_more 5 (some .boolean) [] yX2_more.name p s m args meth c) : w_X2_more_61 G l p e s m args below meth c h0 r h' (f_X2_more_61) := by
  have hx := X.1
  have hb := X.2.1
  have hown := X.2.2.2.1
  have hts := X.2.2.2.2.1
  intro a0 x1 x2 x3 h H locs cells slots ls hf hI hl
  unfold f_X2_more_61 at hf
  refine lv_iload_n hx hb dX2_more_61 rfl (lv_at hl 3 rfl) ?_
  refine lv_if_eq (tgt := 72) hx hb dX2_more_62 (by decide) (fun c62 => ?_) (fun c62 => ?_)
  · have hf := g_t c62 hf
    refine lv_iconst (v := (-1 : Int32)) hx hb dX2_more_72 (by decide) ?_
    exact b_X2_more_73 X _ _ _ _ _ _ _ _ _ _ _ hf hI (lv_sub hl [0, 1, 2, 3] rfl)
  · have hf := g_f c62 hf
    refine lv_aload_n hx hb dX2_more_65 rfl (lv_at hl 0 rfl) ?_
    obtain ⟨hs, hf⟩ := gCk_b hf
    refine g_cBI hI hf (fun v9 h9 e9 l9 l9' => g_rV X hI l9 l9' ⟨Nat.le_refl _, Nat.le_refl _⟩ (As := []) (m_X2_sign X.2.2.2.2.2.2.2.2.2.2.1 e9) ydX2_sign hs rfl rfl q809 q811 qs18 q122 q812 rfl (Nat.le_of_ble_eq_true rfl) (Nat.le_of_ble_eq_true rfl) hl.1 rfl (Nat.le_of_ble_eq_true rfl) dX2_more_66) (fun r101 h H locs cells slots hf hI => ?_)
    refine lv_goto (tgt := 73) hx hb dX2_more_69 (by decide) ?_
    exact b_X2_more_73 X _ _ _ _ _ _ _ _ _ _ _ hf hI (lv_sub hl [0, 1, 2, 3] rfl)
def f_X2_more_42 (a0 : Nat) (x1 : Int32) (x2 : Int32) (u0 : Int32) : gM (Int32 ⊕ gE) :=
    gIf (u0 = 0)
    (f_X2_more_61 a0 x1 x2 u0)
    (gIf (x1 ≤ 0)
    (f_X2_more_61 a0 x1 x2 u0)
    (gB (gFI a0 1 8) fun v101 =>
    gB (gPI a0 1 8 (v101 + (1 : Int32))) fun _ =>
    f_X2_more_61 a0 x1 x2 u0))
set_option maxHeartbeats 4000000 in
set_option maxRecDepth 100000 in
theorem b_X2_more_42 {G : gG} {l : Launch} {p : Program} {e : Env} {s : State} {m : MethodId} {args : Array Value} {below : List Frame} {meth : Method} {c : Code} {h0 : g_H} {r : (Int32 ⊕ gE)} {h' : g_H} (X : gX G l yX2_more.cls cX2_more 5 (some .boolean) [] yX2_more.name p s m args meth c) : w_X2_more_42 G l p e s m args below meth c h0 r h' (f_X2_more_42) := by
  have hx := X.1
  have hb := X.2.1
  have hown := X.2.2.2.1
  have hts := X.2.2.2.2.1
  intro a0 x1 x2 u0 h H locs cells slots ls hf hI hl
  unfold f_X2_more_42 at hf
  refine lv_istore_n (lv' := [(3, .int u0), (0, .ref a0), (1, .int x1), (2, .int x2)]) hx hb dX2_more_42 rfl hl (by decide) rfl (fun ls hl => ?_)
  refine lv_iload_n hx hb dX2_more_43 rfl (lv_at hl 0 rfl) ?_
  refine lv_if_eq (tgt := 61) hx hb dX2_more_44 (by decide) (fun c44 => ?_) (fun c44 => ?_)
  · have hf := g_t c44 hf
    exact b_X2_more_61 X _ _ _ _ _ _ _ _ _ _ hf hI (lv_sub hl [1, 2, 3, 0] rfl)
  · have hf := g_f c44 hf
    refine lv_iload_n hx hb dX2_more_47 rfl (lv_at hl 2 rfl) ?_
    refine lv_if_le (tgt := 61) hx hb dX2_more_48 (by decide) (fun c48 => ?_) (fun c48 => ?_)
    · have hf := g_t c48 hf
      exact b_X2_more_61 X _ _ _ _ _ _ _ _ _ _ hf hI (lv_sub hl [1, 2, 3, 0] rfl)
    · have hf := g_f c48 hf
      refine lv_aload_n hx hb dX2_more_51 rfl (lv_at hl 1 rfl) ?_
      refine lv_dup hx hb dX2_more_52 rfl ?_
      refine g_fi X hI hf fX2_8 q405 rfl rfl dX2_more_53 (fun v101 hf => ?_)
      refine lv_iconst (v := (1 : Int32)) hx hb dX2_more_56 (by decide) ?_
      refine lv_iadd hx hb dX2_more_57 ?_
      refine g_pi X hI hf fX2_8 q405 rfl dX2_more_58 (fun h H locs hf hI => ?_)
      exact b_X2_more_61 X _ _ _ _ _ _ _ _ _ _ hf hI (lv_sub hl [1, 2, 3, 0] rfl)
def f_X2_more_29 (a0 : Nat) (x1 : Int32) (x2 : Int32) : gM (Int32 ⊕ gE) :=
    gB (gCk a0 1) fun _ =>
    gB (f_X2_sign a0) fun r101 =>
    gIf (r101 = (-1 : Int32))
    (f_X2_more_42 a0 x1 x2 (0 : Int32))
    (f_X2_more_42 a0 x1 x2 (1 : Int32))
set_option maxHeartbeats 4000000 in
set_option maxRecDepth 100000 in
theorem b_X2_more_29 {G : gG} {l : Launch} {p : Program} {e : Env} {s : State} {m : MethodId} {args : Array Value} {below : List Frame} {meth : Method} {c : Code} {h0 : g_H} {r : (Int32 ⊕ gE)} {h' : g_H} (X : gX G l yX2_more.cls cX2_more 5 (some .boolean) [] yX2_more.name p s m args meth c) : w_X2_more_29 G l p e s m args below meth c h0 r h' (f_X2_more_29) := by
  have hx := X.1
  have hb := X.2.1
  have hown := X.2.2.2.1
  have hts := X.2.2.2.2.1
  intro a0 x1 x2 h H locs cells slots ls hf hI hl
  unfold f_X2_more_29 at hf
  refine lv_aload_n hx hb dX2_more_29 rfl (lv_at hl 0 rfl) ?_
  obtain ⟨hs, hf⟩ := gCk_b hf
  refine g_cBI hI hf (fun v9 h9 e9 l9 l9' => g_rV X hI l9 l9' ⟨Nat.le_refl _, Nat.le_refl _⟩ (As := []) (m_X2_sign X.2.2.2.2.2.2.2.2.2.2.1 e9) ydX2_sign hs rfl rfl q809 q811 qs18 q122 q812 rfl (Nat.le_of_ble_eq_true rfl) (Nat.le_of_ble_eq_true rfl) hl.1 rfl (Nat.le_of_ble_eq_true rfl) dX2_more_30) (fun r101 h H locs cells slots hf hI => ?_)
  refine lv_iconst (v := (-1 : Int32)) hx hb dX2_more_33 (by decide) ?_
  refine lv_icmp_eq (tgt := 41) hx hb dX2_more_34 (by decide) (fun c34 => ?_) (fun c34 => ?_)
  · have hf := g_t c34 hf
    refine lv_iconst (v := (0 : Int32)) hx hb dX2_more_41 (by decide) ?_
    exact b_X2_more_42 X _ _ _ _ _ _ _ _ _ _ hf hI (lv_sub hl [0, 1, 2] rfl)
  · have hf := g_f c34 hf
    refine lv_iconst (v := (1 : Int32)) hx hb dX2_more_37 (by decide) ?_
    refine lv_goto (tgt := 42) hx hb dX2_more_38 (by decide) ?_
    exact b_X2_more_42 X _ _ _ _ _ _ _ _ _ _ hf hI (lv_sub hl [0, 1, 2] rfl)
def f_X2_more (a0 : Nat) (x1 : Int32) (x2 : Int32) : gM (Int32 ⊕ gE) :=
    gIf (x1 ≤ 0)
    (f_X2_more_29 a0 x1 x2)
    (gB (gCk a0 1) fun _ =>
    gB (f_X2_sign a0) fun r1 =>
    gIf (r1 = (-1 : Int32))
    (f_X2_more_29 a0 x1 x2)
    (gB (gCk a0 1) fun _ =>
    gB (f_X2_sign a0) fun r2 =>
    gIf (r2 = (59 : Int32))
    (f_X2_more_29 a0 x1 x2)
    (gB (gFI a0 1 8) fun v3 =>
    gB (gCk a0 1) fun _ =>
    gT (f_X2_fail a0 v3) fun _ =>
    f_X2_more_29 a0 x1 x2)))
set_option maxHeartbeats 4000000 in
set_option maxRecDepth 100000 in
theorem m_X2_more {G : gG} {l : Launch} (hfl : l.stackTraces = false) {a0 : Nat} {x1 : Int32} {x2 : Int32} {h h' : g_H} {r : (Int32 ⊕ gE)} (hf : (f_X2_more a0 x1 x2).1 h = some (r, h')) : gMet G l yX2_more (Cond.code yX2_more cX2_more 5 (some .boolean)) 2 41 [.ref a0, .int x1, .int x2] h (g_w g_wI r) h' := by
  refine g_head hfl ((f_X2_more a0 x1 x2).2 h r h' hf) (plainFor_of_name (by decide)) (Nat.le_of_ble_eq_true rfl) (fun p e s m below meth c H locs cells slots ls X hI hl9 => ?_)
  have hl : lv_has ls 5 [(0, .ref a0), (1, .int x1), (2, .int x2)] := hl9
  have hx := X.1
  have hb := X.2.1
  have hown := X.2.2.2.1
  have hts := X.2.2.2.2.1
  unfold f_X2_more at hf
  refine lv_iload_n hx hb dX2_more_0 rfl (lv_at hl 1 rfl) ?_
  refine lv_if_le (tgt := 29) hx hb dX2_more_1 (by decide) (fun c1 => ?_) (fun c1 => ?_)
  · have hf := g_t c1 hf
    exact b_X2_more_29 X _ _ _ _ _ _ _ _ _ hf hI (lv_sub hl [0, 1, 2] rfl)
  · have hf := g_f c1 hf
    refine lv_aload_n hx hb dX2_more_4 rfl (lv_at hl 0 rfl) ?_
    obtain ⟨hs, hf⟩ := gCk_b hf
    refine g_cBI hI hf (fun v9 h9 e9 l9 l9' => g_rV X hI l9 l9' ⟨Nat.le_refl _, Nat.le_refl _⟩ (As := []) (m_X2_sign X.2.2.2.2.2.2.2.2.2.2.1 e9) ydX2_sign hs rfl rfl q809 q811 qs18 q122 q812 rfl (Nat.le_of_ble_eq_true rfl) (Nat.le_of_ble_eq_true rfl) hl.1 rfl (Nat.le_of_ble_eq_true rfl) dX2_more_5) (fun r1 h H locs cells slots hf hI => ?_)
    refine lv_iconst (v := (-1 : Int32)) hx hb dX2_more_8 (by decide) ?_
    refine lv_icmp_eq (tgt := 29) hx hb dX2_more_9 (by decide) (fun c9 => ?_) (fun c9 => ?_)
    · have hf := g_t c9 hf
      exact b_X2_more_29 X _ _ _ _ _ _ _ _ _ hf hI (lv_sub hl [0, 1, 2] rfl)
    · have hf := g_f c9 hf
      refine lv_aload_n hx hb dX2_more_12 rfl (lv_at hl 0 rfl) ?_
      obtain ⟨hs, hf⟩ := gCk_b hf
      refine g_cBI hI hf (fun v9 h9 e9 l9 l9' => g_rV X hI l9 l9' ⟨Nat.le_refl _, Nat.le_refl _⟩ (As := []) (m_X2_sign X.2.2.2.2.2.2.2.2.2.2.1 e9) ydX2_sign hs rfl rfl q809 q811 qs18 q122 q812 rfl (Nat.le_of_ble_eq_true rfl) (Nat.le_of_ble_eq_true rfl) hl.1 rfl (Nat.le_of_ble_eq_true rfl) dX2_more_13) (fun r2 h H locs cells slots hf hI => ?_)
      refine lv_bipush (v := (59 : Int32)) hx hb dX2_more_16 (by decide) ?_
      refine lv_icmp_eq (tgt := 29) hx hb dX2_more_18 (by decide) (fun c18 => ?_) (fun c18 => ?_)
      · have hf := g_t c18 hf
        exact b_X2_more_29 X _ _ _ _ _ _ _ _ _ hf hI (lv_sub hl [0, 1, 2] rfl)
      · have hf := g_f c18 hf
        refine lv_aload_n hx hb dX2_more_21 rfl (lv_at hl 0 rfl) ?_
        refine lv_aload_n hx hb dX2_more_22 rfl (lv_at hl 0 rfl) ?_
        refine g_fi X hI hf fX2_8 q405 rfl rfl dX2_more_23 (fun v3 hf => ?_)
        obtain ⟨hs, hf⟩ := gCk_b hf
        refine g_cTU X hI (by decide) hf (fun v9 h9 e9 l9 l9' => g_rV X hI l9 l9' ⟨Nat.le_refl _, Nat.le_refl _⟩ (As := [.int v3]) (m_X2_fail X.2.2.2.2.2.2.2.2.2.2.1 e9) ydX2_fail hs rfl rfl q813 q815 qs19 q122 q816 rfl (Nat.le_of_ble_eq_true rfl) (Nat.le_of_ble_eq_true rfl) hl.1 rfl (Nat.le_of_ble_eq_true rfl) dX2_more_26) (fun r4 h H locs cells slots hf hI => ?_)
        exact b_X2_more_29 X _ _ _ _ _ _ _ _ _ hf hI (lv_sub hl [0, 1, 2] rfl)
/-! J3_coder -/
abbrev w_J3_coder_14 (G : gG) (l : Launch) (p : Program) (e : Env) (s : State) (m : MethodId) (args : Array Value) (below : List Frame) (meth : Method) (c : Code) (h0 : g_H) (r : Int32) (h' : g_H) (k : Int32 → gM Int32) : Prop := ∀ (u0 : Int32) (h : g_H) (H : Heap) (locs : List Loc) (cells slots : Nat) (ls : Array Slot), (k u0).1 h = some (r, h') → gI G h0 h H locs cells slots → lv_has ls 1 [] → W p l e (g_rm 1 20 h0 h') s m args below meth c H locs cells slots (gQ G below args s h0 h' (.inl (g_wI r))) (F0 m 14 ls [.int u0])
def f_J3_coder_14 (u0 : Int32) : gM Int32 :=
    gB (gGd (vp_nar .byte u0 = u0)) fun _ =>
    (gRet u0)
set_option maxHeartbeats 4000000 in
set_option maxRecDepth 100000 in
theorem b_J3_coder_14 {G : gG} {l : Launch} {p : Program} {e : Env} {s : State} {m : MethodId} {args : Array Value} {below : List Frame} {meth : Method} {c : Code} {h0 : g_H} {r : Int32} {h' : g_H} (X : gX G l yJ3_coder.cls cJ3_coder 1 (some .byte) [] yJ3_coder.name p s m args meth c) : w_J3_coder_14 G l p e s m args below meth c h0 r h' (f_J3_coder_14) := by
  have hx := X.1
  have hb := X.2.1
  have hown := X.2.2.2.1
  have hts := X.2.2.2.2.1
  intro u0 h H locs cells slots ls hf hI hl
  unfold f_J3_coder_14 at hf
  obtain ⟨hz, hf⟩ := gB_gd hf
  cases gRet_e hf
  exact g_retN (ty := .byte) X hI (g_narB hz) rfl dJ3_coder_14
def f_J3_coder (a0 : Nat) : gM Int32 :=
    gIf ((1 : Int32) = 0)
    (f_J3_coder_14 (1 : Int32))
    (gB (gFI a0 16 1) fun v1 =>
    f_J3_coder_14 v1)
set_option maxHeartbeats 4000000 in
set_option maxRecDepth 100000 in
theorem m_J3_coder {G : gG} {l : Launch} (hfl : l.stackTraces = false) {a0 : Nat} {h h' : g_H} {r : Int32} (hf : (f_J3_coder a0).1 h = some (r, h')) : gMet G l yJ3_coder (Cond.code yJ3_coder cJ3_coder 1 (some .byte)) 1 20 [.ref a0] h (.inl (g_wI r)) h' := by
  refine g_head hfl ((f_J3_coder a0).2 h r h' hf) (plainFor_of_name (by decide)) (Nat.le_of_ble_eq_true rfl) (fun p e s m below meth c H locs cells slots ls X hI hl9 => ?_)
  have hl : lv_has ls 1 [(0, .ref a0)] := hl9
  have hx := X.1
  have hb := X.2.1
  have hown := X.2.2.2.1
  have hts := X.2.2.2.2.1
  unfold f_J3_coder at hf
  refine g_stc X hI q833 dJ3_coder_0 ?_
  refine lv_if_eq (tgt := 13) hx hb dJ3_coder_3 (by decide) (fun c3 => ?_) (fun c3 => ?_)
  · have hf := g_t c3 hf
    refine lv_iconst (v := (1 : Int32)) hx hb dJ3_coder_13 (by decide) ?_
    exact b_J3_coder_14 X _ _ _ _ _ _ _ hf hI (lv_sub hl [] rfl)
  · have hf := g_f c3 hf
    refine lv_aload_n hx hb dJ3_coder_6 rfl (lv_at hl 0 rfl) ?_
    refine g_fiO X hI hf q2130 dJ3_coder_7 (fun v1 hf => ?_)
    refine lv_goto (tgt := 14) hx hb dJ3_coder_10 (by decide) ?_
    exact b_J3_coder_14 X _ _ _ _ _ _ _ hf hI (lv_sub hl [] rfl)
/-! J3_length -/
def f_J3_length (a0 : Nat) : gM Int32 :=
    gB (gFR a0 16 0) fun v1 =>
    gB (gAN v1 10) fun v2 =>
    gB (gCk a0 16) fun _ =>
    gB (f_J3_coder a0) fun r3 =>
    (gRet (v2 >>> (r3 &&& 31)))
set_option maxHeartbeats 4000000 in
set_option maxRecDepth 100000 in
theorem m_J3_length {G : gG} {l : Launch} (hfl : l.stackTraces = false) {a0 : Nat} {h h' : g_H} {r : Int32} (hf : (f_J3_length a0).1 h = some (r, h')) : gMet G l yJ3_length (Cond.code yJ3_length cJ3_length 1 (some .int)) 2 40 [.ref a0] h (.inl (g_wI r)) h' := by
  refine g_head hfl ((f_J3_length a0).2 h r h' hf) (plainFor_of_name (by decide)) (Nat.le_of_ble_eq_true rfl) (fun p e s m below meth c H locs cells slots ls X hI hl9 => ?_)
  have hl : lv_has ls 1 [(0, .ref a0)] := hl9
  have hx := X.1
  have hb := X.2.1
  have hown := X.2.2.2.1
  have hts := X.2.2.2.2.1
  unfold f_J3_length at hf
  refine lv_aload_n hx hb dJ3_length_0 rfl (lv_at hl 0 rfl) ?_
  refine g_frO X hI hf q2129 dJ3_length_1 (fun v1 hf => ?_)
  refine g_anO10 X hI hf dJ3_length_4 (fun v2 hf => ?_)
  refine lv_aload_n hx hb dJ3_length_5 rfl (lv_at hl 0 rfl) ?_
  obtain ⟨hs, hf⟩ := gCk_b hf
  refine g_cBI hI hf (fun v9 h9 e9 l9 l9' => g_rV X hI l9 l9' ⟨Nat.le_refl _, Nat.le_refl _⟩ (As := []) (m_J3_coder X.2.2.2.2.2.2.2.2.2.2.1 e9) ydJ3_coder hs rfl rfl q829 q830 q831 q133 q832 rfl (Nat.le_of_ble_eq_true rfl) (Nat.le_of_ble_eq_true rfl) hl.1 rfl (Nat.le_of_ble_eq_true rfl) dJ3_length_6) (fun r3 h H locs cells slots hf hI => ?_)
  refine lv_ishr hx hb dJ3_length_9 ?_
  cases gRet_e hf
  exact g_retI X hI rfl dJ3_length_10
/-! J3_isLatin1 -/
abbrev w_J3_isLatin1_18 (G : gG) (l : Launch) (p : Program) (e : Env) (s : State) (m : MethodId) (args : Array Value) (below : List Frame) (meth : Method) (c : Code) (h0 : g_H) (r : Int32) (h' : g_H) (k : Int32 → gM Int32) : Prop := ∀ (u0 : Int32) (h : g_H) (H : Heap) (locs : List Loc) (cells slots : Nat) (ls : Array Slot), (k u0).1 h = some (r, h') → gI G h0 h H locs cells slots → lv_has ls 1 [] → W p l e (g_rm 1 20 h0 h') s m args below meth c H locs cells slots (gQ G below args s h0 h' (.inl (g_wI r))) (F0 m 18 ls [.int u0])
abbrev w_J3_isLatin1_17 (G : gG) (l : Launch) (p : Program) (e : Env) (s : State) (m : MethodId) (args : Array Value) (below : List Frame) (meth : Method) (c : Code) (h0 : g_H) (r : Int32) (h' : g_H) (k : gM Int32) : Prop := ∀ (h : g_H) (H : Heap) (locs : List Loc) (cells slots : Nat) (ls : Array Slot), (k).1 h = some (r, h') → gI G h0 h H locs cells slots → lv_has ls 1 [] → W p l e (g_rm 1 20 h0 h') s m args below meth c H locs cells slots (gQ G below args s h0 h' (.inl (g_wI r))) (F0 m 17 ls [])
def f_J3_isLatin1_18 (u0 : Int32) : gM Int32 :=
    gB (gGd (u0 = 0 ∨ u0 = 1)) fun _ =>
    (gRet u0)
set_option maxHeartbeats 4000000 in
set_option maxRecDepth 100000 in
theorem b_J3_isLatin1_18 {G : gG} {l : Launch} {p : Program} {e : Env} {s : State} {m : MethodId} {args : Array Value} {below : List Frame} {meth : Method} {c : Code} {h0 : g_H} {r : Int32} {h' : g_H} (X : gX G l yJ3_isLatin1.cls cJ3_isLatin1 1 (some .boolean) [] yJ3_isLatin1.name p s m args meth c) : w_J3_isLatin1_18 G l p e s m args below meth c h0 r h' (f_J3_isLatin1_18) := by
  have hx := X.1
  have hb := X.2.1
  have hown := X.2.2.2.1
  have hts := X.2.2.2.2.1
  intro u0 h H locs cells slots ls hf hI hl
  unfold f_J3_isLatin1_18 at hf
  obtain ⟨hz, hf⟩ := gB_gd hf
  cases gRet_e hf
  exact g_retZ X hI hz rfl dJ3_isLatin1_18
def f_J3_isLatin1_17 : gM Int32 :=
    f_J3_isLatin1_18 (0 : Int32)
set_option maxHeartbeats 4000000 in
set_option maxRecDepth 100000 in
theorem b_J3_isLatin1_17 {G : gG} {l : Launch} {p : Program} {e : Env} {s : State} {m : MethodId} {args : Array Value} {below : List Frame} {meth : Method} {c : Code} {h0 : g_H} {r : Int32} {h' : g_H} (X : gX G l yJ3_isLatin1.cls cJ3_isLatin1 1 (some .boolean) [] yJ3_isLatin1.name p s m args meth c) : w_J3_isLatin1_17 G l p e s m args below meth c h0 r h' (f_J3_isLatin1_17) := by
  have hx := X.1
  have hb := X.2.1
  have hown := X.2.2.2.1
  have hts := X.2.2.2.2.1
  intro h H locs cells slots ls hf hI hl
  unfold f_J3_isLatin1_17 at hf
  refine lv_iconst (v := (0 : Int32)) hx hb dJ3_isLatin1_17 (by decide) ?_
  exact b_J3_isLatin1_18 X _ _ _ _ _ _ _ hf hI (lv_sub hl [] rfl)
def f_J3_isLatin1 (a0 : Nat) : gM Int32 :=
    gIf ((1 : Int32) = 0)
    (f_J3_isLatin1_17)
    (gB (gFI a0 16 1) fun v1 =>
    gIf (v1 = 0)
    (f_J3_isLatin1_18 (1 : Int32))
    (f_J3_isLatin1_17))
set_option maxHeartbeats 4000000 in
set_option maxRecDepth 100000 in
theorem m_J3_isLatin1 {G : gG} {l : Launch} (hfl : l.stackTraces = false) {a0 : Nat} {h h' : g_H} {r : Int32} (hf : (f_J3_isLatin1 a0).1 h = some (r, h')) : gMet G l yJ3_isLatin1 (Cond.code yJ3_isLatin1 cJ3_isLatin1 1 (some .boolean)) 1 20 [.ref a0] h (.inl (g_wI r)) h' := by
  refine g_head hfl ((f_J3_isLatin1 a0).2 h r h' hf) (plainFor_of_name (by decide)) (Nat.le_of_ble_eq_true rfl) (fun p e s m below meth c H locs cells slots ls X hI hl9 => ?_)
  have hl : lv_has ls 1 [(0, .ref a0)] := hl9
  have hx := X.1
  have hb := X.2.1
  have hown := X.2.2.2.1
  have hts := X.2.2.2.2.1
  unfold f_J3_isLatin1 at hf
  refine g_stc X hI q833 dJ3_isLatin1_0 ?_
  refine lv_if_eq (tgt := 17) hx hb dJ3_isLatin1_3 (by decide) (fun c3 => ?_) (fun c3 => ?_)
  · have hf := g_t c3 hf
    exact b_J3_isLatin1_17 X _ _ _ _ _ _ hf hI (lv_sub hl [] rfl)
  · have hf := g_f c3 hf
    refine lv_aload_n hx hb dJ3_isLatin1_6 rfl (lv_at hl 0 rfl) ?_
    refine g_fiO X hI hf q2130 dJ3_isLatin1_7 (fun v1 hf => ?_)
    refine lv_if_ne (tgt := 17) hx hb dJ3_isLatin1_10 (by decide) (fun c10 => ?_) (fun c10 => ?_)
    · have hf := g_f c10 hf
      exact b_J3_isLatin1_17 X _ _ _ _ _ _ hf hI (lv_sub hl [] rfl)
    · have hf := g_t c10 hf
      refine lv_iconst (v := (1 : Int32)) hx hb dJ3_isLatin1_13 (by decide) ?_
      refine lv_goto (tgt := 18) hx hb dJ3_isLatin1_14 (by decide) ?_
      exact b_J3_isLatin1_18 X _ _ _ _ _ _ _ hf hI (lv_sub hl [] rfl)
/-! J5_checkIndex -/
abbrev w_J5_checkIndex_9 (G : gG) (l : Launch) (p : Program) (e : Env) (s : State) (m : MethodId) (args : Array Value) (below : List Frame) (meth : Method) (c : Code) (h0 : g_H) (r : Int32) (h' : g_H) (k : Option Nat → gM Int32) : Prop := ∀ (a2 : Option Nat) (h : g_H) (H : Heap) (locs : List Loc) (cells slots : Nat) (ls : Array Slot), (k a2).1 h = some (r, h') → gI G h0 h H locs cells slots → lv_has ls 3 [(2, va_rf a2)] → W p l e (g_rm 1 20 h0 h') s m args below meth c H locs cells slots (gQ G below args s h0 h' (.inl (g_wI r))) (F0 m 9 ls [])
def f_J5_checkIndex_9 (a2 : Option Nat) : gM Int32 :=
    gFail
set_option maxHeartbeats 4000000 in
set_option maxRecDepth 100000 in
theorem b_J5_checkIndex_9 {G : gG} {l : Launch} {p : Program} {e : Env} {s : State} {m : MethodId} {args : Array Value} {below : List Frame} {meth : Method} {c : Code} {h0 : g_H} {r : Int32} {h' : g_H} (X : gX G l yJ5_checkIndex.cls cJ5_checkIndex 3 (some .int) [] yJ5_checkIndex.name p s m args meth c) : w_J5_checkIndex_9 G l p e s m args below meth c h0 r h' (f_J5_checkIndex_9) := by
  have hx := X.1
  have hb := X.2.1
  have hown := X.2.2.2.1
  have hts := X.2.2.2.2.1
  intro a2 h H locs cells slots ls hf hI hl
  unfold f_J5_checkIndex_9 at hf
  exact (gFail_f hf).elim
def f_J5_checkIndex (x0 : Int32) (x1 : Int32) (a2 : Option Nat) : gM Int32 :=
    gIf (x0 < 0)
    (f_J5_checkIndex_9 a2)
    (gIf (x0 < x1)
    ((gRet x0))
    (f_J5_checkIndex_9 a2))
set_option maxHeartbeats 4000000 in
set_option maxRecDepth 100000 in
theorem m_J5_checkIndex {G : gG} {l : Launch} (hfl : l.stackTraces = false) {x0 : Int32} {x1 : Int32} {a2 : Option Nat} {h h' : g_H} {r : Int32} (hf : (f_J5_checkIndex x0 x1 a2).1 h = some (r, h')) : gMet G l yJ5_checkIndex (Cond.code yJ5_checkIndex cJ5_checkIndex 3 (some .int)) 1 20 [.int x0, .int x1, va_rf a2] h (.inl (g_wI r)) h' := by
  refine g_head hfl ((f_J5_checkIndex x0 x1 a2).2 h r h' hf) (plainFor_of_name (by decide)) (by cases a2 <;> exact Nat.le_of_ble_eq_true rfl) (fun p e s m below meth c H locs cells slots ls X hI hl9 => ?_)
  have hl : lv_has ls 3 [(0, .int x0), (1, .int x1), (2, va_rf a2)] := by
    have e9 : lv_args 0 [.int x0, .int x1, va_rf a2] = [(0, .int x0), (1, .int x1), (2, va_rf a2)] := by cases a2 <;> rfl
    rw [e9] at hl9
    exact hl9
  have hx := X.1
  have hb := X.2.1
  have hown := X.2.2.2.1
  have hts := X.2.2.2.2.1
  unfold f_J5_checkIndex at hf
  refine lv_iload_n hx hb dJ5_checkIndex_0 rfl (lv_at hl 0 rfl) ?_
  refine lv_if_lt (tgt := 9) hx hb dJ5_checkIndex_1 (by decide) (fun c1 => ?_) (fun c1 => ?_)
  · have hf := g_t c1 hf
    exact b_J5_checkIndex_9 X _ _ _ _ _ _ _ hf hI (lv_sub hl [2] rfl)
  · have hf := g_f c1 hf
    refine lv_iload_n hx hb dJ5_checkIndex_4 rfl (lv_at hl 0 rfl) ?_
    refine lv_iload_n hx hb dJ5_checkIndex_5 rfl (lv_at hl 1 rfl) ?_
    refine lv_icmp_lt (tgt := 16) hx hb dJ5_checkIndex_6 (by decide) (fun c6 => ?_) (fun c6 => ?_)
    · have hf := g_t c6 hf
      refine lv_iload_n hx hb dJ5_checkIndex_16 rfl (lv_at hl 0 rfl) ?_
      cases gRet_e hf
      exact g_retI X hI rfl dJ5_checkIndex_17
    · have hf := g_f c6 hf
      exact b_J5_checkIndex_9 X _ _ _ _ _ _ _ hf hI (lv_sub hl [2] rfl)
/-! J3_checkIndex -/
def f_J3_checkIndex (x0 : Int32) (x1 : Int32) : gM Unit :=
    gB (gSt 102) fun v1 =>
    gB (f_J5_checkIndex x0 x1 v1) fun r2 =>
    gRet ()
set_option maxHeartbeats 4000000 in
set_option maxRecDepth 100000 in
theorem m_J3_checkIndex {G : gG} {l : Launch} (hfl : l.stackTraces = false) {x0 : Int32} {x1 : Int32} {h h' : g_H} {r : Unit} (hf : (f_J3_checkIndex x0 x1).1 h = some (r, h')) : gMet G l yJ3_checkIndex (Cond.code yJ3_checkIndex cJ3_checkIndex 2 none) 2 42 [.int x0, .int x1] h (.inl (g_wU r)) h' := by
  refine g_head hfl ((f_J3_checkIndex x0 x1).2 h r h' hf) (plainFor_of_name (by decide)) (Nat.le_of_ble_eq_true rfl) (fun p e s m below meth c H locs cells slots ls X hI hl9 => ?_)
  have hl : lv_has ls 2 [(0, .int x0), (1, .int x1)] := hl9
  have hx := X.1
  have hb := X.2.1
  have hown := X.2.2.2.1
  have hts := X.2.2.2.2.1
  unfold f_J3_checkIndex at hf
  refine lv_iload_n hx hb dJ3_checkIndex_0 rfl (lv_at hl 0 rfl) ?_
  refine lv_iload_n hx hb dJ3_checkIndex_1 rfl (lv_at hl 1 rfl) ?_
  refine g_st2 X hI hf q849 dJ3_checkIndex_2 (fun v1 hf => ?_)
  refine g_cBI hI hf (fun v9 h9 e9 l9 l9' => g_rS (b := 0) X hI l9 l9' ⟨Nat.le_refl _, Nat.le_refl _⟩ (As := [.int x0, .int x1, va_rf v1]) (m_J5_checkIndex X.2.2.2.2.2.2.2.2.2.2.1 e9) ydJ5_checkIndex q851 q852 q135 q853 rfl (Nat.le_of_ble_eq_true rfl) (Nat.le_of_ble_eq_true rfl) hl.1 rfl (Nat.le_of_ble_eq_true rfl) dJ3_checkIndex_5) (fun r2 h H locs cells slots hf hI => ?_)
  refine lv_pop hx hb dJ3_checkIndex_8 rfl ?_
  cases gRet_e hf
  exact g_retU X hI rfl dJ3_checkIndex_9
/-! J4_charAt -/
def f_J4_charAt (a0 : Nat) (x1 : Int32) : gM Int32 :=
    gB (gAN a0 10) fun v1 =>
    gB (f_J3_checkIndex x1 v1) fun _ =>
    gB (gAI a0 10 x1) fun v3 =>
    gB (gGd (vp_nar .char ((((v3 &&& (255 : Int32))).toUInt32 % 65536).toInt32) = ((((v3 &&& (255 : Int32))).toUInt32 % 65536).toInt32))) fun _ =>
    (gRet ((((v3 &&& (255 : Int32))).toUInt32 % 65536).toInt32))
set_option maxHeartbeats 4000000 in
set_option maxRecDepth 100000 in
theorem m_J4_charAt {G : gG} {l : Launch} (hfl : l.stackTraces = false) {a0 : Nat} {x1 : Int32} {h h' : g_H} {r : Int32} (hf : (f_J4_charAt a0 x1).1 h = some (r, h')) : gMet G l yJ4_charAt (Cond.code yJ4_charAt cJ4_charAt 2 (some .char)) 3 63 [.ref a0, .int x1] h (.inl (g_wI r)) h' := by
  refine g_head hfl ((f_J4_charAt a0 x1).2 h r h' hf) (plainFor_of_name (by decide)) (Nat.le_of_ble_eq_true rfl) (fun p e s m below meth c H locs cells slots ls X hI hl9 => ?_)
  have hl : lv_has ls 2 [(0, .ref a0), (1, .int x1)] := hl9
  have hx := X.1
  have hb := X.2.1
  have hown := X.2.2.2.1
  have hts := X.2.2.2.2.1
  unfold f_J4_charAt at hf
  refine lv_iload_n hx hb dJ4_charAt_0 rfl (lv_at hl 1 rfl) ?_
  refine lv_aload_n hx hb dJ4_charAt_1 rfl (lv_at hl 0 rfl) ?_
  refine g_anO10 X hI hf dJ4_charAt_2 (fun v1 hf => ?_)
  refine g_cBU hI hf (fun v9 h9 e9 l9 l9' => g_rS (b := 0) X hI l9 l9' ⟨Nat.le_refl _, Nat.le_refl _⟩ (As := [.int x1, .int v1]) (m_J3_checkIndex X.2.2.2.2.2.2.2.2.2.2.1 e9) ydJ3_checkIndex q846 q847 q133 q848 rfl (Nat.le_of_ble_eq_true rfl) (Nat.le_of_ble_eq_true rfl) hl.1 rfl (Nat.le_of_ble_eq_true rfl) dJ4_charAt_3) (fun r2 h H locs cells slots hf hI => ?_)
  refine lv_aload_n hx hb dJ4_charAt_6 rfl (lv_at hl 0 rfl) ?_
  refine lv_iload_n hx hb dJ4_charAt_7 rfl (lv_at hl 1 rfl) ?_
  refine g_aiO10 X hI hf dJ4_charAt_8 (fun v3 hf => ?_)
  refine lv_sipush (v := (255 : Int32)) hx hb dJ4_charAt_9 (by decide) ?_
  refine lv_iand hx hb dJ4_charAt_12 ?_
  refine lv_i2c hx hb dJ4_charAt_13 rfl ?_
  obtain ⟨hz, hf⟩ := gB_gd hf
  cases gRet_e hf
  exact g_retN (ty := .char) X hI (g_narC hz) rfl dJ4_charAt_14
/-! J3_charAt -/
def f_J3_charAt (a0 : Nat) (x1 : Int32) : gM Int32 :=
    gB (gCk a0 16) fun _ =>
    gB (f_J3_isLatin1 a0) fun r1 =>
    gIf (r1 = 0)
    (gFail)
    (gB (gFR a0 16 0) fun v2 =>
    gB (f_J4_charAt v2 x1) fun r3 =>
    gB (gGd (vp_nar .char r3 = r3)) fun _ =>
    (gRet r3))
set_option maxHeartbeats 4000000 in
set_option maxRecDepth 100000 in
theorem m_J3_charAt {G : gG} {l : Launch} (hfl : l.stackTraces = false) {a0 : Nat} {x1 : Int32} {h h' : g_H} {r : Int32} (hf : (f_J3_charAt a0 x1).1 h = some (r, h')) : gMet G l yJ3_charAt (Cond.code yJ3_charAt cJ3_charAt 2 (some .char)) 4 84 [.ref a0, .int x1] h (.inl (g_wI r)) h' := by
  refine g_head hfl ((f_J3_charAt a0 x1).2 h r h' hf) (plainFor_of_name (by decide)) (Nat.le_of_ble_eq_true rfl) (fun p e s m below meth c H locs cells slots ls X hI hl9 => ?_)
  have hl : lv_has ls 2 [(0, .ref a0), (1, .int x1)] := hl9
  have hx := X.1
  have hb := X.2.1
  have hown := X.2.2.2.1
  have hts := X.2.2.2.2.1
  unfold f_J3_charAt at hf
  refine lv_aload_n hx hb dJ3_charAt_0 rfl (lv_at hl 0 rfl) ?_
  obtain ⟨hs, hf⟩ := gCk_b hf
  refine g_cBI hI hf (fun v9 h9 e9 l9 l9' => g_rV X hI l9 l9' ⟨Nat.le_refl _, Nat.le_refl _⟩ (As := []) (m_J3_isLatin1 X.2.2.2.2.2.2.2.2.2.2.1 e9) ydJ3_isLatin1 hs rfl rfl q839 q840 q841 q133 q842 rfl (Nat.le_of_ble_eq_true rfl) (Nat.le_of_ble_eq_true rfl) hl.1 rfl (Nat.le_of_ble_eq_true rfl) dJ3_charAt_1) (fun r1 h H locs cells slots hf hI => ?_)
  refine lv_if_eq (tgt := 16) hx hb dJ3_charAt_4 (by decide) (fun c4 => ?_) (fun c4 => ?_)
  · have hf := g_t c4 hf
    exact (gFail_f hf).elim
  · have hf := g_f c4 hf
    refine lv_aload_n hx hb dJ3_charAt_7 rfl (lv_at hl 0 rfl) ?_
    refine g_frO X hI hf q2129 dJ3_charAt_8 (fun v2 hf => ?_)
    refine lv_iload_n hx hb dJ3_charAt_11 rfl (lv_at hl 1 rfl) ?_
    refine g_cBI hI hf (fun v9 h9 e9 l9 l9' => g_rS (b := 0) X hI l9 l9' ⟨Nat.le_refl _, Nat.le_refl _⟩ (As := [.ref v2, .int x1]) (m_J4_charAt X.2.2.2.2.2.2.2.2.2.2.1 e9) ydJ4_charAt q843 q844 q134 q845 rfl (Nat.le_of_ble_eq_true rfl) (Nat.le_of_ble_eq_true rfl) hl.1 rfl (Nat.le_of_ble_eq_true rfl) dJ3_charAt_12) (fun r3 h H locs cells slots hf hI => ?_)
    obtain ⟨hz, hf⟩ := gB_gd hf
    cases gRet_e hf
    exact g_retN (ty := .char) X hI (g_narC hz) rfl dJ3_charAt_15
/-! X2_takes -/
abbrev w_X2_takes_109 (G : gG) (l : Launch) (p : Program) (e : Env) (s : State) (m : MethodId) (args : Array Value) (below : List Frame) (meth : Method) (c : Code) (h0 : g_H) (r : Int32) (h' : g_H) (k : Nat → Nat → Int32 → Int32 → Int32 → gM Int32) : Prop := ∀ (a0 : Nat) (a1 : Nat) (x3 : Int32) (x5 : Int32) (u0 : Int32) (h : g_H) (H : Heap) (locs : List Loc) (cells slots : Nat) (ls : Array Slot), (k a0 a1 x3 x5 u0).1 h = some (r, h') → gI G h0 h H locs cells slots → lv_has ls 6 [(0, .ref a0), (1, .ref a1), (3, .int x3), (5, .int x5)] → W p l e (g_rm 5 105 h0 h') s m args below meth c H locs cells slots (gQ G below args s h0 h' (.inl (g_wI r))) (F0 m 109 ls [.int u0])
abbrev w_X2_takes_127 (G : gG) (l : Launch) (p : Program) (e : Env) (s : State) (m : MethodId) (args : Array Value) (below : List Frame) (meth : Method) (c : Code) (h0 : g_H) (r : Int32) (h' : g_H) (k : Int32 → gM Int32) : Prop := ∀ (x4 : Int32) (h : g_H) (H : Heap) (locs : List Loc) (cells slots : Nat) (ls : Array Slot), (k x4).1 h = some (r, h') → gI G h0 h H locs cells slots → lv_has ls 6 [(4, .int x4)] → W p l e (g_rm 5 105 h0 h') s m args below meth c H locs cells slots (gQ G below args s h0 h' (.inl (g_wI r))) (F0 m 127 ls [])
abbrev w_X2_takes_117 (G : gG) (l : Launch) (p : Program) (e : Env) (s : State) (m : MethodId) (args : Array Value) (below : List Frame) (meth : Method) (c : Code) (h0 : g_H) (r : Int32) (h' : g_H) (k : Nat → Int32 → Int32 → gM Int32) : Prop := ∀ (a0 : Nat) (x3 : Int32) (x4 : Int32) (h : g_H) (H : Heap) (locs : List Loc) (cells slots : Nat) (ls : Array Slot), (k a0 x3 x4).1 h = some (r, h') → gI G h0 h H locs cells slots → lv_has ls 6 [(0, .ref a0), (3, .int x3), (4, .int x4)] → W p l e (g_rm 5 105 h0 h') s m args below meth c H locs cells slots (gQ G below args s h0 h' (.inl (g_wI r))) (F0 m 117 ls [])
abbrev w_X2_takes_69 (G : gG) (l : Launch) (p : Program) (e : Env) (s : State) (m : MethodId) (args : Array Value) (below : List Frame) (meth : Method) (c : Code) (h0 : g_H) (r : Int32) (h' : g_H) (k : Nat → Nat → Int32 → Int32 → Int32 → gM Int32) : Prop := ∀ (a0 : Nat) (a1 : Nat) (x3 : Int32) (x4 : Int32) (x5 : Int32) (h : g_H) (H : Heap) (locs : List Loc) (cells slots : Nat) (ls : Array Slot), (k a0 a1 x3 x4 x5).1 h = some (r, h') → gI G h0 h H locs cells slots → lv_has ls 6 [(0, .ref a0), (1, .ref a1), (3, .int x3), (4, .int x4), (5, .int x5)] → W p l e (g_rm 5 105 h0 h') s m args below meth c H locs cells slots (gQ G below args s h0 h' (.inl (g_wI r))) (F0 m 69 ls [])
abbrev w_X2_takes_64 (G : gG) (l : Launch) (p : Program) (e : Env) (s : State) (m : MethodId) (args : Array Value) (below : List Frame) (meth : Method) (c : Code) (h0 : g_H) (r : Int32) (h' : g_H) (k : Nat → Nat → Int32 → Int32 → gM Int32) : Prop := ∀ (a0 : Nat) (a1 : Nat) (x3 : Int32) (u0 : Int32) (h : g_H) (H : Heap) (locs : List Loc) (cells slots : Nat) (ls : Array Slot), (k a0 a1 x3 u0).1 h = some (r, h') → gI G h0 h H locs cells slots → lv_has ls 6 [(0, .ref a0), (1, .ref a1), (3, .int x3)] → W p l e (g_rm 5 105 h0 h') s m args below meth c H locs cells slots (gQ G below args s h0 h' (.inl (g_wI r))) (F0 m 64 ls [.int u0])
abbrev w_X2_takes_46 (G : gG) (l : Launch) (p : Program) (e : Env) (s : State) (m : MethodId) (args : Array Value) (below : List Frame) (meth : Method) (c : Code) (h0 : g_H) (r : Int32) (h' : g_H) (k : Nat → Nat → Int32 → gM Int32) : Prop := ∀ (a0 : Nat) (a1 : Nat) (x3 : Int32) (h : g_H) (H : Heap) (locs : List Loc) (cells slots : Nat) (ls : Array Slot), (k a0 a1 x3).1 h = some (r, h') → gI G h0 h H locs cells slots → lv_has ls 6 [(0, .ref a0), (1, .ref a1), (3, .int x3)] → W p l e (g_rm 5 105 h0 h') s m args below meth c H locs cells slots (gQ G below args s h0 h' (.inl (g_wI r))) (F0 m 46 ls [])
abbrev w_X2_takes_10 (G : gG) (l : Launch) (p : Program) (e : Env) (s : State) (m : MethodId) (args : Array Value) (below : List Frame) (meth : Method) (c : Code) (h0 : g_H) (r : Int32) (h' : g_H) (k : Nat → Nat → Int32 → gM Int32) : Prop := ∀ (a0 : Nat) (a1 : Nat) (x3 : Int32) (h : g_H) (H : Heap) (locs : List Loc) (cells slots : Nat) (ls : Array Slot), (k a0 a1 x3).1 h = some (r, h') → gI G h0 h H locs cells slots → lv_has ls 6 [(0, .ref a0), (1, .ref a1), (3, .int x3)] → W p l e (g_rm 5 105 h0 h') s m args below meth c H locs cells slots (gQ G below args s h0 h' (.inl (g_wI r))) (F0 m 10 ls [])
def f_X2_takes_109 (k69 : Nat → Nat → Int32 → Int32 → Int32 → gM Int32) (a0 : Nat) (a1 : Nat) (x3 : Int32) (x5 : Int32) (u0 : Int32) : gM Int32 :=
    k69 a0 a1 x3 u0 (x5 + (1 : Int32))
set_option maxHeartbeats 4000000 in
set_option maxRecDepth 100000 in
theorem b_X2_takes_109 {G : gG} {l : Launch} {p : Program} {e : Env} {s : State} {m : MethodId} {args : Array Value} {below : List Frame} {meth : Method} {c : Code} {h0 : g_H} {r : Int32} {h' : g_H} (X : gX G l yX2_takes.cls cX2_takes 6 (some .boolean) [] yX2_takes.name p s m args meth c) {k69 : Nat → Nat → Int32 → Int32 → Int32 → gM Int32} (K69 : w_X2_takes_69 G l p e s m args below meth c h0 r h' k69) : w_X2_takes_109 G l p e s m args below meth c h0 r h' (f_X2_takes_109 k69) := by
  have hx := X.1
  have hb := X.2.1
  have hown := X.2.2.2.1
  have hts := X.2.2.2.2.1
  intro a0 a1 x3 x5 u0 h H locs cells slots ls hf hI hl
  unfold f_X2_takes_109 at hf
  refine lv_istore (lv' := [(4, .int u0), (0, .ref a0), (1, .ref a1), (3, .int x3), (5, .int x5)]) hx hb dX2_takes_109 hl (by decide) rfl (fun ls hl => ?_)
  refine lv_iinc (v := (x5 + (1 : Int32))) (lv' := [(5, .int (x5 + (1 : Int32))), (4, .int u0), (0, .ref a0), (1, .ref a1), (3, .int x3)]) hx hb dX2_takes_111 hl (k := 4) rfl rfl (by decide) rfl (fun ls hl => ?_)
  refine lv_goto (tgt := 69) hx hb dX2_takes_114 (by decide) ?_
  exact K69 _ _ _ _ _ _ _ _ _ _ _ hf hI (lv_sub hl [2, 3, 4, 1, 0] rfl)
def f_X2_takes_127 (x4 : Int32) : gM Int32 :=
    gB (gGd (x4 = 0 ∨ x4 = 1)) fun _ =>
    (gRet x4)
set_option maxHeartbeats 4000000 in
set_option maxRecDepth 100000 in
theorem b_X2_takes_127 {G : gG} {l : Launch} {p : Program} {e : Env} {s : State} {m : MethodId} {args : Array Value} {below : List Frame} {meth : Method} {c : Code} {h0 : g_H} {r : Int32} {h' : g_H} (X : gX G l yX2_takes.cls cX2_takes 6 (some .boolean) [] yX2_takes.name p s m args meth c) : w_X2_takes_127 G l p e s m args below meth c h0 r h' (f_X2_takes_127) := by
  have hx := X.1
  have hb := X.2.1
  have hown := X.2.2.2.1
  have hts := X.2.2.2.2.1
  intro x4 h H locs cells slots ls hf hI hl
  unfold f_X2_takes_127 at hf
  refine lv_iload hx hb dX2_takes_127 (lv_at hl 0 rfl) ?_
  obtain ⟨hz, hf⟩ := gB_gd hf
  cases gRet_e hf
  exact g_retZ X hI hz rfl dX2_takes_129
def f_X2_takes_117 (a0 : Nat) (x3 : Int32) (x4 : Int32) : gM Int32 :=
    gIf (x4 = 0)
    (f_X2_takes_127 x4)
    (gB (gPI a0 1 8 x3) fun _ =>
    f_X2_takes_127 x4)
set_option maxHeartbeats 4000000 in
set_option maxRecDepth 100000 in
theorem b_X2_takes_117 {G : gG} {l : Launch} {p : Program} {e : Env} {s : State} {m : MethodId} {args : Array Value} {below : List Frame} {meth : Method} {c : Code} {h0 : g_H} {r : Int32} {h' : g_H} (X : gX G l yX2_takes.cls cX2_takes 6 (some .boolean) [] yX2_takes.name p s m args meth c) : w_X2_takes_117 G l p e s m args below meth c h0 r h' (f_X2_takes_117) := by
  have hx := X.1
  have hb := X.2.1
  have hown := X.2.2.2.1
  have hts := X.2.2.2.2.1
  intro a0 x3 x4 h H locs cells slots ls hf hI hl
  unfold f_X2_takes_117 at hf
  refine lv_iload hx hb dX2_takes_117 (lv_at hl 2 rfl) ?_
  refine lv_if_eq (tgt := 127) hx hb dX2_takes_119 (by decide) (fun c119 => ?_) (fun c119 => ?_)
  · have hf := g_t c119 hf
    exact b_X2_takes_127 X _ _ _ _ _ _ _ hf hI (lv_sub hl [2] rfl)
  · have hf := g_f c119 hf
    refine lv_aload_n hx hb dX2_takes_122 rfl (lv_at hl 0 rfl) ?_
    refine lv_iload_n hx hb dX2_takes_123 rfl (lv_at hl 1 rfl) ?_
    refine g_pi X hI hf fX2_8 q405 rfl dX2_takes_124 (fun h H locs hf hI => ?_)
    exact b_X2_takes_127 X _ _ _ _ _ _ _ hf hI (lv_sub hl [2] rfl)
def f_X2_takes_69 : Nat → Nat → Nat → Int32 → Int32 → Int32 → gM Int32
  | 0, _, _, _, _, _ => gFail
  | n + 1, a0, a1, x3, x4, x5 =>
    gB (gCk a1 16) fun _ =>
    gB (f_J3_length a1) fun r101 =>
    gIf (r101 ≤ x5)
    (f_X2_takes_117 a0 x3 x4)
    (gIf (x4 = 0)
    (f_X2_takes_117 a0 x3 x4)
    (gB (gFR a0 1 0) fun v102 =>
    gB (gFI a0 1 8) fun v103 =>
    gB (gAI v102 1 (v103 + x5)) fun v104 =>
    gB (gCk a1 16) fun _ =>
    gB (f_J3_charAt a1 x5) fun r105 =>
    gIf (v104 = r105)
    (f_X2_takes_109 (f_X2_takes_69 n) a0 a1 x3 x5 (1 : Int32))
    (f_X2_takes_109 (f_X2_takes_69 n) a0 a1 x3 x5 (0 : Int32))))
set_option maxHeartbeats 4000000 in
set_option maxRecDepth 100000 in
theorem b_X2_takes_69 {G : gG} {l : Launch} {p : Program} {e : Env} {s : State} {m : MethodId} {args : Array Value} {below : List Frame} {meth : Method} {c : Code} {h0 : g_H} {r : Int32} {h' : g_H} (X : gX G l yX2_takes.cls cX2_takes 6 (some .boolean) [] yX2_takes.name p s m args meth c) : ∀ n : Nat, w_X2_takes_69 G l p e s m args below meth c h0 r h' (f_X2_takes_69 n) := by
  have hx := X.1
  have hb := X.2.1
  have hown := X.2.2.2.1
  have hts := X.2.2.2.2.1
  intro n
  induction n with
  | zero =>
    intro a0 a1 x3 x4 x5 h H locs cells slots ls hf hI hl
    exact (gFail_f hf).elim
  | succ n ih =>
    intro a0 a1 x3 x4 x5 h H locs cells slots ls hf hI hl
    rw [f_X2_takes_69] at hf
    refine lv_iload hx hb dX2_takes_69 (lv_at hl 4 rfl) ?_
    refine lv_aload_n hx hb dX2_takes_71 rfl (lv_at hl 1 rfl) ?_
    obtain ⟨hs, hf⟩ := gCk_b hf
    refine g_cBI hI hf (fun v9 h9 e9 l9 l9' => g_rV X hI l9 l9' ⟨Nat.le_refl _, Nat.le_refl _⟩ (As := []) (m_J3_length X.2.2.2.2.2.2.2.2.2.2.1 e9) ydJ3_length hs rfl rfl q825 q826 q827 q133 q828 rfl (Nat.le_of_ble_eq_true rfl) (Nat.le_of_ble_eq_true rfl) hl.1 rfl (Nat.le_of_ble_eq_true rfl) dX2_takes_72) (fun r101 h H locs cells slots hf hI => ?_)
    refine lv_icmp_ge (tgt := 117) hx hb dX2_takes_75 (by decide) (fun c75 => ?_) (fun c75 => ?_)
    · have hf := g_t c75 hf
      exact b_X2_takes_117 X _ _ _ _ _ _ _ _ _ hf hI (lv_sub hl [0, 2, 3] rfl)
    · have hf := g_f c75 hf
      refine lv_iload hx hb dX2_takes_78 (lv_at hl 3 rfl) ?_
      refine lv_if_eq (tgt := 117) hx hb dX2_takes_80 (by decide) (fun c80 => ?_) (fun c80 => ?_)
      · have hf := g_t c80 hf
        exact b_X2_takes_117 X _ _ _ _ _ _ _ _ _ hf hI (lv_sub hl [0, 2, 3] rfl)
      · have hf := g_f c80 hf
        refine lv_aload_n hx hb dX2_takes_83 rfl (lv_at hl 0 rfl) ?_
        refine g_fr X hI hf fX2_0 q395 rfl rfl dX2_takes_84 (fun v102 hf => ?_)
        refine lv_aload_n hx hb dX2_takes_87 rfl (lv_at hl 0 rfl) ?_
        refine g_fi X hI hf fX2_8 q405 rfl rfl dX2_takes_88 (fun v103 hf => ?_)
        refine lv_iload hx hb dX2_takes_91 (lv_at hl 4 rfl) ?_
        refine lv_iadd hx hb dX2_takes_93 ?_
        refine g_ai1 X hI hf dX2_takes_94 (fun v104 hf => ?_)
        refine lv_aload_n hx hb dX2_takes_95 rfl (lv_at hl 1 rfl) ?_
        refine lv_iload hx hb dX2_takes_96 (lv_at hl 4 rfl) ?_
        obtain ⟨hs, hf⟩ := gCk_b hf
        refine g_cBI hI hf (fun v9 h9 e9 l9 l9' => g_rV X hI l9 l9' ⟨Nat.le_refl _, Nat.le_refl _⟩ (As := [.int x5]) (m_J3_charAt X.2.2.2.2.2.2.2.2.2.2.1 e9) ydJ3_charAt hs rfl rfl q835 q836 q837 q133 q838 rfl (Nat.le_of_ble_eq_true rfl) (Nat.le_of_ble_eq_true rfl) hl.1 rfl (Nat.le_of_ble_eq_true rfl) dX2_takes_98) (fun r105 h H locs cells slots hf hI => ?_)
        refine lv_icmp_ne (tgt := 108) hx hb dX2_takes_101 (by decide) (fun c101 => ?_) (fun c101 => ?_)
        · have hf := g_f c101 hf
          refine lv_iconst (v := (0 : Int32)) hx hb dX2_takes_108 (by decide) ?_
          exact b_X2_takes_109 X ih _ _ _ _ _ _ _ _ _ _ _ hf hI (lv_sub hl [0, 1, 2, 4] rfl)
        · have hf := g_t c101 hf
          refine lv_iconst (v := (1 : Int32)) hx hb dX2_takes_104 (by decide) ?_
          refine lv_goto (tgt := 109) hx hb dX2_takes_105 (by decide) ?_
          exact b_X2_takes_109 X ih _ _ _ _ _ _ _ _ _ _ _ hf hI (lv_sub hl [0, 1, 2, 4] rfl)
def f_X2_takes_64 (a0 : Nat) (a1 : Nat) (x3 : Int32) (u0 : Int32) : gM Int32 :=
    f_X2_takes_69 gN a0 a1 x3 u0 (0 : Int32)
set_option maxHeartbeats 4000000 in
set_option maxRecDepth 100000 in
theorem b_X2_takes_64 {G : gG} {l : Launch} {p : Program} {e : Env} {s : State} {m : MethodId} {args : Array Value} {below : List Frame} {meth : Method} {c : Code} {h0 : g_H} {r : Int32} {h' : g_H} (X : gX G l yX2_takes.cls cX2_takes 6 (some .boolean) [] yX2_takes.name p s m args meth c) : w_X2_takes_64 G l p e s m args below meth c h0 r h' (f_X2_takes_64) := by
  have hx := X.1
  have hb := X.2.1
  have hown := X.2.2.2.1
  have hts := X.2.2.2.2.1
  intro a0 a1 x3 u0 h H locs cells slots ls hf hI hl
  unfold f_X2_takes_64 at hf
  refine lv_istore (lv' := [(4, .int u0), (0, .ref a0), (1, .ref a1), (3, .int x3)]) hx hb dX2_takes_64 hl (by decide) rfl (fun ls hl => ?_)
  refine lv_iconst (v := (0 : Int32)) hx hb dX2_takes_66 (by decide) ?_
  refine lv_istore (lv' := [(5, .int (0 : Int32)), (4, .int u0), (0, .ref a0), (1, .ref a1), (3, .int x3)]) hx hb dX2_takes_67 hl (by decide) rfl (fun ls hl => ?_)
  exact b_X2_takes_69 X gN _ _ _ _ _ _ _ _ _ _ _ hf hI (lv_sub hl [2, 3, 4, 1, 0] rfl)
def f_X2_takes_46 (a0 : Nat) (a1 : Nat) (x3 : Int32) : gM Int32 :=
    gB (gFI a0 1 8) fun v101 =>
    gB (gCk a1 16) fun _ =>
    gB (f_J3_length a1) fun r102 =>
    gIf ((x3 - v101) = r102)
    (f_X2_takes_64 a0 a1 x3 (1 : Int32))
    (f_X2_takes_64 a0 a1 x3 (0 : Int32))
set_option maxHeartbeats 4000000 in
set_option maxRecDepth 100000 in
theorem b_X2_takes_46 {G : gG} {l : Launch} {p : Program} {e : Env} {s : State} {m : MethodId} {args : Array Value} {below : List Frame} {meth : Method} {c : Code} {h0 : g_H} {r : Int32} {h' : g_H} (X : gX G l yX2_takes.cls cX2_takes 6 (some .boolean) [] yX2_takes.name p s m args meth c) : w_X2_takes_46 G l p e s m args below meth c h0 r h' (f_X2_takes_46) := by
  have hx := X.1
  have hb := X.2.1
  have hown := X.2.2.2.1
  have hts := X.2.2.2.2.1
  intro a0 a1 x3 h H locs cells slots ls hf hI hl
  unfold f_X2_takes_46 at hf
  refine lv_iload_n hx hb dX2_takes_46 rfl (lv_at hl 2 rfl) ?_
  refine lv_aload_n hx hb dX2_takes_47 rfl (lv_at hl 0 rfl) ?_
  refine g_fi X hI hf fX2_8 q405 rfl rfl dX2_takes_48 (fun v101 hf => ?_)
  refine lv_isub hx hb dX2_takes_51 ?_
  refine lv_aload_n hx hb dX2_takes_52 rfl (lv_at hl 1 rfl) ?_
  obtain ⟨hs, hf⟩ := gCk_b hf
  refine g_cBI hI hf (fun v9 h9 e9 l9 l9' => g_rV X hI l9 l9' ⟨Nat.le_refl _, Nat.le_refl _⟩ (As := []) (m_J3_length X.2.2.2.2.2.2.2.2.2.2.1 e9) ydJ3_length hs rfl rfl q825 q826 q827 q133 q828 rfl (Nat.le_of_ble_eq_true rfl) (Nat.le_of_ble_eq_true rfl) hl.1 rfl (Nat.le_of_ble_eq_true rfl) dX2_takes_53) (fun r102 h H locs cells slots hf hI => ?_)
  refine lv_icmp_ne (tgt := 63) hx hb dX2_takes_56 (by decide) (fun c56 => ?_) (fun c56 => ?_)
  · have hf := g_f c56 hf
    refine lv_iconst (v := (0 : Int32)) hx hb dX2_takes_63 (by decide) ?_
    exact b_X2_takes_64 X _ _ _ _ _ _ _ _ _ _ hf hI (lv_sub hl [0, 1, 2] rfl)
  · have hf := g_t c56 hf
    refine lv_iconst (v := (1 : Int32)) hx hb dX2_takes_59 (by decide) ?_
    refine lv_goto (tgt := 64) hx hb dX2_takes_60 (by decide) ?_
    exact b_X2_takes_64 X _ _ _ _ _ _ _ _ _ _ hf hI (lv_sub hl [0, 1, 2] rfl)
def f_X2_takes_10 : Nat → Nat → Nat → Int32 → gM Int32
  | 0, _, _, _ => gFail
  | n + 1, a0, a1, x3 =>
    gB (gFI a0 1 7) fun v101 =>
    gIf (v101 ≤ x3)
    (f_X2_takes_46 a0 a1 x3)
    (gB (gFR a0 1 0) fun v102 =>
    gB (gAI v102 1 x3) fun v103 =>
    gIf (v103 < (97 : Int32))
    (f_X2_takes_46 a0 a1 x3)
    (gB (gFR a0 1 0) fun v104 =>
    gB (gAI v104 1 x3) fun v105 =>
    gIf ((122 : Int32) < v105)
    (f_X2_takes_46 a0 a1 x3)
    (f_X2_takes_10 n a0 a1 (x3 + (1 : Int32)))))
set_option maxHeartbeats 4000000 in
set_option maxRecDepth 100000 in
theorem b_X2_takes_10 {G : gG} {l : Launch} {p : Program} {e : Env} {s : State} {m : MethodId} {args : Array Value} {below : List Frame} {meth : Method} {c : Code} {h0 : g_H} {r : Int32} {h' : g_H} (X : gX G l yX2_takes.cls cX2_takes 6 (some .boolean) [] yX2_takes.name p s m args meth c) : ∀ n : Nat, w_X2_takes_10 G l p e s m args below meth c h0 r h' (f_X2_takes_10 n) := by
  have hx := X.1
  have hb := X.2.1
  have hown := X.2.2.2.1
  have hts := X.2.2.2.2.1
  intro n
  induction n with
  | zero =>
    intro a0 a1 x3 h H locs cells slots ls hf hI hl
    exact (gFail_f hf).elim
  | succ n ih =>
    intro a0 a1 x3 h H locs cells slots ls hf hI hl
    rw [f_X2_takes_10] at hf
    refine lv_iload_n hx hb dX2_takes_10 rfl (lv_at hl 2 rfl) ?_
    refine lv_aload_n hx hb dX2_takes_11 rfl (lv_at hl 0 rfl) ?_
    refine g_fi X hI hf fX2_7 q404 rfl rfl dX2_takes_12 (fun v101 hf => ?_)
    refine lv_icmp_ge (tgt := 46) hx hb dX2_takes_15 (by decide) (fun c15 => ?_) (fun c15 => ?_)
    · have hf := g_t c15 hf
      exact b_X2_takes_46 X _ _ _ _ _ _ _ _ _ hf hI (lv_sub hl [0, 1, 2] rfl)
    · have hf := g_f c15 hf
      refine lv_aload_n hx hb dX2_takes_18 rfl (lv_at hl 0 rfl) ?_
      refine g_fr X hI hf fX2_0 q395 rfl rfl dX2_takes_19 (fun v102 hf => ?_)
      refine lv_iload_n hx hb dX2_takes_22 rfl (lv_at hl 2 rfl) ?_
      refine g_ai1 X hI hf dX2_takes_23 (fun v103 hf => ?_)
      refine lv_bipush (v := (97 : Int32)) hx hb dX2_takes_24 (by decide) ?_
      refine lv_icmp_lt (tgt := 46) hx hb dX2_takes_26 (by decide) (fun c26 => ?_) (fun c26 => ?_)
      · have hf := g_t c26 hf
        exact b_X2_takes_46 X _ _ _ _ _ _ _ _ _ hf hI (lv_sub hl [0, 1, 2] rfl)
      · have hf := g_f c26 hf
        refine lv_aload_n hx hb dX2_takes_29 rfl (lv_at hl 0 rfl) ?_
        refine g_fr X hI hf fX2_0 q395 rfl rfl dX2_takes_30 (fun v104 hf => ?_)
        refine lv_iload_n hx hb dX2_takes_33 rfl (lv_at hl 2 rfl) ?_
        refine g_ai1 X hI hf dX2_takes_34 (fun v105 hf => ?_)
        refine lv_bipush (v := (122 : Int32)) hx hb dX2_takes_35 (by decide) ?_
        refine lv_icmp_gt (tgt := 46) hx hb dX2_takes_37 (by decide) (fun c37 => ?_) (fun c37 => ?_)
        · have hf := g_t c37 hf
          exact b_X2_takes_46 X _ _ _ _ _ _ _ _ _ hf hI (lv_sub hl [0, 1, 2] rfl)
        · have hf := g_f c37 hf
          refine lv_iinc (v := (x3 + (1 : Int32))) (lv' := [(3, .int (x3 + (1 : Int32))), (0, .ref a0), (1, .ref a1)]) hx hb dX2_takes_40 hl (k := 2) rfl rfl (by decide) rfl (fun ls hl => ?_)
          refine lv_goto (tgt := 10) hx hb dX2_takes_43 (by decide) ?_
          exact ih _ _ _ _ _ _ _ _ _ hf hI (lv_sub hl [1, 2, 0] rfl)
def f_X2_takes (a0 : Nat) (a1 : Nat) : gM Int32 :=
    gB (gCk a0 1) fun _ =>
    gB (f_X2_sign a0) fun r1 =>
    gB (gFI a0 1 8) fun v2 =>
    f_X2_takes_10 gN a0 a1 v2
set_option maxHeartbeats 4000000 in
set_option maxRecDepth 100000 in
theorem m_X2_takes {G : gG} {l : Launch} (hfl : l.stackTraces = false) {a0 : Nat} {a1 : Nat} {h h' : g_H} {r : Int32} (hf : (f_X2_takes a0 a1).1 h = some (r, h')) : gMet G l yX2_takes (Cond.code yX2_takes cX2_takes 6 (some .boolean)) 5 105 [.ref a0, .ref a1] h (.inl (g_wI r)) h' := by
  refine g_head hfl ((f_X2_takes a0 a1).2 h r h' hf) (plainFor_of_name (by decide)) (Nat.le_of_ble_eq_true rfl) (fun p e s m below meth c H locs cells slots ls X hI hl9 => ?_)
  have hl : lv_has ls 6 [(0, .ref a0), (1, .ref a1)] := hl9
  have hx := X.1
  have hb := X.2.1
  have hown := X.2.2.2.1
  have hts := X.2.2.2.2.1
  unfold f_X2_takes at hf
  refine lv_aload_n hx hb dX2_takes_0 rfl (lv_at hl 0 rfl) ?_
  obtain ⟨hs, hf⟩ := gCk_b hf
  refine g_cBI hI hf (fun v9 h9 e9 l9 l9' => g_rV X hI l9 l9' ⟨Nat.le_refl _, Nat.le_refl _⟩ (As := []) (m_X2_sign X.2.2.2.2.2.2.2.2.2.2.1 e9) ydX2_sign hs rfl rfl q809 q811 qs18 q122 q812 rfl (Nat.le_of_ble_eq_true rfl) (Nat.le_of_ble_eq_true rfl) hl.1 rfl (Nat.le_of_ble_eq_true rfl) dX2_takes_1) (fun r1 h H locs cells slots hf hI => ?_)
  refine lv_istore_n (lv' := [(2, .int r1), (0, .ref a0), (1, .ref a1)]) hx hb dX2_takes_4 rfl hl (by decide) rfl (fun ls hl => ?_)
  refine lv_aload_n hx hb dX2_takes_5 rfl (lv_at hl 1 rfl) ?_
  refine g_fi X hI hf fX2_8 q405 rfl rfl dX2_takes_6 (fun v2 hf => ?_)
  refine lv_istore_n (lv' := [(3, .int v2), (2, .int r1), (0, .ref a0), (1, .ref a1)]) hx hb dX2_takes_9 rfl hl (by decide) rfl (fun ls hl => ?_)
  exact b_X2_takes_10 X gN _ _ _ _ _ _ _ _ _ hf hI (lv_sub hl [2, 3, 0] rfl)
/-! X2_expect -/
abbrev w_X2_expect_16 (G : gG) (l : Launch) (p : Program) (e : Env) (s : State) (m : MethodId) (args : Array Value) (below : List Frame) (meth : Method) (c : Code) (h0 : g_H) (r : (Unit ⊕ gE)) (h' : g_H) (k : gM (Unit ⊕ gE)) : Prop := ∀ (h : g_H) (H : Heap) (locs : List Loc) (cells slots : Nat) (ls : Array Slot), (k).1 h = some (r, h') → gI G h0 h H locs cells slots → lv_has ls 2 [] → W p l e (g_rm 6 130 h0 h') s m args below meth c H locs cells slots (gQ G below args s h0 h' (g_w g_wU r)) (F0 m 16 ls [])
def f_X2_expect_16 : gM (Unit ⊕ gE) :=
    gRet (.inl ())
set_option maxHeartbeats 4000000 in
set_option maxRecDepth 100000 in
theorem b_X2_expect_16 {G : gG} {l : Launch} {p : Program} {e : Env} {s : State} {m : MethodId} {args : Array Value} {below : List Frame} {meth : Method} {c : Code} {h0 : g_H} {r : (Unit ⊕ gE)} {h' : g_H} (X : gX G l yX2_expect.cls cX2_expect 2 none [] yX2_expect.name p s m args meth c) : w_X2_expect_16 G l p e s m args below meth c h0 r h' (f_X2_expect_16) := by
  have hx := X.1
  have hb := X.2.1
  have hown := X.2.2.2.1
  have hts := X.2.2.2.2.1
  intro h H locs cells slots ls hf hI hl
  unfold f_X2_expect_16 at hf
  cases gRet_e hf
  exact g_retU X hI rfl dX2_expect_16
def f_X2_expect (a0 : Nat) (a1 : Nat) : gM (Unit ⊕ gE) :=
    gB (gCk a0 1) fun _ =>
    gB (f_X2_takes a0 a1) fun r1 =>
    gIf (r1 = 0)
    (gB (gFI a0 1 8) fun v2 =>
    gB (gCk a0 1) fun _ =>
    gT (f_X2_fail a0 v2) fun _ =>
    f_X2_expect_16)
    (f_X2_expect_16)
set_option maxHeartbeats 4000000 in
set_option maxRecDepth 100000 in
theorem m_X2_expect {G : gG} {l : Launch} (hfl : l.stackTraces = false) {a0 : Nat} {a1 : Nat} {h h' : g_H} {r : (Unit ⊕ gE)} (hf : (f_X2_expect a0 a1).1 h = some (r, h')) : gMet G l yX2_expect (Cond.code yX2_expect cX2_expect 2 none) 6 130 [.ref a0, .ref a1] h (g_w g_wU r) h' := by
  refine g_head hfl ((f_X2_expect a0 a1).2 h r h' hf) (plainFor_of_name (by decide)) (Nat.le_of_ble_eq_true rfl) (fun p e s m below meth c H locs cells slots ls X hI hl9 => ?_)
  have hl : lv_has ls 2 [(0, .ref a0), (1, .ref a1)] := hl9
  have hx := X.1
  have hb := X.2.1
  have hown := X.2.2.2.1
  have hts := X.2.2.2.2.1
  unfold f_X2_expect at hf
  refine lv_aload_n hx hb dX2_expect_0 rfl (lv_at hl 0 rfl) ?_
  refine lv_aload_n hx hb dX2_expect_1 rfl (lv_at hl 1 rfl) ?_
  obtain ⟨hs, hf⟩ := gCk_b hf
  refine g_cBI hI hf (fun v9 h9 e9 l9 l9' => g_rV X hI l9 l9' ⟨Nat.le_refl _, Nat.le_refl _⟩ (As := [.ref a1]) (m_X2_takes X.2.2.2.2.2.2.2.2.2.2.1 e9) ydX2_takes hs rfl rfl q821 q823 qs21 q122 q824 rfl (Nat.le_of_ble_eq_true rfl) (Nat.le_of_ble_eq_true rfl) hl.1 rfl (Nat.le_of_ble_eq_true rfl) dX2_expect_2) (fun r1 h H locs cells slots hf hI => ?_)
  refine lv_if_ne (tgt := 16) hx hb dX2_expect_5 (by decide) (fun c5 => ?_) (fun c5 => ?_)
  · have hf := g_f c5 hf
    exact b_X2_expect_16 X _ _ _ _ _ _ hf hI (lv_sub hl [] rfl)
  · have hf := g_t c5 hf
    refine lv_aload_n hx hb dX2_expect_8 rfl (lv_at hl 0 rfl) ?_
    refine lv_aload_n hx hb dX2_expect_9 rfl (lv_at hl 0 rfl) ?_
    refine g_fi X hI hf fX2_8 q405 rfl rfl dX2_expect_10 (fun v2 hf => ?_)
    obtain ⟨hs, hf⟩ := gCk_b hf
    refine g_cTU X hI (by decide) hf (fun v9 h9 e9 l9 l9' => g_rV X hI l9 l9' ⟨Nat.le_refl _, Nat.le_refl _⟩ (As := [.int v2]) (m_X2_fail X.2.2.2.2.2.2.2.2.2.2.1 e9) ydX2_fail hs rfl rfl q813 q815 qs19 q122 q816 rfl (Nat.le_of_ble_eq_true rfl) (Nat.le_of_ble_eq_true rfl) hl.1 rfl (Nat.le_of_ble_eq_true rfl) dX2_expect_13) (fun r3 h H locs cells slots hf hI => ?_)
    exact b_X2_expect_16 X _ _ _ _ _ _ hf hI (lv_sub hl [] rfl)
/-! X2_here -/
def f_X2_here (a0 : Nat) : gM Int32 :=
    gB (gCk a0 1) fun _ =>
    gB (f_X2_sign a0) fun r1 =>
    gB (gFI a0 1 8) fun v2 =>
    (gRet v2)
set_option maxHeartbeats 4000000 in
set_option maxRecDepth 100000 in
theorem m_X2_here {G : gG} {l : Launch} (hfl : l.stackTraces = false) {a0 : Nat} {h h' : g_H} {r : Int32} (hf : (f_X2_here a0).1 h = some (r, h')) : gMet G l yX2_here (Cond.code yX2_here cX2_here 2 (some .int)) 2 40 [.ref a0] h (.inl (g_wI r)) h' := by
  refine g_head hfl ((f_X2_here a0).2 h r h' hf) (plainFor_of_name (by decide)) (Nat.le_of_ble_eq_true rfl) (fun p e s m below meth c H locs cells slots ls X hI hl9 => ?_)
  have hl : lv_has ls 2 [(0, .ref a0)] := hl9
  have hx := X.1
  have hb := X.2.1
  have hown := X.2.2.2.1
  have hts := X.2.2.2.2.1
  unfold f_X2_here at hf
  refine lv_aload_n hx hb dX2_here_0 rfl (lv_at hl 0 rfl) ?_
  obtain ⟨hs, hf⟩ := gCk_b hf
  refine g_cBI hI hf (fun v9 h9 e9 l9 l9' => g_rV X hI l9 l9' ⟨Nat.le_refl _, Nat.le_refl _⟩ (As := []) (m_X2_sign X.2.2.2.2.2.2.2.2.2.2.1 e9) ydX2_sign hs rfl rfl q809 q811 qs18 q122 q812 rfl (Nat.le_of_ble_eq_true rfl) (Nat.le_of_ble_eq_true rfl) hl.1 rfl (Nat.le_of_ble_eq_true rfl) dX2_here_1) (fun r1 h H locs cells slots hf hI => ?_)
  refine lv_istore_n (lv' := [(1, .int r1), (0, .ref a0)]) hx hb dX2_here_4 rfl hl (by decide) rfl (fun ls hl => ?_)
  refine lv_aload_n hx hb dX2_here_5 rfl (lv_at hl 1 rfl) ?_
  refine g_fi X hI hf fX2_8 q405 rfl rfl dX2_here_6 (fun v2 hf => ?_)
  cases gRet_e hf
  exact g_retI X hI rfl dX2_here_9
/-! X2_number -/
abbrev w_X2_number_62 (G : gG) (l : Launch) (p : Program) (e : Env) (s : State) (m : MethodId) (args : Array Value) (below : List Frame) (meth : Method) (c : Code) (h0 : g_H) (r : (Int32 ⊕ gE)) (h' : g_H) (k : Nat → Int32 → Int32 → Int32 → Int32 → gM (Int32 ⊕ gE)) : Prop := ∀ (a0 : Nat) (x1 : Int32) (x2 : Int32) (x3 : Int32) (x4 : Int32) (h : g_H) (H : Heap) (locs : List Loc) (cells slots : Nat) (ls : Array Slot), (k a0 x1 x2 x3 x4).1 h = some (r, h') → gI G h0 h H locs cells slots → lv_has ls 5 [(0, .ref a0), (1, .int x1), (2, .int x2), (3, .int x3), (4, .int x4)] → W p l e (g_rm 3 61 h0 h') s m args below meth c H locs cells slots (gQ G below args s h0 h' (g_w g_wI r)) (F0 m 62 ls [])
abbrev w_X2_number_120 (G : gG) (l : Launch) (p : Program) (e : Env) (s : State) (m : MethodId) (args : Array Value) (below : List Frame) (meth : Method) (c : Code) (h0 : g_H) (r : (Int32 ⊕ gE)) (h' : g_H) (k : Int32 → gM (Int32 ⊕ gE)) : Prop := ∀ (x4 : Int32) (h : g_H) (H : Heap) (locs : List Loc) (cells slots : Nat) (ls : Array Slot), (k x4).1 h = some (r, h') → gI G h0 h H locs cells slots → lv_has ls 5 [(4, .int x4)] → W p l e (g_rm 3 61 h0 h') s m args below meth c H locs cells slots (gQ G below args s h0 h' (g_w g_wI r)) (F0 m 120 ls [])
abbrev w_X2_number_115 (G : gG) (l : Launch) (p : Program) (e : Env) (s : State) (m : MethodId) (args : Array Value) (below : List Frame) (meth : Method) (c : Code) (h0 : g_H) (r : (Int32 ⊕ gE)) (h' : g_H) (k : Nat → Int32 → Int32 → gM (Int32 ⊕ gE)) : Prop := ∀ (a0 : Nat) (x3 : Int32) (x4 : Int32) (h : g_H) (H : Heap) (locs : List Loc) (cells slots : Nat) (ls : Array Slot), (k a0 x3 x4).1 h = some (r, h') → gI G h0 h H locs cells slots → lv_has ls 5 [(0, .ref a0), (3, .int x3), (4, .int x4)] → W p l e (g_rm 3 61 h0 h') s m args below meth c H locs cells slots (gQ G below args s h0 h' (g_w g_wI r)) (F0 m 115 ls [])
abbrev w_X2_number_95 (G : gG) (l : Launch) (p : Program) (e : Env) (s : State) (m : MethodId) (args : Array Value) (below : List Frame) (meth : Method) (c : Code) (h0 : g_H) (r : (Int32 ⊕ gE)) (h' : g_H) (k : Nat → Int32 → Int32 → Int32 → Int32 → gM (Int32 ⊕ gE)) : Prop := ∀ (a0 : Nat) (x1 : Int32) (x2 : Int32) (x3 : Int32) (x4 : Int32) (h : g_H) (H : Heap) (locs : List Loc) (cells slots : Nat) (ls : Array Slot), (k a0 x1 x2 x3 x4).1 h = some (r, h') → gI G h0 h H locs cells slots → lv_has ls 5 [(0, .ref a0), (1, .int x1), (2, .int x2), (3, .int x3), (4, .int x4)] → W p l e (g_rm 3 61 h0 h') s m args below meth c H locs cells slots (gQ G below args s h0 h' (g_w g_wI r)) (F0 m 95 ls [])
abbrev w_X2_number_8 (G : gG) (l : Launch) (p : Program) (e : Env) (s : State) (m : MethodId) (args : Array Value) (below : List Frame) (meth : Method) (c : Code) (h0 : g_H) (r : (Int32 ⊕ gE)) (h' : g_H) (k : Nat → Int32 → Int32 → Int32 → Int32 → gM (Int32 ⊕ gE)) : Prop := ∀ (a0 : Nat) (x1 : Int32) (x2 : Int32) (x3 : Int32) (x4 : Int32) (h : g_H) (H : Heap) (locs : List Loc) (cells slots : Nat) (ls : Array Slot), (k a0 x1 x2 x3 x4).1 h = some (r, h') → gI G h0 h H locs cells slots → lv_has ls 5 [(0, .ref a0), (1, .int x1), (2, .int x2), (3, .int x3), (4, .int x4)] → W p l e (g_rm 3 61 h0 h') s m args below meth c H locs cells slots (gQ G below args s h0 h' (g_w g_wI r)) (F0 m 8 ls [])
def f_X2_number_62 (k8 : Nat → Int32 → Int32 → Int32 → Int32 → gM (Int32 ⊕ gE)) (a0 : Nat) (x1 : Int32) (x2 : Int32) (x3 : Int32) (x4 : Int32) : gM (Int32 ⊕ gE) :=
    gB (gFR a0 1 0) fun v101 =>
    gB (gFI a0 1 8) fun v102 =>
    gB (gAI v101 1 v102) fun v103 =>
    gB (gRet ((((10 : Int32) * x4) + v103) - (48 : Int32))) fun v104 =>
    gB (gFI a0 1 8) fun v105 =>
    gB (gPI a0 1 8 (v105 + (1 : Int32))) fun _ =>
    k8 a0 x1 x2 x3 v104
set_option maxHeartbeats 4000000 in
set_option maxRecDepth 100000 in
theorem b_X2_number_62 {G : gG} {l : Launch} {p : Program} {e : Env} {s : State} {m : MethodId} {args : Array Value} {below : List Frame} {meth : Method} {c : Code} {h0 : g_H} {r : (Int32 ⊕ gE)} {h' : g_H} (X : gX G l yX2_number.cls cX2_number 5 (some .int) [] yX2_number.name p s m args meth c) {k8 : Nat → Int32 → Int32 → Int32 → Int32 → gM (Int32 ⊕ gE)} (K8 : w_X2_number_8 G l p e s m args below meth c h0 r h' k8) : w_X2_number_62 G l p e s m args below meth c h0 r h' (f_X2_number_62 k8) := by
  have hx := X.1
  have hb := X.2.1
  have hown := X.2.2.2.1
  have hts := X.2.2.2.2.1
  intro a0 x1 x2 x3 x4 h H locs cells slots ls hf hI hl
  unfold f_X2_number_62 at hf
  refine lv_bipush (v := (10 : Int32)) hx hb dX2_number_62 (by decide) ?_
  refine lv_iload hx hb dX2_number_64 (lv_at hl 4 rfl) ?_
  refine lv_imul hx hb dX2_number_66 ?_
  refine lv_aload_n hx hb dX2_number_67 rfl (lv_at hl 0 rfl) ?_
  refine g_fr X hI hf fX2_0 q395 rfl rfl dX2_number_68 (fun v101 hf => ?_)
  refine lv_aload_n hx hb dX2_number_71 rfl (lv_at hl 0 rfl) ?_
  refine g_fi X hI hf fX2_8 q405 rfl rfl dX2_number_72 (fun v102 hf => ?_)
  refine g_ai1 X hI hf dX2_number_75 (fun v103 hf => ?_)
  refine lv_iadd hx hb dX2_number_76 ?_
  refine lv_bipush (v := (48 : Int32)) hx hb dX2_number_77 (by decide) ?_
  refine lv_isub hx hb dX2_number_79 ?_
  refine g_let hf (fun v104 hf => ?_)
  refine lv_istore (lv' := [(4, .int v104), (0, .ref a0), (1, .int x1), (2, .int x2), (3, .int x3)]) hx hb dX2_number_80 hl (by decide) rfl (fun ls hl => ?_)
  refine lv_aload_n hx hb dX2_number_82 rfl (lv_at hl 1 rfl) ?_
  refine lv_dup hx hb dX2_number_83 rfl ?_
  refine g_fi X hI hf fX2_8 q405 rfl rfl dX2_number_84 (fun v105 hf => ?_)
  refine lv_iconst (v := (1 : Int32)) hx hb dX2_number_87 (by decide) ?_
  refine lv_iadd hx hb dX2_number_88 ?_
  refine g_pi X hI hf fX2_8 q405 rfl dX2_number_89 (fun h H locs hf hI => ?_)
  refine lv_goto (tgt := 8) hx hb dX2_number_92 (by decide) ?_
  exact K8 _ _ _ _ _ _ _ _ _ _ _ hf hI (lv_sub hl [1, 2, 3, 4, 0] rfl)
def f_X2_number_120 (x4 : Int32) : gM (Int32 ⊕ gE) :=
    (gRet (.inl x4))
set_option maxHeartbeats 4000000 in
set_option maxRecDepth 100000 in
theorem b_X2_number_120 {G : gG} {l : Launch} {p : Program} {e : Env} {s : State} {m : MethodId} {args : Array Value} {below : List Frame} {meth : Method} {c : Code} {h0 : g_H} {r : (Int32 ⊕ gE)} {h' : g_H} (X : gX G l yX2_number.cls cX2_number 5 (some .int) [] yX2_number.name p s m args meth c) : w_X2_number_120 G l p e s m args below meth c h0 r h' (f_X2_number_120) := by
  have hx := X.1
  have hb := X.2.1
  have hown := X.2.2.2.1
  have hts := X.2.2.2.2.1
  intro x4 h H locs cells slots ls hf hI hl
  unfold f_X2_number_120 at hf
  refine lv_iload hx hb dX2_number_120 (lv_at hl 0 rfl) ?_
  cases gRet_e hf
  exact g_retI X hI rfl dX2_number_122
def f_X2_number_115 (a0 : Nat) (x3 : Int32) (x4 : Int32) : gM (Int32 ⊕ gE) :=
    gB (gCk a0 1) fun _ =>
    gT (f_X2_fail a0 x3) fun _ =>
    f_X2_number_120 x4
set_option maxHeartbeats 4000000 in
set_option maxRecDepth 100000 in
theorem b_X2_number_115 {G : gG} {l : Launch} {p : Program} {e : Env} {s : State} {m : MethodId} {args : Array Value} {below : List Frame} {meth : Method} {c : Code} {h0 : g_H} {r : (Int32 ⊕ gE)} {h' : g_H} (X : gX G l yX2_number.cls cX2_number 5 (some .int) [] yX2_number.name p s m args meth c) : w_X2_number_115 G l p e s m args below meth c h0 r h' (f_X2_number_115) := by
  have hx := X.1
  have hb := X.2.1
  have hown := X.2.2.2.1
  have hts := X.2.2.2.2.1
  intro a0 x3 x4 h H locs cells slots ls hf hI hl
  unfold f_X2_number_115 at hf
  refine lv_aload_n hx hb dX2_number_115 rfl (lv_at hl 0 rfl) ?_
  refine lv_iload_n hx hb dX2_number_116 rfl (lv_at hl 1 rfl) ?_
  obtain ⟨hs, hf⟩ := gCk_b hf
  refine g_cTU X hI (by decide) hf (fun v9 h9 e9 l9 l9' => g_rV X hI l9 l9' ⟨Nat.le_refl _, Nat.le_refl _⟩ (As := [.int x3]) (m_X2_fail X.2.2.2.2.2.2.2.2.2.2.1 e9) ydX2_fail hs rfl rfl q813 q815 qs19 q122 q816 rfl (Nat.le_of_ble_eq_true rfl) (Nat.le_of_ble_eq_true rfl) hl.1 rfl (Nat.le_of_ble_eq_true rfl) dX2_number_117) (fun r101 h H locs cells slots hf hI => ?_)
  exact b_X2_number_120 X _ _ _ _ _ _ _ hf hI (lv_sub hl [2] rfl)
def f_X2_number_95 (a0 : Nat) (x1 : Int32) (x2 : Int32) (x3 : Int32) (x4 : Int32) : gM (Int32 ⊕ gE) :=
    gB (gFI a0 1 8) fun v101 =>
    gIf (v101 = x3)
    (f_X2_number_115 a0 x3 x4)
    (gIf (x4 < x1)
    (f_X2_number_115 a0 x3 x4)
    (gIf (x4 ≤ x2)
    (f_X2_number_120 x4)
    (f_X2_number_115 a0 x3 x4)))
set_option maxHeartbeats 4000000 in
set_option maxRecDepth 100000 in
theorem b_X2_number_95 {G : gG} {l : Launch} {p : Program} {e : Env} {s : State} {m : MethodId} {args : Array Value} {below : List Frame} {meth : Method} {c : Code} {h0 : g_H} {r : (Int32 ⊕ gE)} {h' : g_H} (X : gX G l yX2_number.cls cX2_number 5 (some .int) [] yX2_number.name p s m args meth c) : w_X2_number_95 G l p e s m args below meth c h0 r h' (f_X2_number_95) := by
  have hx := X.1
  have hb := X.2.1
  have hown := X.2.2.2.1
  have hts := X.2.2.2.2.1
  intro a0 x1 x2 x3 x4 h H locs cells slots ls hf hI hl
  unfold f_X2_number_95 at hf
  refine lv_aload_n hx hb dX2_number_95 rfl (lv_at hl 0 rfl) ?_
  refine g_fi X hI hf fX2_8 q405 rfl rfl dX2_number_96 (fun v101 hf => ?_)
  refine lv_iload_n hx hb dX2_number_99 rfl (lv_at hl 3 rfl) ?_
  refine lv_icmp_eq (tgt := 115) hx hb dX2_number_100 (by decide) (fun c100 => ?_) (fun c100 => ?_)
  · have hf := g_t c100 hf
    exact b_X2_number_115 X _ _ _ _ _ _ _ _ _ hf hI (lv_sub hl [0, 3, 4] rfl)
  · have hf := g_f c100 hf
    refine lv_iload hx hb dX2_number_103 (lv_at hl 4 rfl) ?_
    refine lv_iload_n hx hb dX2_number_105 rfl (lv_at hl 1 rfl) ?_
    refine lv_icmp_lt (tgt := 115) hx hb dX2_number_106 (by decide) (fun c106 => ?_) (fun c106 => ?_)
    · have hf := g_t c106 hf
      exact b_X2_number_115 X _ _ _ _ _ _ _ _ _ hf hI (lv_sub hl [0, 3, 4] rfl)
    · have hf := g_f c106 hf
      refine lv_iload hx hb dX2_number_109 (lv_at hl 4 rfl) ?_
      refine lv_iload_n hx hb dX2_number_111 rfl (lv_at hl 2 rfl) ?_
      refine lv_icmp_le (tgt := 120) hx hb dX2_number_112 (by decide) (fun c112 => ?_) (fun c112 => ?_)
      · have hf := g_t c112 hf
        exact b_X2_number_120 X _ _ _ _ _ _ _ hf hI (lv_sub hl [4] rfl)
      · have hf := g_f c112 hf
        exact b_X2_number_115 X _ _ _ _ _ _ _ _ _ hf hI (lv_sub hl [0, 3, 4] rfl)
def f_X2_number_8 : Nat → Nat → Int32 → Int32 → Int32 → Int32 → gM (Int32 ⊕ gE)
  | 0, _, _, _, _, _ => gFail
  | n + 1, a0, x1, x2, x3, x4 =>
    gB (gFI a0 1 8) fun v101 =>
    gB (gFI a0 1 7) fun v102 =>
    gIf (v102 ≤ v101)
    (f_X2_number_95 a0 x1 x2 x3 x4)
    (gB (gFR a0 1 0) fun v103 =>
    gB (gFI a0 1 8) fun v104 =>
    gB (gAI v103 1 v104) fun v105 =>
    gIf (v105 < (48 : Int32))
    (f_X2_number_95 a0 x1 x2 x3 x4)
    (gB (gFR a0 1 0) fun v106 =>
    gB (gFI a0 1 8) fun v107 =>
    gB (gAI v106 1 v107) fun v108 =>
    gIf ((57 : Int32) < v108)
    (f_X2_number_95 a0 x1 x2 x3 x4)
    (gB (gFI a0 1 8) fun v109 =>
    gIf ((v109 - x3) = (3 : Int32))
    (gB (gCk a0 1) fun _ =>
    gT (f_X2_fail a0 x3) fun _ =>
    f_X2_number_62 (f_X2_number_8 n) a0 x1 x2 x3 x4)
    (f_X2_number_62 (f_X2_number_8 n) a0 x1 x2 x3 x4))))
set_option maxHeartbeats 4000000 in
set_option maxRecDepth 100000 in
theorem b_X2_number_8 {G : gG} {l : Launch} {p : Program} {e : Env} {s : State} {m : MethodId} {args : Array Value} {below : List Frame} {meth : Method} {c : Code} {h0 : g_H} {r : (Int32 ⊕ gE)} {h' : g_H} (X : gX G l yX2_number.cls cX2_number 5 (some .int) [] yX2_number.name p s m args meth c) : ∀ n : Nat, w_X2_number_8 G l p e s m args below meth c h0 r h' (f_X2_number_8 n) := by
  have hx := X.1
  have hb := X.2.1
  have hown := X.2.2.2.1
  have hts := X.2.2.2.2.1
  intro n
  induction n with
  | zero =>
    intro a0 x1 x2 x3 x4 h H locs cells slots ls hf hI hl
    exact (gFail_f hf).elim
  | succ n ih =>
    intro a0 x1 x2 x3 x4 h H locs cells slots ls hf hI hl
    rw [f_X2_number_8] at hf
    refine lv_aload_n hx hb dX2_number_8 rfl (lv_at hl 0 rfl) ?_
    refine g_fi X hI hf fX2_8 q405 rfl rfl dX2_number_9 (fun v101 hf => ?_)
    refine lv_aload_n hx hb dX2_number_12 rfl (lv_at hl 0 rfl) ?_
    refine g_fi X hI hf fX2_7 q404 rfl rfl dX2_number_13 (fun v102 hf => ?_)
    refine lv_icmp_ge (tgt := 95) hx hb dX2_number_16 (by decide) (fun c16 => ?_) (fun c16 => ?_)
    · have hf := g_t c16 hf
      exact b_X2_number_95 X _ _ _ _ _ _ _ _ _ _ _ hf hI (lv_sub hl [0, 1, 2, 3, 4] rfl)
    · have hf := g_f c16 hf
      refine lv_aload_n hx hb dX2_number_19 rfl (lv_at hl 0 rfl) ?_
      refine g_fr X hI hf fX2_0 q395 rfl rfl dX2_number_20 (fun v103 hf => ?_)
      refine lv_aload_n hx hb dX2_number_23 rfl (lv_at hl 0 rfl) ?_
      refine g_fi X hI hf fX2_8 q405 rfl rfl dX2_number_24 (fun v104 hf => ?_)
      refine g_ai1 X hI hf dX2_number_27 (fun v105 hf => ?_)
      refine lv_bipush (v := (48 : Int32)) hx hb dX2_number_28 (by decide) ?_
      refine lv_icmp_lt (tgt := 95) hx hb dX2_number_30 (by decide) (fun c30 => ?_) (fun c30 => ?_)
      · have hf := g_t c30 hf
        exact b_X2_number_95 X _ _ _ _ _ _ _ _ _ _ _ hf hI (lv_sub hl [0, 1, 2, 3, 4] rfl)
      · have hf := g_f c30 hf
        refine lv_aload_n hx hb dX2_number_33 rfl (lv_at hl 0 rfl) ?_
        refine g_fr X hI hf fX2_0 q395 rfl rfl dX2_number_34 (fun v106 hf => ?_)
        refine lv_aload_n hx hb dX2_number_37 rfl (lv_at hl 0 rfl) ?_
        refine g_fi X hI hf fX2_8 q405 rfl rfl dX2_number_38 (fun v107 hf => ?_)
        refine g_ai1 X hI hf dX2_number_41 (fun v108 hf => ?_)
        refine lv_bipush (v := (57 : Int32)) hx hb dX2_number_42 (by decide) ?_
        refine lv_icmp_gt (tgt := 95) hx hb dX2_number_44 (by decide) (fun c44 => ?_) (fun c44 => ?_)
        · have hf := g_t c44 hf
          exact b_X2_number_95 X _ _ _ _ _ _ _ _ _ _ _ hf hI (lv_sub hl [0, 1, 2, 3, 4] rfl)
        · have hf := g_f c44 hf
          refine lv_aload_n hx hb dX2_number_47 rfl (lv_at hl 0 rfl) ?_
          refine g_fi X hI hf fX2_8 q405 rfl rfl dX2_number_48 (fun v109 hf => ?_)
          refine lv_iload_n hx hb dX2_number_51 rfl (lv_at hl 3 rfl) ?_
          refine lv_isub hx hb dX2_number_52 ?_
          refine lv_iconst (v := (3 : Int32)) hx hb dX2_number_53 (by decide) ?_
          refine lv_icmp_ne (tgt := 62) hx hb dX2_number_54 (by decide) (fun c54 => ?_) (fun c54 => ?_)
          · have hf := g_f c54 hf
            exact b_X2_number_62 X ih _ _ _ _ _ _ _ _ _ _ _ hf hI (lv_sub hl [0, 1, 2, 3, 4] rfl)
          · have hf := g_t c54 hf
            refine lv_aload_n hx hb dX2_number_57 rfl (lv_at hl 0 rfl) ?_
            refine lv_iload_n hx hb dX2_number_58 rfl (lv_at hl 3 rfl) ?_
            obtain ⟨hs, hf⟩ := gCk_b hf
            refine g_cTU X hI (by decide) hf (fun v9 h9 e9 l9 l9' => g_rV X hI l9 l9' ⟨Nat.le_refl _, Nat.le_refl _⟩ (As := [.int x3]) (m_X2_fail X.2.2.2.2.2.2.2.2.2.2.1 e9) ydX2_fail hs rfl rfl q813 q815 qs19 q122 q816 rfl (Nat.le_of_ble_eq_true rfl) (Nat.le_of_ble_eq_true rfl) hl.1 rfl (Nat.le_of_ble_eq_true rfl) dX2_number_59) (fun r110 h H locs cells slots hf hI => ?_)
            exact b_X2_number_62 X ih _ _ _ _ _ _ _ _ _ _ _ hf hI (lv_sub hl [0, 1, 2, 3, 4] rfl)
def f_X2_number (a0 : Nat) (x1 : Int32) (x2 : Int32) : gM (Int32 ⊕ gE) :=
    gB (gCk a0 1) fun _ =>
    gB (f_X2_here a0) fun r1 =>
    f_X2_number_8 gN a0 x1 x2 r1 (0 : Int32)
set_option maxHeartbeats 4000000 in
set_option maxRecDepth 100000 in
theorem m_X2_number {G : gG} {l : Launch} (hfl : l.stackTraces = false) {a0 : Nat} {x1 : Int32} {x2 : Int32} {h h' : g_H} {r : (Int32 ⊕ gE)} (hf : (f_X2_number a0 x1 x2).1 h = some (r, h')) : gMet G l yX2_number (Cond.code yX2_number cX2_number 5 (some .int)) 3 61 [.ref a0, .int x1, .int x2] h (g_w g_wI r) h' := by
  refine g_head hfl ((f_X2_number a0 x1 x2).2 h r h' hf) (plainFor_of_name (by decide)) (Nat.le_of_ble_eq_true rfl) (fun p e s m below meth c H locs cells slots ls X hI hl9 => ?_)
  have hl : lv_has ls 5 [(0, .ref a0), (1, .int x1), (2, .int x2)] := hl9
  have hx := X.1
  have hb := X.2.1
  have hown := X.2.2.2.1
  have hts := X.2.2.2.2.1
  unfold f_X2_number at hf
  refine lv_aload_n hx hb dX2_number_0 rfl (lv_at hl 0 rfl) ?_
  obtain ⟨hs, hf⟩ := gCk_b hf
  refine g_cBI hI hf (fun v9 h9 e9 l9 l9' => g_rV X hI l9 l9' ⟨Nat.le_refl _, Nat.le_refl _⟩ (As := []) (m_X2_here X.2.2.2.2.2.2.2.2.2.2.1 e9) ydX2_here hs rfl rfl q881 q883 qs24 q122 q884 rfl (Nat.le_of_ble_eq_true rfl) (Nat.le_of_ble_eq_true rfl) hl.1 rfl (Nat.le_of_ble_eq_true rfl) dX2_number_1) (fun r1 h H locs cells slots hf hI => ?_)
  refine lv_istore_n (lv' := [(3, .int r1), (0, .ref a0), (1, .int x1), (2, .int x2)]) hx hb dX2_number_4 rfl hl (by decide) rfl (fun ls hl => ?_)
  refine lv_iconst (v := (0 : Int32)) hx hb dX2_number_5 (by decide) ?_
  refine lv_istore (lv' := [(4, .int (0 : Int32)), (3, .int r1), (0, .ref a0), (1, .int x1), (2, .int x2)]) hx hb dX2_number_6 hl (by decide) rfl (fun ls hl => ?_)
  exact b_X2_number_8 X gN _ _ _ _ _ _ _ _ _ _ _ hf hI (lv_sub hl [2, 3, 4, 1, 0] rfl)
end
