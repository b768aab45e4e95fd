noncomputable section
/-! X14_adds_c14 -/
abbrev w_X14_adds_c14_28 (G : gG) (l : Launch) (p : Program) (e : Env) (s : State) (m : MethodId) (args : Array Value) (below : List Frame) (meth : Method) (c : Code) (h0 : g_H) (r : Int32) (h' : g_H) (k : Int32 → gM Int32) : Prop := ∀ (u0 : Int32) (h : g_H) (H : Heap) (locs : List Loc) (cells slots : Nat) (ls : Array Slot), (k u0).1 h = some (r, h') → gI G h0 h H locs cells slots → lv_has ls 2 [] → W p l e (g_rm 97 1775 h0 h') s m args below meth c H locs cells slots (gQ G below args s h0 h' (.inl (g_wI r))) (F0 m 28 ls [.int u0])
abbrev w_X14_adds_c14_20 (G : gG) (l : Launch) (p : Program) (e : Env) (s : State) (m : MethodId) (args : Array Value) (below : List Frame) (meth : Method) (c : Code) (h0 : g_H) (r : Int32) (h' : g_H) (k : Nat → gM Int32) : Prop := ∀ (a0 : Nat) (h : g_H) (H : Heap) (locs : List Loc) (cells slots : Nat) (ls : Array Slot), (k a0).1 h = some (r, h') → gI G h0 h H locs cells slots → lv_has ls 2 [(0, .ref a0)] → W p l e (g_rm 97 1775 h0 h') s m args below meth c H locs cells slots (gQ G below args s h0 h' (.inl (g_wI r))) (F0 m 20 ls [])
def f_X14_adds_c14_28 (u0 : Int32) : gM Int32 :=
    (gRet u0)
set_option maxHeartbeats 4000000 in
set_option maxRecDepth 100000 in
theorem b_X14_adds_c14_28 {G : gG} {l : Launch} {p : Program} {e : Env} {s : State} {m : MethodId} {args : Array Value} {below : List Frame} {meth : Method} {c : Code} {h0 : g_H} {r : Int32} {h' : g_H} (X : gX G l yX14_adds.cls cX14_adds 2 (some .int) [] yX14_adds.name p s m args meth c) : w_X14_adds_c14_28 G l p e s m args below meth c h0 r h' (f_X14_adds_c14_28) := by
  have hx := X.1
  have hb := X.2.1
  have hown := X.2.2.2.1
  have hts := X.2.2.2.2.1
  intro u0 h H locs cells slots ls hf hI hl
  unfold f_X14_adds_c14_28 at hf
  cases gRet_e hf
  exact g_retI X hI rfl dX14_adds_28
def f_X14_adds_c14_20 (a0 : Nat) : gM Int32 :=
    gB (gFI a0 14 0) fun v101 =>
    f_X14_adds_c14_28 v101
set_option maxHeartbeats 4000000 in
set_option maxRecDepth 100000 in
theorem b_X14_adds_c14_20 {G : gG} {l : Launch} {p : Program} {e : Env} {s : State} {m : MethodId} {args : Array Value} {below : List Frame} {meth : Method} {c : Code} {h0 : g_H} {r : Int32} {h' : g_H} (X : gX G l yX14_adds.cls cX14_adds 2 (some .int) [] yX14_adds.name p s m args meth c) : w_X14_adds_c14_20 G l p e s m args below meth c h0 r h' (f_X14_adds_c14_20) := by
  have hx := X.1
  have hb := X.2.1
  have hown := X.2.2.2.1
  have hts := X.2.2.2.2.1
  intro a0 h H locs cells slots ls hf hI hl
  unfold f_X14_adds_c14_20 at hf
  refine lv_aload_n hx hb dX14_adds_20 rfl (lv_at hl 0 rfl) ?_
  refine g_fi X hI hf fX15_0 q1075 rfl rfl dX14_adds_21 (fun v101 hf => ?_)
  refine lv_goto (tgt := 28) hx hb dX14_adds_24 (by decide) ?_
  exact b_X14_adds_c14_28 X _ _ _ _ _ _ _ hf hI (lv_sub hl [] rfl)
def f_X14_adds_c14 (a0 : Nat) (a1 : Nat) : gM Int32 :=
    gB (gFQ a0 14 1) fun v1 =>
    gOpt v1
    (f_X14_adds_c14_20 a0)
    (fun w2 => gB (gFQ a0 14 1) fun v3 =>
    gB (gNN v3) fun y5 =>
    gB ((f_holds 24) y5 a1) fun r4 =>
    gIf (r4 = 0)
    (f_X14_adds_c14_28 (0 : Int32))
    (f_X14_adds_c14_20 a0))
set_option maxHeartbeats 4000000 in
set_option maxRecDepth 100000 in
theorem m_X14_adds_c14 {G : gG} {l : Launch} (hfl : l.stackTraces = false) {a0 : Nat} {a1 : Nat} {h h' : g_H} {r : Int32} (hf : (f_X14_adds_c14 a0 a1).1 h = some (r, h')) : gMet G l yX14_adds (Cond.code yX14_adds cX14_adds 2 (some .int)) 97 1775 [.ref a0, .ref a1] h (.inl (g_wI r)) h' := by
  refine g_head hfl ((f_X14_adds_c14 a0 a1).2 h r h' hf) (plainFor_of_name (by decide)) (Nat.le_of_ble_eq_true rfl) (fun p e s m below meth c H locs cells slots ls X hI hl9 => ?_)
  have hl : lv_has ls 2 [(0, .ref a0), (1, .ref a1)] := hl9
  have hx := X.1
  have hb := X.2.1
  have hown := X.2.2.2.1
  have hts := X.2.2.2.2.1
  unfold f_X14_adds_c14 at hf
  refine lv_aload_n hx hb dX14_adds_0 rfl (lv_at hl 0 rfl) ?_
  refine g_fq X hI hf fX15_1 q1076 rfl rfl dX14_adds_1 (fun v1 hf => ?_)
  refine g_ifnullQ (tgt := 20) hx hb hf dX14_adds_4 (by decide) ?_ ?_
  · intro hf
    exact b_X14_adds_c14_20 X _ _ _ _ _ _ _ hf hI (lv_sub hl [0] rfl)
  · intro w2 ew2 hf
    refine lv_aload_n hx hb dX14_adds_7 rfl (lv_at hl 0 rfl) ?_
    refine g_fq X hI hf fX15_1 q1076 rfl rfl dX14_adds_8 (fun v3 hf => ?_)
    refine lv_aload_n hx hb dX14_adds_11 rfl (lv_at hl 1 rfl) ?_
    obtain ⟨y5, ey5, hfy5⟩ := gNN_b hf
    subst ey5
    have hf := hfy5
    refine g_callF X hI (KHolds (X.2.2.2.2.2.2.2.2.2.2.1) 24) hf ⟨Nat.le_refl _, Nat.le_refl _⟩ q587 (Nat.le_of_ble_eq_true rfl) (Nat.le_of_ble_eq_true rfl) hl.1 (Nat.le_of_ble_eq_true rfl) dX14_adds_12 (fun r4 h H locs cells slots hf hI => ?_)
    refine lv_if_eq (tgt := 27) hx hb dX14_adds_17 (by decide) (fun c17 => ?_) (fun c17 => ?_)
    · have hf := g_t c17 hf
      refine lv_iconst (v := (0 : Int32)) hx hb dX14_adds_27 (by decide) ?_
      exact b_X14_adds_c14_28 X _ _ _ _ _ _ _ hf hI (lv_sub hl [] rfl)
    · have hf := g_f c17 hf
      exact b_X14_adds_c14_20 X _ _ _ _ _ _ _ hf hI (lv_sub hl [0] rfl)
/-! X15_wears -/
def f_X15_wears (a0 : Nat) (a1 : Nat) : gM Int32 :=
    gB (gCk a0 14) fun _ =>
    gB (f_X14_adds_c14 a0 a1) fun r1 =>
    (gRet r1)
set_option maxHeartbeats 4000000 in
set_option maxRecDepth 100000 in
theorem m_X15_wears {G : gG} {l : Launch} (hfl : l.stackTraces = false) {a0 : Nat} {a1 : Nat} {h h' : g_H} {r : Int32} (hf : (f_X15_wears a0 a1).1 h = some (r, h')) : gMet G l yX15_wears (Cond.code yX15_wears cX15_wears 2 (some .int)) 98 1796 [.ref a0, .ref a1] h (.inl (g_wI r)) h' := by
  refine g_head hfl ((f_X15_wears a0 a1).2 h r h' hf) (plainFor_of_name (by decide)) (Nat.le_of_ble_eq_true rfl) (fun p e s m below meth c H locs cells slots ls X hI hl9 => ?_)
  have hl : lv_has ls 2 [(0, .ref a0), (1, .ref a1)] := hl9
  have hx := X.1
  have hb := X.2.1
  have hown := X.2.2.2.1
  have hts := X.2.2.2.2.1
  unfold f_X15_wears at hf
  refine lv_aload_n hx hb dX15_wears_0 rfl (lv_at hl 0 rfl) ?_
  refine lv_aload_n hx hb dX15_wears_1 rfl (lv_at hl 1 rfl) ?_
  obtain ⟨hs, hf⟩ := gCk_b hf
  refine g_cBI hI hf (fun v9 h9 e9 l9 l9' => g_rU X hI l9 l9' ⟨Nat.le_refl _, Nat.le_refl _⟩ (As := [.ref a1]) (owner := "GhostAssize$Line") (x := ⟨"GhostAssize$Wears", "adds", "([I)I"⟩) (m_X14_adds_c14 X.2.2.2.2.2.2.2.2.2.2.1 e9) ydadds14 (by decide) hs rfl q708 q709 q584 q585 q584 q710 q145 q585 rfl (Nat.le_of_ble_eq_true rfl) (Nat.le_of_ble_eq_true rfl) hl.1 rfl (Nat.le_of_ble_eq_true rfl) dX15_wears_2) (fun r1 h H locs cells slots hf hI => ?_)
  cases gRet_e hf
  exact g_retI X hI rfl dX15_wears_5
/-! X14_wears_c15 -/
def f_X14_wears_c15 (a0 : Nat) (a1 : Nat) : gM Int32 :=
    (gRet (0 : Int32))
set_option maxHeartbeats 4000000 in
set_option maxRecDepth 100000 in
theorem m_X14_wears_c15 {G : gG} {l : Launch} (hfl : l.stackTraces = false) {a0 : Nat} {a1 : Nat} {h h' : g_H} {r : Int32} (hf : (f_X14_wears_c15 a0 a1).1 h = some (r, h')) : gMet G l yX14_wears (Cond.code yX14_wears cX14_wears 2 (some .int)) 1 20 [.ref a0, .ref a1] h (.inl (g_wI r)) h' := by
  refine g_head hfl ((f_X14_wears_c15 a0 a1).2 h r h' hf) (plainFor_of_name (by decide)) (Nat.le_of_ble_eq_true rfl) (fun p e s m below meth c H locs cells slots ls X hI hl9 => ?_)
  have hl : lv_has ls 2 [(0, .ref a0), (1, .ref a1)] := hl9
  have hx := X.1
  have hb := X.2.1
  have hown := X.2.2.2.1
  have hts := X.2.2.2.2.1
  unfold f_X14_wears_c15 at hf
  refine lv_iconst (v := (0 : Int32)) hx hb dX14_wears_0 (by decide) ?_
  cases gRet_e hf
  exact g_retI X hI rfl dX14_wears_1
/-! X3_wears -/
def f_V_wears (a x : Nat) : gM Int32 := gB (gSh a) fun ci => gIf (ci = 14) (f_X15_wears a x) (gIf (ci = 15) (f_X14_wears_c15 a x) gFail)
abbrev w_X3_wears_59 (G : gG) (l : Launch) (p : Program) (e : Env) (s : State) (m : MethodId) (args : Array Value) (below : List Frame) (meth : Method) (c : Code) (h0 : g_H) (r : Int32) (h' : g_H) (k : Int32 → gM Int32) : Prop := ∀ (x4 : Int32) (h : g_H) (H : Heap) (locs : List Loc) (cells slots : Nat) (ls : Array Slot), (k x4).1 h = some (r, h') → gI G h0 h H locs cells slots → lv_has ls 6 [(4, .int x4)] → W p l e (g_rm 99 1817 h0 h') s m args below meth c H locs cells slots (gQ G below args s h0 h' (.inl (g_wI r))) (F0 m 59 ls [])
abbrev w_X3_wears_25 (G : gG) (l : Launch) (p : Program) (e : Env) (s : State) (m : MethodId) (args : Array Value) (below : List Frame) (meth : Method) (c : Code) (h0 : g_H) (r : Int32) (h' : g_H) (k : Nat → Int32 → Int32 → gM Int32) : Prop := ∀ (a0 : Nat) (x4 : Int32) (x5 : Int32) (h : g_H) (H : Heap) (locs : List Loc) (cells slots : Nat) (ls : Array Slot), (k a0 x4 x5).1 h = some (r, h') → gI G h0 h H locs cells slots → lv_has ls 6 [(0, .ref a0), (4, .int x4), (5, .int x5)] → W p l e (g_rm 99 1817 h0 h') s m args below meth c H locs cells slots (gQ G below args s h0 h' (.inl (g_wI r))) (F0 m 25 ls [])
def f_X3_wears_59 (x4 : Int32) : gM Int32 :=
    (gRet x4)
set_option maxHeartbeats 4000000 in
set_option maxRecDepth 100000 in
theorem b_X3_wears_59 {G : gG} {l : Launch} {p : Program} {e : Env} {s : State} {m : MethodId} {args : Array Value} {below : List Frame} {meth : Method} {c : Code} {h0 : g_H} {r : Int32} {h' : g_H} (X : gX G l yX3_wears.cls cX3_wears 6 (some .int) [] yX3_wears.name p s m args meth c) : w_X3_wears_59 G l p e s m args below meth c h0 r h' (f_X3_wears_59) := by
  have hx := X.1
  have hb := X.2.1
  have hown := X.2.2.2.1
  have hts := X.2.2.2.2.1
  intro x4 h H locs cells slots ls hf hI hl
  unfold f_X3_wears_59 at hf
  refine lv_iload hx hb dX3_wears_59 (lv_at hl 0 rfl) ?_
  cases gRet_e hf
  exact g_retI X hI rfl dX3_wears_61
def f_X3_wears_25 : Nat → Nat → Int32 → Int32 → gM Int32
  | 0, _, _, _ => gFail
  | n + 1, a0, x4, x5 =>
    gB (gFI a0 2 8) fun v101 =>
    gIf (v101 ≤ x5)
    (f_X3_wears_59 x4)
    (gB (gFR a0 2 2) fun v102 =>
    gB (gAR v102 6 x5) fun v103 =>
    gB (gFR a0 2 4) fun v104 =>
    gB (f_V_wears v103 v104) fun r105 =>
    f_X3_wears_25 n a0 (x4 + r105) (x5 + (1 : Int32)))
set_option maxHeartbeats 4000000 in
set_option maxRecDepth 100000 in
theorem b_X3_wears_25 {G : gG} {l : Launch} {p : Program} {e : Env} {s : State} {m : MethodId} {args : Array Value} {below : List Frame} {meth : Method} {c : Code} {h0 : g_H} {r : Int32} {h' : g_H} (X : gX G l yX3_wears.cls cX3_wears 6 (some .int) [] yX3_wears.name p s m args meth c) : ∀ n : Nat, w_X3_wears_25 G l p e s m args below meth c h0 r h' (f_X3_wears_25 n) := by
  have hx := X.1
  have hb := X.2.1
  have hown := X.2.2.2.1
  have hts := X.2.2.2.2.1
  intro n
  induction n with
  | zero =>
    intro a0 x4 x5 h H locs cells slots ls hf hI hl
    exact (gFail_f hf).elim
  | succ n ih =>
    intro a0 x4 x5 h H locs cells slots ls hf hI hl
    rw [f_X3_wears_25] at hf
    refine lv_iload hx hb dX3_wears_25 (lv_at hl 2 rfl) ?_
    refine lv_aload_n hx hb dX3_wears_27 rfl (lv_at hl 0 rfl) ?_
    refine g_fi X hI hf fX3_8 q273 rfl rfl dX3_wears_28 (fun v101 hf => ?_)
    refine lv_icmp_ge (tgt := 59) hx hb dX3_wears_31 (by decide) (fun c31 => ?_) (fun c31 => ?_)
    · have hf := g_t c31 hf
      exact b_X3_wears_59 X _ _ _ _ _ _ _ hf hI (lv_sub hl [1] rfl)
    · have hf := g_f c31 hf
      refine lv_iload hx hb dX3_wears_34 (lv_at hl 1 rfl) ?_
      refine lv_aload_n hx hb dX3_wears_36 rfl (lv_at hl 0 rfl) ?_
      refine g_fr X hI hf fX3_2 q259 rfl rfl dX3_wears_37 (fun v102 hf => ?_)
      refine lv_iload hx hb dX3_wears_40 (lv_at hl 2 rfl) ?_
      refine g_ar6 X hI hf dX3_wears_42 (fun v103 hf => ?_)
      refine lv_aload_n hx hb dX3_wears_43 rfl (lv_at hl 0 rfl) ?_
      refine g_fr X hI hf fX3_4 q265 rfl rfl dX3_wears_44 (fun v104 hf => ?_)
      refine g_cBI (rest := [.int x4]) (a := (.ref v103 :: [.ref v104] : List Value).toArray) hI hf (fun v9 h9 e9 l9 l9' => ?_) (fun r105 h H locs cells slots hf hI => ?_)
      · obtain ⟨ci9, hs, e9⟩ := gSh_b e9
        by_cases k0 : ci9 = 14
        · subst k0
          have e9 := g_t rfl e9
          exact g_rU X hI l9 l9' ⟨Nat.le_refl _, Nat.le_refl _⟩ (As := [.ref v104]) (owner := "GhostAssize$Line") (m_X15_wears X.2.2.2.2.2.2.2.2.2.2.1 e9) ydX14_wears (by decide) hs rfl q701 q703 q702 q711 q706 q705 q146 q707 rfl (Nat.le_of_ble_eq_true rfl) (Nat.le_of_ble_eq_true rfl) hl.1 rfl (Nat.le_of_ble_eq_true rfl) dX3_wears_47
        · have e9 := g_f k0 e9
          by_cases k1 : ci9 = 15
          · subst k1
            have e9 := g_t rfl e9
            exact g_rU X hI l9 l9' ⟨Nat.le_refl _, Nat.le_refl _⟩ (As := [.ref v104]) (owner := "GhostAssize$Line") (m_X14_wears_c15 X.2.2.2.2.2.2.2.2.2.2.1 e9) ydX14_wears (by decide) hs rfl q701 q703 q702 q711 q702 q704 q145 q711 rfl (Nat.le_of_ble_eq_true rfl) (Nat.le_of_ble_eq_true rfl) hl.1 rfl (Nat.le_of_ble_eq_true rfl) dX3_wears_47
          · exact (gFail_f (g_f k1 e9)).elim
      · refine lv_iadd hx hb dX3_wears_50 ?_
        refine lv_istore (lv' := [(4, .int (x4 + r105)), (0, .ref a0), (5, .int x5)]) hx hb dX3_wears_51 hl (by decide) rfl (fun ls hl => ?_)
        refine lv_iinc (v := (x5 + (1 : Int32))) (lv' := [(5, .int (x5 + (1 : Int32))), (4, .int (x4 + r105)), (0, .ref a0)]) hx hb dX3_wears_53 hl (k := 2) rfl rfl (by decide) rfl (fun ls hl => ?_)
        refine lv_goto (tgt := 25) hx hb dX3_wears_56 (by decide) ?_
        exact ih _ _ _ _ _ _ _ _ _ hf hI (lv_sub hl [2, 1, 0] rfl)
def f_X3_wears (a0 : Nat) (a1 : Nat) (x2 : Int32) (x3 : Int32) : gM Int32 :=
    gB (gFR a0 2 3) fun v1 =>
    gB (gAI v1 0 x2) fun v2 =>
    gIf (v2 = (-1 : Int32))
    ((gRet (0 : Int32)))
    (gB (gCk a0 2) fun _ =>
    gB (f_X3_tells a0 a1 x2 x3) fun _ =>
    f_X3_wears_25 gN a0 (1 : Int32) (0 : Int32))
set_option maxHeartbeats 4000000 in
set_option maxRecDepth 100000 in
theorem m_X3_wears {G : gG} {l : Launch} (hfl : l.stackTraces = false) {a0 : Nat} {a1 : Nat} {x2 : Int32} {x3 : Int32} {h h' : g_H} {r : Int32} (hf : (f_X3_wears a0 a1 x2 x3).1 h = some (r, h')) : gMet G l yX3_wears (Cond.code yX3_wears cX3_wears 6 (some .int)) 99 1817 [.ref a0, .ref a1, .int x2, .int x3] h (.inl (g_wI r)) h' := by
  refine g_head hfl ((f_X3_wears a0 a1 x2 x3).2 h r h' hf) (plainFor_of_name (by decide)) (Nat.le_of_ble_eq_true rfl) (fun p e s m below meth c H locs cells slots ls X hI hl9 => ?_)
  have hl : lv_has ls 6 [(0, .ref a0), (1, .ref a1), (2, .int x2), (3, .int x3)] := hl9
  have hx := X.1
  have hb := X.2.1
  have hown := X.2.2.2.1
  have hts := X.2.2.2.2.1
  unfold f_X3_wears at hf
  refine lv_aload_n hx hb dX3_wears_0 rfl (lv_at hl 0 rfl) ?_
  refine g_fr X hI hf fX3_3 q261 rfl rfl dX3_wears_1 (fun v1 hf => ?_)
  refine lv_iload_n hx hb dX3_wears_4 rfl (lv_at hl 2 rfl) ?_
  refine g_ai0 X hI hf dX3_wears_5 (fun v2 hf => ?_)
  refine lv_iconst (v := (-1 : Int32)) hx hb dX3_wears_6 (by decide) ?_
  refine lv_icmp_ne (tgt := 12) hx hb dX3_wears_7 (by decide) (fun c7 => ?_) (fun c7 => ?_)
  · have hf := g_f c7 hf
    refine lv_aload_n hx hb dX3_wears_12 rfl (lv_at hl 0 rfl) ?_
    refine lv_aload_n hx hb dX3_wears_13 rfl (lv_at hl 1 rfl) ?_
    refine lv_iload_n hx hb dX3_wears_14 rfl (lv_at hl 2 rfl) ?_
    refine lv_iload_n hx hb dX3_wears_15 rfl (lv_at hl 3 rfl) ?_
    obtain ⟨hs, hf⟩ := gCk_b hf
    refine g_cBU hI hf (fun v9 h9 e9 l9 l9' => g_rV X hI l9 l9' ⟨Nat.le_refl _, Nat.le_refl _⟩ (As := [.ref a1, .int x2, .int x3]) (m_X3_tells X.2.2.2.2.2.2.2.2.2.2.1 e9) ydX3_tells hs rfl rfl q570 q572 qs4 q123 q573 rfl (Nat.le_of_ble_eq_true rfl) (Nat.le_of_ble_eq_true rfl) hl.1 rfl (Nat.le_of_ble_eq_true rfl) dX3_wears_16) (fun r3 h H locs cells slots hf hI => ?_)
    refine lv_iconst (v := (1 : Int32)) hx hb dX3_wears_19 (by decide) ?_
    refine lv_istore (lv' := [(4, .int (1 : Int32)), (0, .ref a0), (1, .ref a1), (2, .int x2), (3, .int x3)]) hx hb dX3_wears_20 hl (by decide) rfl (fun ls hl => ?_)
    refine lv_iconst (v := (0 : Int32)) hx hb dX3_wears_22 (by decide) ?_
    refine lv_istore (lv' := [(5, .int (0 : Int32)), (4, .int (1 : Int32)), (0, .ref a0), (1, .ref a1), (2, .int x2), (3, .int x3)]) hx hb dX3_wears_23 hl (by decide) rfl (fun ls hl => ?_)
    exact b_X3_wears_25 X gN _ _ _ _ _ _ _ _ _ hf hI (lv_sub hl [2, 1, 0] rfl)
  · have hf := g_t c7 hf
    refine lv_iconst (v := (0 : Int32)) hx hb dX3_wears_10 (by decide) ?_
    cases gRet_e hf
    exact g_retI X hI rfl dX3_wears_11
/-! J13_max -/
abbrev w_J13_max_10 (G : gG) (l : Launch) (p : Program) (e : Env) (s : State) (m : MethodId) (args : Array Value) (below : List Frame) (meth : Method) (c : Code) (h0 : g_H) (r : Int32) (h' : g_H) (k : Int32 → gM Int32) : Prop := ∀ (u0 : Int32) (h : g_H) (H : Heap) (locs : List Loc) (cells slots : Nat) (ls : Array Slot), (k u0).1 h = some (r, h') → gI G h0 h H locs cells slots → lv_has ls 2 [] → W p l e (g_rm 1 20 h0 h') s m args below meth c H locs cells slots (gQ G below args s h0 h' (.inl (g_wI r))) (F0 m 10 ls [.int u0])
def f_J13_max_10 (u0 : Int32) : gM Int32 :=
    (gRet u0)
set_option maxHeartbeats 4000000 in
set_option maxRecDepth 100000 in
theorem b_J13_max_10 {G : gG} {l : Launch} {p : Program} {e : Env} {s : State} {m : MethodId} {args : Array Value} {below : List Frame} {meth : Method} {c : Code} {h0 : g_H} {r : Int32} {h' : g_H} (X : gX G l yJ13_max.cls cJ13_max 2 (some .int) [] yJ13_max.name p s m args meth c) : w_J13_max_10 G l p e s m args below meth c h0 r h' (f_J13_max_10) := by
  have hx := X.1
  have hb := X.2.1
  have hown := X.2.2.2.1
  have hts := X.2.2.2.2.1
  intro u0 h H locs cells slots ls hf hI hl
  unfold f_J13_max_10 at hf
  cases gRet_e hf
  exact g_retI X hI rfl dJ13_max_10
def f_J13_max (x0 : Int32) (x1 : Int32) : gM Int32 :=
    gIf (x0 < x1)
    (f_J13_max_10 x1)
    (f_J13_max_10 x0)
set_option maxHeartbeats 4000000 in
set_option maxRecDepth 100000 in
theorem m_J13_max {G : gG} {l : Launch} (hfl : l.stackTraces = false) {x0 : Int32} {x1 : Int32} {h h' : g_H} {r : Int32} (hf : (f_J13_max x0 x1).1 h = some (r, h')) : gMet G l yJ13_max (Cond.code yJ13_max cJ13_max 2 (some .int)) 1 20 [.int x0, .int x1] h (.inl (g_wI r)) h' := by
  refine g_head hfl ((f_J13_max x0 x1).2 h r h' hf) (by decide +kernel) (Nat.le_of_ble_eq_true rfl) (fun p e s m below meth c H locs cells slots ls X hI hl9 => ?_)
  have hl : lv_has ls 2 [(0, .int x0), (1, .int x1)] := hl9
  have hx := X.1
  have hb := X.2.1
  have hown := X.2.2.2.1
  have hts := X.2.2.2.2.1
  unfold f_J13_max at hf
  refine lv_iload_n hx hb dJ13_max_0 rfl (lv_at hl 0 rfl) ?_
  refine lv_iload_n hx hb dJ13_max_1 rfl (lv_at hl 1 rfl) ?_
  refine lv_icmp_lt (tgt := 9) hx hb dJ13_max_2 (by decide) (fun c2 => ?_) (fun c2 => ?_)
  · have hf := g_t c2 hf
    refine lv_iload_n hx hb dJ13_max_9 rfl (lv_at hl 1 rfl) ?_
    exact b_J13_max_10 X _ _ _ _ _ _ _ hf hI (lv_sub hl [] rfl)
  · have hf := g_f c2 hf
    refine lv_iload_n hx hb dJ13_max_5 rfl (lv_at hl 0 rfl) ?_
    refine lv_goto (tgt := 10) hx hb dJ13_max_6 (by decide) ?_
    exact b_J13_max_10 X _ _ _ _ _ _ _ hf hI (lv_sub hl [] rfl)
/-! X14_adds_c15 -/
abbrev w_X14_adds_c15_28 (G : gG) (l : Launch) (p : Program) (e : Env) (s : State) (m : MethodId) (args : Array Value) (below : List Frame) (meth : Method) (c : Code) (h0 : g_H) (r : Int32) (h' : g_H) (k : Int32 → gM Int32) : Prop := ∀ (u0 : Int32) (h : g_H) (H : Heap) (locs : List Loc) (cells slots : Nat) (ls : Array Slot), (k u0).1 h = some (r, h') → gI G h0 h H locs cells slots → lv_has ls 2 [] → W p l e (g_rm 97 1775 h0 h') s m args below meth c H locs cells slots (gQ G below args s h0 h' (.inl (g_wI r))) (F0 m 28 ls [.int u0])
abbrev w_X14_adds_c15_20 (G : gG) (l : Launch) (p : Program) (e : Env) (s : State) (m : MethodId) (args : Array Value) (below : List Frame) (meth : Method) (c : Code) (h0 : g_H) (r : Int32) (h' : g_H) (k : Nat → gM Int32) : Prop := ∀ (a0 : Nat) (h : g_H) (H : Heap) (locs : List Loc) (cells slots : Nat) (ls : Array Slot), (k a0).1 h = some (r, h') → gI G h0 h H locs cells slots → lv_has ls 2 [(0, .ref a0)] → W p l e (g_rm 97 1775 h0 h') s m args below meth c H locs cells slots (gQ G below args s h0 h' (.inl (g_wI r))) (F0 m 20 ls [])
def f_X14_adds_c15_28 (u0 : Int32) : gM Int32 :=
    (gRet u0)
set_option maxHeartbeats 4000000 in
set_option maxRecDepth 100000 in
theorem b_X14_adds_c15_28 {G : gG} {l : Launch} {p : Program} {e : Env} {s : State} {m : MethodId} {args : Array Value} {below : List Frame} {meth : Method} {c : Code} {h0 : g_H} {r : Int32} {h' : g_H} (X : gX G l yX14_adds.cls cX14_adds 2 (some .int) [] yX14_adds.name p s m args meth c) : w_X14_adds_c15_28 G l p e s m args below meth c h0 r h' (f_X14_adds_c15_28) := by
  have hx := X.1
  have hb := X.2.1
  have hown := X.2.2.2.1
  have hts := X.2.2.2.2.1
  intro u0 h H locs cells slots ls hf hI hl
  unfold f_X14_adds_c15_28 at hf
  cases gRet_e hf
  exact g_retI X hI rfl dX14_adds_28
def f_X14_adds_c15_20 (a0 : Nat) : gM Int32 :=
    gB (gFI a0 15 0) fun v101 =>
    f_X14_adds_c15_28 v101
set_option maxHeartbeats 4000000 in
set_option maxRecDepth 100000 in
theorem b_X14_adds_c15_20 {G : gG} {l : Launch} {p : Program} {e : Env} {s : State} {m : MethodId} {args : Array Value} {below : List Frame} {meth : Method} {c : Code} {h0 : g_H} {r : Int32} {h' : g_H} (X : gX G l yX14_adds.cls cX14_adds 2 (some .int) [] yX14_adds.name p s m args meth c) : w_X14_adds_c15_20 G l p e s m args below meth c h0 r h' (f_X14_adds_c15_20) := by
  have hx := X.1
  have hb := X.2.1
  have hown := X.2.2.2.1
  have hts := X.2.2.2.2.1
  intro a0 h H locs cells slots ls hf hI hl
  unfold f_X14_adds_c15_20 at hf
  refine lv_aload_n hx hb dX14_adds_20 rfl (lv_at hl 0 rfl) ?_
  refine g_fi X hI hf fX16_0 q1075 rfl rfl dX14_adds_21 (fun v101 hf => ?_)
  refine lv_goto (tgt := 28) hx hb dX14_adds_24 (by decide) ?_
  exact b_X14_adds_c15_28 X _ _ _ _ _ _ _ hf hI (lv_sub hl [] rfl)
def f_X14_adds_c15 (a0 : Nat) (a1 : Nat) : gM Int32 :=
    gB (gFQ a0 15 1) fun v1 =>
    gOpt v1
    (f_X14_adds_c15_20 a0)
    (fun w2 => gB (gFQ a0 15 1) fun v3 =>
    gB (gNN v3) fun y5 =>
    gB ((f_holds 24) y5 a1) fun r4 =>
    gIf (r4 = 0)
    (f_X14_adds_c15_28 (0 : Int32))
    (f_X14_adds_c15_20 a0))
set_option maxHeartbeats 4000000 in
set_option maxRecDepth 100000 in
theorem m_X14_adds_c15 {G : gG} {l : Launch} (hfl : l.stackTraces = false) {a0 : Nat} {a1 : Nat} {h h' : g_H} {r : Int32} (hf : (f_X14_adds_c15 a0 a1).1 h = some (r, h')) : gMet G l yX14_adds (Cond.code yX14_adds cX14_adds 2 (some .int)) 97 1775 [.ref a0, .ref a1] h (.inl (g_wI r)) h' := by
  refine g_head hfl ((f_X14_adds_c15 a0 a1).2 h r h' hf) (plainFor_of_name (by decide)) (Nat.le_of_ble_eq_true rfl) (fun p e s m below meth c H locs cells slots ls X hI hl9 => ?_)
  have hl : lv_has ls 2 [(0, .ref a0), (1, .ref a1)] := hl9
  have hx := X.1
  have hb := X.2.1
  have hown := X.2.2.2.1
  have hts := X.2.2.2.2.1
  unfold f_X14_adds_c15 at hf
  refine lv_aload_n hx hb dX14_adds_0 rfl (lv_at hl 0 rfl) ?_
  refine g_fq X hI hf fX16_1 q1076 rfl rfl dX14_adds_1 (fun v1 hf => ?_)
  refine g_ifnullQ (tgt := 20) hx hb hf dX14_adds_4 (by decide) ?_ ?_
  · intro hf
    exact b_X14_adds_c15_20 X _ _ _ _ _ _ _ hf hI (lv_sub hl [0] rfl)
  · intro w2 ew2 hf
    refine lv_aload_n hx hb dX14_adds_7 rfl (lv_at hl 0 rfl) ?_
    refine g_fq X hI hf fX16_1 q1076 rfl rfl dX14_adds_8 (fun v3 hf => ?_)
    refine lv_aload_n hx hb dX14_adds_11 rfl (lv_at hl 1 rfl) ?_
    obtain ⟨y5, ey5, hfy5⟩ := gNN_b hf
    subst ey5
    have hf := hfy5
    refine g_callF X hI (KHolds (X.2.2.2.2.2.2.2.2.2.2.1) 24) hf ⟨Nat.le_refl _, Nat.le_refl _⟩ q587 (Nat.le_of_ble_eq_true rfl) (Nat.le_of_ble_eq_true rfl) hl.1 (Nat.le_of_ble_eq_true rfl) dX14_adds_12 (fun r4 h H locs cells slots hf hI => ?_)
    refine lv_if_eq (tgt := 27) hx hb dX14_adds_17 (by decide) (fun c17 => ?_) (fun c17 => ?_)
    · have hf := g_t c17 hf
      refine lv_iconst (v := (0 : Int32)) hx hb dX14_adds_27 (by decide) ?_
      exact b_X14_adds_c15_28 X _ _ _ _ _ _ _ hf hI (lv_sub hl [] rfl)
    · have hf := g_f c17 hf
      exact b_X14_adds_c15_20 X _ _ _ _ _ _ _ hf hI (lv_sub hl [0] rfl)
/-! X16_frights -/
def f_X16_frights (a0 : Nat) (a1 : Nat) : gM Int32 :=
    gB (gFI a0 15 2) fun v1 =>
    gB (gCk a0 15) fun _ =>
    gB (f_X14_adds_c15 a0 a1) fun r2 =>
    (gRet (v1 * r2))
set_option maxHeartbeats 4000000 in
set_option maxRecDepth 100000 in
theorem m_X16_frights {G : gG} {l : Launch} (hfl : l.stackTraces = false) {a0 : Nat} {a1 : Nat} {h h' : g_H} {r : Int32} (hf : (f_X16_frights a0 a1).1 h = some (r, h')) : gMet G l yX16_frights (Cond.code yX16_frights cX16_frights 2 (some .int)) 98 1796 [.ref a0, .ref a1] h (.inl (g_wI r)) h' := by
  refine g_head hfl ((f_X16_frights a0 a1).2 h r h' hf) (plainFor_of_name (by decide)) (Nat.le_of_ble_eq_true rfl) (fun p e s m below meth c H locs cells slots ls X hI hl9 => ?_)
  have hl : lv_has ls 2 [(0, .ref a0), (1, .ref a1)] := hl9
  have hx := X.1
  have hb := X.2.1
  have hown := X.2.2.2.1
  have hts := X.2.2.2.2.1
  unfold f_X16_frights at hf
  refine lv_aload_n hx hb dX16_frights_0 rfl (lv_at hl 0 rfl) ?_
  refine g_fi X hI hf fX16_2 q1088 rfl rfl dX16_frights_1 (fun v1 hf => ?_)
  refine lv_aload_n hx hb dX16_frights_4 rfl (lv_at hl 0 rfl) ?_
  refine lv_aload_n hx hb dX16_frights_5 rfl (lv_at hl 1 rfl) ?_
  obtain ⟨hs, hf⟩ := gCk_b hf
  refine g_cBI hI hf (fun v9 h9 e9 l9 l9' => g_rU X hI l9 l9' ⟨Nat.le_refl _, Nat.le_refl _⟩ (As := [.ref a1]) (owner := "GhostAssize$Line") (x := ⟨"GhostAssize$Frights", "adds", "([I)I"⟩) (m_X14_adds_c15 X.2.2.2.2.2.2.2.2.2.2.1 e9) ydadds15 (by decide) hs rfl q580 q581 q584 q585 q584 q583 q145 q585 rfl (Nat.le_of_ble_eq_true rfl) (Nat.le_of_ble_eq_true rfl) hl.1 rfl (Nat.le_of_ble_eq_true rfl) dX16_frights_6) (fun r2 h H locs cells slots hf hI => ?_)
  refine lv_imul hx hb dX16_frights_9 ?_
  cases gRet_e hf
  exact g_retI X hI rfl dX16_frights_10
/-! X14_frights_c14 -/
def f_X14_frights_c14 (a0 : Nat) (a1 : Nat) : gM Int32 :=
    (gRet (0 : Int32))
set_option maxHeartbeats 4000000 in
set_option maxRecDepth 100000 in
theorem m_X14_frights_c14 {G : gG} {l : Launch} (hfl : l.stackTraces = false) {a0 : Nat} {a1 : Nat} {h h' : g_H} {r : Int32} (hf : (f_X14_frights_c14 a0 a1).1 h = some (r, h')) : gMet G l yX14_frights (Cond.code yX14_frights cX14_frights 2 (some .int)) 1 20 [.ref a0, .ref a1] h (.inl (g_wI r)) h' := by
  refine g_head hfl ((f_X14_frights_c14 a0 a1).2 h r h' hf) (plainFor_of_name (by decide)) (Nat.le_of_ble_eq_true rfl) (fun p e s m below meth c H locs cells slots ls X hI hl9 => ?_)
  have hl : lv_has ls 2 [(0, .ref a0), (1, .ref a1)] := hl9
  have hx := X.1
  have hb := X.2.1
  have hown := X.2.2.2.1
  have hts := X.2.2.2.2.1
  unfold f_X14_frights_c14 at hf
  refine lv_iconst (v := (0 : Int32)) hx hb dX14_frights_0 (by decide) ?_
  cases gRet_e hf
  exact g_retI X hI rfl dX14_frights_1
/-! X3_frights -/
def f_V_frights (a x : Nat) : gM Int32 := gB (gSh a) fun ci => gIf (ci = 15) (f_X16_frights a x) (gIf (ci = 14) (f_X14_frights_c14 a x) gFail)
abbrev w_X3_frights_90 (G : gG) (l : Launch) (p : Program) (e : Env) (s : State) (m : MethodId) (args : Array Value) (below : List Frame) (meth : Method) (c : Code) (h0 : g_H) (r : Int32) (h' : g_H) (k : Int32 → gM Int32) : Prop := ∀ (x4 : Int32) (h : g_H) (H : Heap) (locs : List Loc) (cells slots : Nat) (ls : Array Slot), (k x4).1 h = some (r, h') → gI G h0 h H locs cells slots → lv_has ls 6 [(4, .int x4)] → W p l e (g_rm 99 1817 h0 h') s m args below meth c H locs cells slots (gQ G below args s h0 h' (.inl (g_wI r))) (F0 m 90 ls [])
abbrev w_X3_frights_56 (G : gG) (l : Launch) (p : Program) (e : Env) (s : State) (m : MethodId) (args : Array Value) (below : List Frame) (meth : Method) (c : Code) (h0 : g_H) (r : Int32) (h' : g_H) (k : Nat → Int32 → Int32 → gM Int32) : Prop := ∀ (a0 : Nat) (x4 : Int32) (x5 : Int32) (h : g_H) (H : Heap) (locs : List Loc) (cells slots : Nat) (ls : Array Slot), (k a0 x4 x5).1 h = some (r, h') → gI G h0 h H locs cells slots → lv_has ls 6 [(0, .ref a0), (4, .int x4), (5, .int x5)] → W p l e (g_rm 99 1817 h0 h') s m args below meth c H locs cells slots (gQ G below args s h0 h' (.inl (g_wI r))) (F0 m 56 ls [])
def f_X3_frights_90 (x4 : Int32) : gM Int32 :=
    gB (f_J13_max (0 : Int32) x4) fun r101 =>
    (gRet r101)
set_option maxHeartbeats 4000000 in
set_option maxRecDepth 100000 in
theorem b_X3_frights_90 {G : gG} {l : Launch} {p : Program} {e : Env} {s : State} {m : MethodId} {args : Array Value} {below : List Frame} {meth : Method} {c : Code} {h0 : g_H} {r : Int32} {h' : g_H} (X : gX G l yX3_frights.cls cX3_frights 6 (some .int) [] yX3_frights.name p s m args meth c) : w_X3_frights_90 G l p e s m args below meth c h0 r h' (f_X3_frights_90) := by
  have hx := X.1
  have hb := X.2.1
  have hown := X.2.2.2.1
  have hts := X.2.2.2.2.1
  intro x4 h H locs cells slots ls hf hI hl
  unfold f_X3_frights_90 at hf
  refine lv_iconst (v := (0 : Int32)) hx hb dX3_frights_90 (by decide) ?_
  refine lv_iload hx hb dX3_frights_91 (lv_at hl 0 rfl) ?_
  refine g_cBI hI hf (fun v9 h9 e9 l9 l9' => g_rS (b := 0) X hI l9 l9' ⟨Nat.le_refl _, Nat.le_refl _⟩ (As := [.int (0 : Int32), .int x4]) (m_J13_max X.2.2.2.2.2.2.2.2.2.2.1 e9) ydJ13_max q563 q564 q151 q565 rfl (Nat.le_of_ble_eq_true rfl) (Nat.le_of_ble_eq_true rfl) hl.1 rfl (Nat.le_of_ble_eq_true rfl) dX3_frights_93) (fun r101 h H locs cells slots hf hI => ?_)
  cases gRet_e hf
  exact g_retI X hI rfl dX3_frights_96
def f_X3_frights_56 : Nat → Nat → Int32 → Int32 → gM Int32
  | 0, _, _, _ => gFail
  | n + 1, a0, x4, x5 =>
    gB (gFI a0 2 8) fun v101 =>
    gIf (v101 ≤ x5)
    (f_X3_frights_90 x4)
    (gB (gFR a0 2 2) fun v102 =>
    gB (gAR v102 6 x5) fun v103 =>
    gB (gFR a0 2 4) fun v104 =>
    gB (f_V_frights v103 v104) fun r105 =>
    f_X3_frights_56 n a0 (x4 + r105) (x5 + (1 : Int32)))
set_option maxHeartbeats 4000000 in
set_option maxRecDepth 100000 in
theorem b_X3_frights_56 {G : gG} {l : Launch} {p : Program} {e : Env} {s : State} {m : MethodId} {args : Array Value} {below : List Frame} {meth : Method} {c : Code} {h0 : g_H} {r : Int32} {h' : g_H} (X : gX G l yX3_frights.cls cX3_frights 6 (some .int) [] yX3_frights.name p s m args meth c) : ∀ n : Nat, w_X3_frights_56 G l p e s m args below meth c h0 r h' (f_X3_frights_56 n) := by
  have hx := X.1
  have hb := X.2.1
  have hown := X.2.2.2.1
  have hts := X.2.2.2.2.1
  intro n
  induction n with
  | zero =>
    intro a0 x4 x5 h H locs cells slots ls hf hI hl
    exact (gFail_f hf).elim
  | succ n ih =>
    intro a0 x4 x5 h H locs cells slots ls hf hI hl
    rw [f_X3_frights_56] at hf
    refine lv_iload hx hb dX3_frights_56 (lv_at hl 2 rfl) ?_
    refine lv_aload_n hx hb dX3_frights_58 rfl (lv_at hl 0 rfl) ?_
    refine g_fi X hI hf fX3_8 q273 rfl rfl dX3_frights_59 (fun v101 hf => ?_)
    refine lv_icmp_ge (tgt := 90) hx hb dX3_frights_62 (by decide) (fun c62 => ?_) (fun c62 => ?_)
    · have hf := g_t c62 hf
      exact b_X3_frights_90 X _ _ _ _ _ _ _ hf hI (lv_sub hl [1] rfl)
    · have hf := g_f c62 hf
      refine lv_iload hx hb dX3_frights_65 (lv_at hl 1 rfl) ?_
      refine lv_aload_n hx hb dX3_frights_67 rfl (lv_at hl 0 rfl) ?_
      refine g_fr X hI hf fX3_2 q259 rfl rfl dX3_frights_68 (fun v102 hf => ?_)
      refine lv_iload hx hb dX3_frights_71 (lv_at hl 2 rfl) ?_
      refine g_ar6 X hI hf dX3_frights_73 (fun v103 hf => ?_)
      refine lv_aload_n hx hb dX3_frights_74 rfl (lv_at hl 0 rfl) ?_
      refine g_fr X hI hf fX3_4 q265 rfl rfl dX3_frights_75 (fun v104 hf => ?_)
      refine g_cBI (rest := [.int x4]) (a := (.ref v103 :: [.ref v104] : List Value).toArray) hI hf (fun v9 h9 e9 l9 l9' => ?_) (fun r105 h H locs cells slots hf hI => ?_)
      · obtain ⟨ci9, hs, e9⟩ := gSh_b e9
        by_cases k0 : ci9 = 15
        · subst k0
          have e9 := g_t rfl e9
          exact g_rU X hI l9 l9' ⟨Nat.le_refl _, Nat.le_refl _⟩ (As := [.ref v104]) (owner := "GhostAssize$Line") (m_X16_frights X.2.2.2.2.2.2.2.2.2.2.1 e9) ydX14_frights (by decide) hs rfl q574 q576 q575 q623 q578 q577 q147 q579 rfl (Nat.le_of_ble_eq_true rfl) (Nat.le_of_ble_eq_true rfl) hl.1 rfl (Nat.le_of_ble_eq_true rfl) dX3_frights_78
        · have e9 := g_f k0 e9
          by_cases k1 : ci9 = 14
          · subst k1
            have e9 := g_t rfl e9
            exact g_rU X hI l9 l9' ⟨Nat.le_refl _, Nat.le_refl _⟩ (As := [.ref v104]) (owner := "GhostAssize$Line") (m_X14_frights_c14 X.2.2.2.2.2.2.2.2.2.2.1 e9) ydX14_frights (by decide) hs rfl q574 q576 q575 q623 q575 q622 q145 q623 rfl (Nat.le_of_ble_eq_true rfl) (Nat.le_of_ble_eq_true rfl) hl.1 rfl (Nat.le_of_ble_eq_true rfl) dX3_frights_78
          · exact (gFail_f (g_f k1 e9)).elim
      · refine lv_iadd hx hb dX3_frights_81 ?_
        refine lv_istore (lv' := [(4, .int (x4 + r105)), (0, .ref a0), (5, .int x5)]) hx hb dX3_frights_82 hl (by decide) rfl (fun ls hl => ?_)
        refine lv_iinc (v := (x5 + (1 : Int32))) (lv' := [(5, .int (x5 + (1 : Int32))), (4, .int (x4 + r105)), (0, .ref a0)]) hx hb dX3_frights_84 hl (k := 2) rfl rfl (by decide) rfl (fun ls hl => ?_)
        refine lv_goto (tgt := 56) hx hb dX3_frights_87 (by decide) ?_
        exact ih _ _ _ _ _ _ _ _ _ hf hI (lv_sub hl [2, 1, 0] rfl)
def f_X3_frights (a0 : Nat) (a1 : Nat) (x2 : Int32) (x3 : Int32) : gM Int32 :=
    gB (gFR a0 2 3) fun v1 =>
    gB (gAI v1 0 x2) fun v2 =>
    gIf (v2 = (-1 : Int32))
    ((gRet (0 : Int32)))
    (gB (gCk a0 2) fun _ =>
    gB (f_X3_tells a0 a1 x2 x3) fun _ =>
    gB (gFR a0 2 0) fun v4 =>
    gB (gFR a0 2 3) fun v5 =>
    gB (gAI v5 0 x2) fun v6 =>
    gB (gAR v4 4 v6) fun v7 =>
    gB (gFI v7 3 1) fun v8 =>
    gB (gFR a0 2 0) fun v9 =>
    gB (gFR a0 2 3) fun v10 =>
    gB (gAI v10 0 x2) fun v11 =>
    gB (gAR v9 4 v11) fun v12 =>
    gB (gFI v12 3 2) fun v13 =>
    f_X3_frights_56 gN a0 (v8 - (v13 / (10 : Int32))) (0 : Int32))
set_option maxHeartbeats 4000000 in
set_option maxRecDepth 100000 in
theorem m_X3_frights {G : gG} {l : Launch} (hfl : l.stackTraces = false) {a0 : Nat} {a1 : Nat} {x2 : Int32} {x3 : Int32} {h h' : g_H} {r : Int32} (hf : (f_X3_frights a0 a1 x2 x3).1 h = some (r, h')) : gMet G l yX3_frights (Cond.code yX3_frights cX3_frights 6 (some .int)) 99 1817 [.ref a0, .ref a1, .int x2, .int x3] h (.inl (g_wI r)) h' := by
  refine g_head hfl ((f_X3_frights a0 a1 x2 x3).2 h r h' hf) (plainFor_of_name (by decide)) (Nat.le_of_ble_eq_true rfl) (fun p e s m below meth c H locs cells slots ls X hI hl9 => ?_)
  have hl : lv_has ls 6 [(0, .ref a0), (1, .ref a1), (2, .int x2), (3, .int x3)] := hl9
  have hx := X.1
  have hb := X.2.1
  have hown := X.2.2.2.1
  have hts := X.2.2.2.2.1
  unfold f_X3_frights at hf
  refine lv_aload_n hx hb dX3_frights_0 rfl (lv_at hl 0 rfl) ?_
  refine g_fr X hI hf fX3_3 q261 rfl rfl dX3_frights_1 (fun v1 hf => ?_)
  refine lv_iload_n hx hb dX3_frights_4 rfl (lv_at hl 2 rfl) ?_
  refine g_ai0 X hI hf dX3_frights_5 (fun v2 hf => ?_)
  refine lv_iconst (v := (-1 : Int32)) hx hb dX3_frights_6 (by decide) ?_
  refine lv_icmp_ne (tgt := 12) hx hb dX3_frights_7 (by decide) (fun c7 => ?_) (fun c7 => ?_)
  · have hf := g_f c7 hf
    refine lv_aload_n hx hb dX3_frights_12 rfl (lv_at hl 0 rfl) ?_
    refine lv_aload_n hx hb dX3_frights_13 rfl (lv_at hl 1 rfl) ?_
    refine lv_iload_n hx hb dX3_frights_14 rfl (lv_at hl 2 rfl) ?_
    refine lv_iload_n hx hb dX3_frights_15 rfl (lv_at hl 3 rfl) ?_
    obtain ⟨hs, hf⟩ := gCk_b hf
    refine g_cBU hI hf (fun v9 h9 e9 l9 l9' => g_rV X hI l9 l9' ⟨Nat.le_refl _, Nat.le_refl _⟩ (As := [.ref a1, .int x2, .int x3]) (m_X3_tells X.2.2.2.2.2.2.2.2.2.2.1 e9) ydX3_tells hs rfl rfl q570 q572 qs4 q123 q573 rfl (Nat.le_of_ble_eq_true rfl) (Nat.le_of_ble_eq_true rfl) hl.1 rfl (Nat.le_of_ble_eq_true rfl) dX3_frights_16) (fun r3 h H locs cells slots hf hI => ?_)
    refine lv_aload_n hx hb dX3_frights_19 rfl (lv_at hl 0 rfl) ?_
    refine g_fr X hI hf fX3_0 q253 rfl rfl dX3_frights_20 (fun v4 hf => ?_)
    refine lv_aload_n hx hb dX3_frights_23 rfl (lv_at hl 0 rfl) ?_
    refine g_fr X hI hf fX3_3 q261 rfl rfl dX3_frights_24 (fun v5 hf => ?_)
    refine lv_iload_n hx hb dX3_frights_27 rfl (lv_at hl 2 rfl) ?_
    refine g_ai0 X hI hf dX3_frights_28 (fun v6 hf => ?_)
    refine g_ar4 X hI hf dX3_frights_29 (fun v7 hf => ?_)
    refine g_fiN X hI hf fX4_1 q200 rfl rfl dX3_frights_30 (fun v8 hf => ?_)
    refine lv_aload_n hx hb dX3_frights_33 rfl (lv_at hl 0 rfl) ?_
    refine g_fr X hI hf fX3_0 q253 rfl rfl dX3_frights_34 (fun v9 hf => ?_)
    refine lv_aload_n hx hb dX3_frights_37 rfl (lv_at hl 0 rfl) ?_
    refine g_fr X hI hf fX3_3 q261 rfl rfl dX3_frights_38 (fun v10 hf => ?_)
    refine lv_iload_n hx hb dX3_frights_41 rfl (lv_at hl 2 rfl) ?_
    refine g_ai0 X hI hf dX3_frights_42 (fun v11 hf => ?_)
    refine g_ar4 X hI hf dX3_frights_43 (fun v12 hf => ?_)
    refine g_fiN X hI hf fX4_2 q204 rfl rfl dX3_frights_44 (fun v13 hf => ?_)
    refine lv_bipush (v := (10 : Int32)) hx hb dX3_frights_47 (by decide) ?_
    refine lv_idiv hx hb dX3_frights_49 (by decide) ?_
    refine lv_isub hx hb dX3_frights_50 ?_
    refine lv_istore (lv' := [(4, .int (v8 - (v13 / (10 : Int32)))), (0, .ref a0), (1, .ref a1), (2, .int x2), (3, .int x3)]) hx hb dX3_frights_51 hl (by decide) rfl (fun ls hl => ?_)
    refine lv_iconst (v := (0 : Int32)) hx hb dX3_frights_53 (by decide) ?_
    refine lv_istore (lv' := [(5, .int (0 : Int32)), (4, .int (v8 - (v13 / (10 : Int32)))), (0, .ref a0), (1, .ref a1), (2, .int x2), (3, .int x3)]) hx hb dX3_frights_54 hl (by decide) rfl (fun ls hl => ?_)
    exact b_X3_frights_56 X gN _ _ _ _ _ _ _ _ _ hf hI (lv_sub hl [2, 1, 0] rfl)
  · have hf := g_t c7 hf
    refine lv_iconst (v := (0 : Int32)) hx hb dX3_frights_10 (by decide) ?_
    cases gRet_e hf
    exact g_retI X hI rfl dX3_frights_11
/-! X3_behind -/
abbrev w_X3_behind_35 (G : gG) (l : Launch) (p : Program) (e : Env) (s : State) (m : MethodId) (args : Array Value) (below : List Frame) (meth : Method) (c : Code) (h0 : g_H) (r : Int32) (h' : g_H) (k : Int32 → gM Int32) : Prop := ∀ (u0 : Int32) (h : g_H) (H : Heap) (locs : List Loc) (cells slots : Nat) (ls : Array Slot), (k u0).1 h = some (r, h') → gI G h0 h H locs cells slots → lv_has ls 5 [] → W p l e (g_rm 100 1842 h0 h') s m args below meth c H locs cells slots (gQ G below args s h0 h' (.inl (g_wI r))) (F0 m 35 ls [.int u0])
def f_X3_behind_35 (u0 : Int32) : gM Int32 :=
    (gRet u0)
set_option maxHeartbeats 4000000 in
set_option maxRecDepth 100000 in
theorem b_X3_behind_35 {G : gG} {l : Launch} {p : Program} {e : Env} {s : State} {m : MethodId} {args : Array Value} {below : List Frame} {meth : Method} {c : Code} {h0 : g_H} {r : Int32} {h' : g_H} (X : gX G l yX3_behind.cls cX3_behind 5 (some .int) [] yX3_behind.name p s m args meth c) : w_X3_behind_35 G l p e s m args below meth c h0 r h' (f_X3_behind_35) := by
  have hx := X.1
  have hb := X.2.1
  have hown := X.2.2.2.1
  have hts := X.2.2.2.2.1
  intro u0 h H locs cells slots ls hf hI hl
  unfold f_X3_behind_35 at hf
  cases gRet_e hf
  exact g_retI X hI rfl dX3_behind_35
def f_X3_behind (a0 : Nat) (a1 : Nat) (x2 : Int32) (x3 : Int32) (x4 : Int32) : gM Int32 :=
    gB (gFR a0 2 3) fun v1 =>
    gB (gAI v1 0 x2) fun v2 =>
    gIf (v2 = (-1 : Int32))
    (gB (gFI a0 2 11) fun v4 =>
    gB (f_J13_max (0 : Int32) (x3 - v4)) fun r5 =>
    f_X3_behind_35 r5)
    (gB (gCk a0 2) fun _ =>
    gB (f_X3_frights a0 a1 x2 x3) fun r3 =>
    f_X3_behind_35 ((x3 + r3) + x4))
set_option maxHeartbeats 4000000 in
set_option maxRecDepth 100000 in
theorem m_X3_behind {G : gG} {l : Launch} (hfl : l.stackTraces = false) {a0 : Nat} {a1 : Nat} {x2 : Int32} {x3 : Int32} {x4 : Int32} {h h' : g_H} {r : Int32} (hf : (f_X3_behind a0 a1 x2 x3 x4).1 h = some (r, h')) : gMet G l yX3_behind (Cond.code yX3_behind cX3_behind 5 (some .int)) 100 1842 [.ref a0, .ref a1, .int x2, .int x3, .int x4] h (.inl (g_wI r)) h' := by
  refine g_head hfl ((f_X3_behind a0 a1 x2 x3 x4).2 h r h' hf) (plainFor_of_name (by decide)) (Nat.le_of_ble_eq_true rfl) (fun p e s m below meth c H locs cells slots ls X hI hl9 => ?_)
  have hl : lv_has ls 5 [(0, .ref a0), (1, .ref a1), (2, .int x2), (3, .int x3), (4, .int x4)] := hl9
  have hx := X.1
  have hb := X.2.1
  have hown := X.2.2.2.1
  have hts := X.2.2.2.2.1
  unfold f_X3_behind at hf
  refine lv_aload_n hx hb dX3_behind_0 rfl (lv_at hl 0 rfl) ?_
  refine g_fr X hI hf fX3_3 q261 rfl rfl dX3_behind_1 (fun v1 hf => ?_)
  refine lv_iload_n hx hb dX3_behind_4 rfl (lv_at hl 2 rfl) ?_
  refine g_ai0 X hI hf dX3_behind_5 (fun v2 hf => ?_)
  refine lv_iconst (v := (-1 : Int32)) hx hb dX3_behind_6 (by decide) ?_
  refine lv_icmp_ne (tgt := 23) hx hb dX3_behind_7 (by decide) (fun c7 => ?_) (fun c7 => ?_)
  · have hf := g_f c7 hf
    refine lv_iload_n hx hb dX3_behind_23 rfl (lv_at hl 3 rfl) ?_
    refine lv_aload_n hx hb dX3_behind_24 rfl (lv_at hl 0 rfl) ?_
    refine lv_aload_n hx hb dX3_behind_25 rfl (lv_at hl 1 rfl) ?_
    refine lv_iload_n hx hb dX3_behind_26 rfl (lv_at hl 2 rfl) ?_
    refine lv_iload_n hx hb dX3_behind_27 rfl (lv_at hl 3 rfl) ?_
    obtain ⟨hs, hf⟩ := gCk_b hf
    refine g_cBI hI hf (fun v9 h9 e9 l9 l9' => g_rV X hI l9 l9' ⟨Nat.le_refl _, Nat.le_refl _⟩ (As := [.ref a1, .int x2, .int x3]) (m_X3_frights X.2.2.2.2.2.2.2.2.2.2.1 e9) ydX3_frights hs rfl rfl q566 q567 q568 q123 q569 rfl (Nat.le_of_ble_eq_true rfl) (Nat.le_of_ble_eq_true rfl) hl.1 rfl (Nat.le_of_ble_eq_true rfl) dX3_behind_28) (fun r3 h H locs cells slots hf hI => ?_)
    refine lv_iadd hx hb dX3_behind_31 ?_
    refine lv_iload hx hb dX3_behind_32 (lv_at hl 4 rfl) ?_
    refine lv_iadd hx hb dX3_behind_34 ?_
    exact b_X3_behind_35 X _ _ _ _ _ _ _ hf hI (lv_sub hl [] rfl)
  · have hf := g_t c7 hf
    refine lv_iconst (v := (0 : Int32)) hx hb dX3_behind_10 (by decide) ?_
    refine lv_iload_n hx hb dX3_behind_11 rfl (lv_at hl 3 rfl) ?_
    refine lv_aload_n hx hb dX3_behind_12 rfl (lv_at hl 0 rfl) ?_
    refine g_fi X hI hf fX3_11 q280 rfl rfl dX3_behind_13 (fun v4 hf => ?_)
    refine lv_isub hx hb dX3_behind_16 ?_
    refine g_cBI hI hf (fun v9 h9 e9 l9 l9' => g_rS (b := 0) X hI l9 l9' ⟨Nat.le_refl _, Nat.le_refl _⟩ (As := [.int (0 : Int32), .int (x3 - v4)]) (m_J13_max X.2.2.2.2.2.2.2.2.2.2.1 e9) ydJ13_max q563 q564 q151 q565 rfl (Nat.le_of_ble_eq_true rfl) (Nat.le_of_ble_eq_true rfl) hl.1 rfl (Nat.le_of_ble_eq_true rfl) dX3_behind_17) (fun r5 h H locs cells slots hf hI => ?_)
    refine lv_goto (tgt := 35) hx hb dX3_behind_20 (by decide) ?_
    exact b_X3_behind_35 X _ _ _ _ _ _ _ hf hI (lv_sub hl [] rfl)
/-! X3_draw -/
def f_X3_draw (a0 : Nat) (x1 : Int32) : gM Int32 :=
    gB (gFI a0 2 13) fun v1 =>
    gB (gPI a0 2 13 (((1103515245 : Int32) * v1) + (12345 : Int32))) fun _ =>
    gB (gFI a0 2 13) fun v2 =>
    gB (gGd (¬ x1 = 0)) fun _ =>
    (gRet (((((v2).toUInt32 >>> (((16 : Int32)).toUInt32 &&& Int32.toUInt32 31)).toInt32) &&& (32767 : Int32)) - ((((v2).toUInt32 >>> (((16 : Int32)).toUInt32 &&& Int32.toUInt32 31)).toInt32) &&& (32767 : Int32)) / x1 * x1))
set_option maxHeartbeats 4000000 in
set_option maxRecDepth 100000 in
theorem m_X3_draw {G : gG} {l : Launch} (hfl : l.stackTraces = false) {a0 : Nat} {x1 : Int32} {h h' : g_H} {r : Int32} (hf : (f_X3_draw a0 x1).1 h = some (r, h')) : gMet G l yX3_draw (Cond.code yX3_draw cX3_draw 2 (some .int)) 1 20 [.ref a0, .int x1] h (.inl (g_wI r)) h' := by
  refine g_head hfl ((f_X3_draw a0 x1).2 h r h' hf) (plainFor_of_name (by decide)) (Nat.le_of_ble_eq_true rfl) (fun p e s m below meth c H locs cells slots ls X hI hl9 => ?_)
  have hl : lv_has ls 2 [(0, .ref a0), (1, .int x1)] := hl9
  have hx := X.1
  have hb := X.2.1
  have hown := X.2.2.2.1
  have hts := X.2.2.2.2.1
  unfold f_X3_draw at hf
  refine lv_aload_n hx hb dX3_draw_0 rfl (lv_at hl 0 rfl) ?_
  refine lv_ldc (v := (1103515245 : Int32)) hx hb hown (hts _ q716) dX3_draw_1 ?_
  refine lv_aload_n hx hb dX3_draw_3 rfl (lv_at hl 0 rfl) ?_
  refine g_fi X hI hf fX3_13 q286 rfl rfl dX3_draw_4 (fun v1 hf => ?_)
  refine lv_imul hx hb dX3_draw_7 ?_
  refine lv_sipush (v := (12345 : Int32)) hx hb dX3_draw_8 (by decide) ?_
  refine lv_iadd hx hb dX3_draw_11 ?_
  refine g_pi X hI hf fX3_13 q286 rfl dX3_draw_12 (fun h H locs hf hI => ?_)
  refine lv_aload_n hx hb dX3_draw_15 rfl (lv_at hl 0 rfl) ?_
  refine g_fi X hI hf fX3_13 q286 rfl rfl dX3_draw_16 (fun v2 hf => ?_)
  refine lv_bipush (v := (16 : Int32)) hx hb dX3_draw_19 (by decide) ?_
  refine lv_iushr hx hb dX3_draw_21 rfl ?_
  refine lv_sipush (v := (32767 : Int32)) hx hb dX3_draw_22 (by decide) ?_
  refine lv_iand hx hb dX3_draw_25 ?_
  refine lv_iload_n hx hb dX3_draw_26 rfl (lv_at hl 1 rfl) ?_
  obtain ⟨hz27, hf⟩ := gB_gd hf
  refine lv_irem hx hb dX3_draw_27 hz27 ?_
  cases gRet_e hf
  exact g_retI X hI rfl dX3_draw_28
/-! X1_rides -/
abbrev w_X1_rides_157 (G : gG) (l : Launch) (p : Program) (e : Env) (s : State) (m : MethodId) (args : Array Value) (below : List Frame) (meth : Method) (c : Code) (h0 : g_H) (r : Unit) (h' : g_H) (k : Nat → Nat → Int32 → Int32 → Int32 → gM Unit) : Prop := ∀ (a0 : Nat) (a1 : Nat) (x2 : Int32) (x3 : Int32) (x4 : Int32) (h : g_H) (H : Heap) (locs : List Loc) (cells slots : Nat) (ls : Array Slot), (k a0 a1 x2 x3 x4).1 h = some (r, h') → gI G h0 h H locs cells slots → lv_has ls 7 [(0, .ref a0), (1, .ref a1), (2, .int x2), (3, .int x3), (4, .int x4)] → W p l e (g_rm 101 1866 h0 h') s m args below meth c H locs cells slots (gQ G below args s h0 h' (.inl (g_wU r))) (F0 m 157 ls [])
abbrev w_X1_rides_142 (G : gG) (l : Launch) (p : Program) (e : Env) (s : State) (m : MethodId) (args : Array Value) (below : List Frame) (meth : Method) (c : Code) (h0 : g_H) (r : Unit) (h' : g_H) (k : Nat → Nat → Int32 → Int32 → Int32 → gM Unit) : Prop := ∀ (a0 : Nat) (a1 : Nat) (x2 : Int32) (x4 : Int32) (u0 : Int32) (h : g_H) (H : Heap) (locs : List Loc) (cells slots : Nat) (ls : Array Slot), (k a0 a1 x2 x4 u0).1 h = some (r, h') → gI G h0 h H locs cells slots → lv_has ls 7 [(0, .ref a0), (1, .ref a1), (2, .int x2), (4, .int x4)] → W p l e (g_rm 101 1866 h0 h') s m args below meth c H locs cells slots (gQ G below args s h0 h' (.inl (g_wU r))) (F0 m 142 ls [.int u0])
abbrev w_X1_rides_129 (G : gG) (l : Launch) (p : Program) (e : Env) (s : State) (m : MethodId) (args : Array Value) (below : List Frame) (meth : Method) (c : Code) (h0 : g_H) (r : Unit) (h' : g_H) (k : Nat → Nat → Int32 → Int32 → Int32 → Int32 → gM Unit) : Prop := ∀ (a0 : Nat) (a1 : Nat) (x2 : Int32) (x3 : Int32) (x4 : Int32) (x6 : Int32) (h : g_H) (H : Heap) (locs : List Loc) (cells slots : Nat) (ls : Array Slot), (k a0 a1 x2 x3 x4 x6).1 h = some (r, h') → gI G h0 h H locs cells slots → lv_has ls 7 [(0, .ref a0), (1, .ref a1), (2, .int x2), (3, .int x3), (4, .int x4), (6, .int x6)] → W p l e (g_rm 101 1866 h0 h') s m args below meth c H locs cells slots (gQ G below args s h0 h' (.inl (g_wU r))) (F0 m 129 ls [])
abbrev w_X1_rides_105 (G : gG) (l : Launch) (p : Program) (e : Env) (s : State) (m : MethodId) (args : Array Value) (below : List Frame) (meth : Method) (c : Code) (h0 : g_H) (r : Unit) (h' : g_H) (k : Nat → Nat → Int32 → Int32 → Int32 → Int32 → Int32 → gM Unit) : Prop := ∀ (a0 : Nat) (a1 : Nat) (x2 : Int32) (x3 : Int32) (x4 : Int32) (x5 : Int32) (u0 : Int32) (h : g_H) (H : Heap) (locs : List Loc) (cells slots : Nat) (ls : Array Slot), (k a0 a1 x2 x3 x4 x5 u0).1 h = some (r, h') → gI G h0 h H locs cells slots → lv_has ls 7 [(0, .ref a0), (1, .ref a1), (2, .int x2), (3, .int x3), (4, .int x4), (5, .int x5)] → W p l e (g_rm 101 1866 h0 h') s m args below meth c H locs cells slots (gQ G below args s h0 h' (.inl (g_wU r))) (F0 m 105 ls [.int u0])
abbrev w_X1_rides_79 (G : gG) (l : Launch) (p : Program) (e : Env) (s : State) (m : MethodId) (args : Array Value) (below : List Frame) (meth : Method) (c : Code) (h0 : g_H) (r : Unit) (h' : g_H) (k : Nat → Nat → Int32 → Int32 → Int32 → Int32 → gM Unit) : Prop := ∀ (a0 : Nat) (a1 : Nat) (x2 : Int32) (x3 : Int32) (x4 : Int32) (x5 : Int32) (h : g_H) (H : Heap) (locs : List Loc) (cells slots : Nat) (ls : Array Slot), (k a0 a1 x2 x3 x4 x5).1 h = some (r, h') → gI G h0 h H locs cells slots → lv_has ls 7 [(0, .ref a0), (1, .ref a1), (2, .int x2), (3, .int x3), (4, .int x4), (5, .int x5)] → W p l e (g_rm 101 1866 h0 h') s m args below meth c H locs cells slots (gQ G below args s h0 h' (.inl (g_wU r))) (F0 m 79 ls [])
abbrev w_X1_rides_163 (G : gG) (l : Launch) (p : Program) (e : Env) (s : State) (m : MethodId) (args : Array Value) (below : List Frame) (meth : Method) (c : Code) (h0 : g_H) (r : Unit) (h' : g_H) (k : Nat → Int32 → gM Unit) : Prop := ∀ (a0 : Nat) (x3 : Int32) (h : g_H) (H : Heap) (locs : List Loc) (cells slots : Nat) (ls : Array Slot), (k a0 x3).1 h = some (r, h') → gI G h0 h H locs cells slots → lv_has ls 7 [(0, .ref a0), (3, .int x3)] → W p l e (g_rm 101 1866 h0 h') s m args below meth c H locs cells slots (gQ G below args s h0 h' (.inl (g_wU r))) (F0 m 163 ls [])
abbrev w_X1_rides_15 (G : gG) (l : Launch) (p : Program) (e : Env) (s : State) (m : MethodId) (args : Array Value) (below : List Frame) (meth : Method) (c : Code) (h0 : g_H) (r : Unit) (h' : g_H) (k : Nat → Nat → Int32 → Int32 → Int32 → gM Unit) : Prop := ∀ (a0 : Nat) (a1 : Nat) (x2 : Int32) (x3 : Int32) (x4 : Int32) (h : g_H) (H : Heap) (locs : List Loc) (cells slots : Nat) (ls : Array Slot), (k a0 a1 x2 x3 x4).1 h = some (r, h') → gI G h0 h H locs cells slots → lv_has ls 7 [(0, .ref a0), (1, .ref a1), (2, .int x2), (3, .int x3), (4, .int x4)] → W p l e (g_rm 101 1866 h0 h') s m args below meth c H locs cells slots (gQ G below args s h0 h' (.inl (g_wU r))) (F0 m 15 ls [])
def f_X1_rides_157 (k15 : Nat → Nat → Int32 → Int32 → Int32 → gM Unit) (a0 : Nat) (a1 : Nat) (x2 : Int32) (x3 : Int32) (x4 : Int32) : gM Unit :=
    k15 a0 a1 x2 x3 (x4 + (1 : Int32))
set_option maxHeartbeats 4000000 in
set_option maxRecDepth 100000 in
theorem b_X1_rides_157 {G : gG} {l : Launch} {p : Program} {e : Env} {s : State} {m : MethodId} {args : Array Value} {below : List Frame} {meth : Method} {c : Code} {h0 : g_H} {r : Unit} {h' : g_H} (X : gX G l yX1_rides.cls cX1_rides 7 none [] yX1_rides.name p s m args meth c) {k15 : Nat → Nat → Int32 → Int32 → Int32 → gM Unit} (K15 : w_X1_rides_15 G l p e s m args below meth c h0 r h' k15) : w_X1_rides_157 G l p e s m args below meth c h0 r h' (f_X1_rides_157 k15) := by
  have hx := X.1
  have hb := X.2.1
  have hown := X.2.2.2.1
  have hts := X.2.2.2.2.1
  intro a0 a1 x2 x3 x4 h H locs cells slots ls hf hI hl
  unfold f_X1_rides_157 at hf
  refine lv_iinc (v := (x4 + (1 : Int32))) (lv' := [(4, .int (x4 + (1 : Int32))), (0, .ref a0), (1, .ref a1), (2, .int x2), (3, .int x3)]) hx hb dX1_rides_157 hl (k := 4) rfl rfl (by decide) rfl (fun ls hl => ?_)
  refine lv_goto (tgt := 15) hx hb dX1_rides_160 (by decide) ?_
  exact K15 _ _ _ _ _ _ _ _ _ _ _ hf hI (lv_sub hl [1, 2, 3, 4, 0] rfl)
def f_X1_rides_142 (k15 : Nat → Nat → Int32 → Int32 → Int32 → gM Unit) (a0 : Nat) (a1 : Nat) (x2 : Int32) (x4 : Int32) (u0 : Int32) : gM Unit :=
    gB (gFI a1 4 1) fun v101 =>
    gIf (u0 ≤ v101)
    (f_X1_rides_157 k15 a0 a1 x2 u0 x4)
    (gB (gPI a0 0 14 x4) fun _ =>
    f_X1_rides_157 k15 a0 a1 x2 u0 x4)
set_option maxHeartbeats 4000000 in
set_option maxRecDepth 100000 in
theorem b_X1_rides_142 {G : gG} {l : Launch} {p : Program} {e : Env} {s : State} {m : MethodId} {args : Array Value} {below : List Frame} {meth : Method} {c : Code} {h0 : g_H} {r : Unit} {h' : g_H} (X : gX G l yX1_rides.cls cX1_rides 7 none [] yX1_rides.name p s m args meth c) {k15 : Nat → Nat → Int32 → Int32 → Int32 → gM Unit} (K15 : w_X1_rides_15 G l p e s m args below meth c h0 r h' k15) : w_X1_rides_142 G l p e s m args below meth c h0 r h' (f_X1_rides_142 k15) := by
  have hx := X.1
  have hb := X.2.1
  have hown := X.2.2.2.1
  have hts := X.2.2.2.2.1
  intro a0 a1 x2 x4 u0 h H locs cells slots ls hf hI hl
  unfold f_X1_rides_142 at hf
  refine lv_istore_n (lv' := [(3, .int u0), (0, .ref a0), (1, .ref a1), (2, .int x2), (4, .int x4)]) hx hb dX1_rides_142 rfl hl (by decide) rfl (fun ls hl => ?_)
  refine lv_iload_n hx hb dX1_rides_143 rfl (lv_at hl 0 rfl) ?_
  refine lv_aload_n hx hb dX1_rides_144 rfl (lv_at hl 2 rfl) ?_
  refine g_fiN X hI hf fX5_1 q235 rfl rfl dX1_rides_145 (fun v101 hf => ?_)
  refine lv_icmp_le (tgt := 157) hx hb dX1_rides_148 (by decide) (fun c148 => ?_) (fun c148 => ?_)
  · have hf := g_t c148 hf
    exact b_X1_rides_157 X K15 _ _ _ _ _ _ _ _ _ _ _ hf hI (lv_sub hl [1, 2, 3, 0, 4] rfl)
  · have hf := g_f c148 hf
    refine lv_aload_n hx hb dX1_rides_151 rfl (lv_at hl 1 rfl) ?_
    refine lv_iload hx hb dX1_rides_152 (lv_at hl 4 rfl) ?_
    refine g_pi X hI hf fX1_14 q475 rfl dX1_rides_154 (fun h H locs hf hI => ?_)
    exact b_X1_rides_157 X K15 _ _ _ _ _ _ _ _ _ _ _ hf hI (lv_sub hl [1, 2, 3, 0, 4] rfl)
def f_X1_rides_129 (k15 : Nat → Nat → Int32 → Int32 → Int32 → gM Unit) (a0 : Nat) (a1 : Nat) (x2 : Int32) (x3 : Int32) (x4 : Int32) (x6 : Int32) : gM Unit :=
    gB (gFR a0 0 1) fun v101 =>
    gB (gCk v101 2) fun _ =>
    gB (f_X3_behind v101 a1 x4 x3 x6) fun r102 =>
    f_X1_rides_142 k15 a0 a1 x2 x4 r102
set_option maxHeartbeats 4000000 in
set_option maxRecDepth 100000 in
theorem b_X1_rides_129 {G : gG} {l : Launch} {p : Program} {e : Env} {s : State} {m : MethodId} {args : Array Value} {below : List Frame} {meth : Method} {c : Code} {h0 : g_H} {r : Unit} {h' : g_H} (X : gX G l yX1_rides.cls cX1_rides 7 none [] yX1_rides.name p s m args meth c) {k15 : Nat → Nat → Int32 → Int32 → Int32 → gM Unit} (K15 : w_X1_rides_15 G l p e s m args below meth c h0 r h' k15) : w_X1_rides_129 G l p e s m args below meth c h0 r h' (f_X1_rides_129 k15) := by
  have hx := X.1
  have hb := X.2.1
  have hown := X.2.2.2.1
  have hts := X.2.2.2.2.1
  intro a0 a1 x2 x3 x4 x6 h H locs cells slots ls hf hI hl
  unfold f_X1_rides_129 at hf
  refine lv_aload_n hx hb dX1_rides_129 rfl (lv_at hl 0 rfl) ?_
  refine g_fr X hI hf fX1_1 q461 rfl rfl dX1_rides_130 (fun v101 hf => ?_)
  refine lv_aload_n hx hb dX1_rides_133 rfl (lv_at hl 1 rfl) ?_
  refine lv_iload hx hb dX1_rides_134 (lv_at hl 4 rfl) ?_
  refine lv_iload_n hx hb dX1_rides_136 rfl (lv_at hl 3 rfl) ?_
  refine lv_iload hx hb dX1_rides_137 (lv_at hl 5 rfl) ?_
  obtain ⟨hs, hf⟩ := gCk_b hf
  refine g_cBI hI hf (fun v9 h9 e9 l9 l9' => g_rV X hI l9 l9' ⟨Nat.le_refl _, Nat.le_refl _⟩ (As := [.ref a1, .int x4, .int x3, .int x6]) (m_X3_behind X.2.2.2.2.2.2.2.2.2.2.1 e9) ydX3_behind hs rfl rfl q717 q560 q561 q123 q562 rfl (Nat.le_of_ble_eq_true rfl) (Nat.le_of_ble_eq_true rfl) hl.1 rfl (Nat.le_of_ble_eq_true rfl) dX1_rides_139) (fun r102 h H locs cells slots hf hI => ?_)
  exact b_X1_rides_142 X K15 _ _ _ _ _ _ _ _ _ _ _ hf hI (lv_sub hl [0, 1, 2, 4] rfl)
def f_X1_rides_105 (k15 : Nat → Nat → Int32 → Int32 → Int32 → gM Unit) (a0 : Nat) (a1 : Nat) (x2 : Int32) (x3 : Int32) (x4 : Int32) (x5 : Int32) (u0 : Int32) : gM Unit :=
    gIf (x5 = (-1 : Int32))
    (f_X1_rides_129 k15 a0 a1 x2 x3 x4 u0)
    (gB (gFI a0 0 17) fun v101 =>
    gIf (x5 = v101)
    (f_X1_rides_142 k15 a0 a1 x2 x4 (x3 + u0))
    (f_X1_rides_129 k15 a0 a1 x2 x3 x4 u0))
set_option maxHeartbeats 4000000 in
set_option maxRecDepth 100000 in
theorem b_X1_rides_105 {G : gG} {l : Launch} {p : Program} {e : Env} {s : State} {m : MethodId} {args : Array Value} {below : List Frame} {meth : Method} {c : Code} {h0 : g_H} {r : Unit} {h' : g_H} (X : gX G l yX1_rides.cls cX1_rides 7 none [] yX1_rides.name p s m args meth c) {k15 : Nat → Nat → Int32 → Int32 → Int32 → gM Unit} (K15 : w_X1_rides_15 G l p e s m args below meth c h0 r h' k15) : w_X1_rides_105 G l p e s m args below meth c h0 r h' (f_X1_rides_105 k15) := by
  have hx := X.1
  have hb := X.2.1
  have hown := X.2.2.2.1
  have hts := X.2.2.2.2.1
  intro a0 a1 x2 x3 x4 x5 u0 h H locs cells slots ls hf hI hl
  unfold f_X1_rides_105 at hf
  refine lv_istore (lv' := [(6, .int u0), (0, .ref a0), (1, .ref a1), (2, .int x2), (3, .int x3), (4, .int x4), (5, .int x5)]) hx hb dX1_rides_105 hl (by decide) rfl (fun ls hl => ?_)
  refine lv_iload hx hb dX1_rides_107 (lv_at hl 6 rfl) ?_
  refine lv_iconst (v := (-1 : Int32)) hx hb dX1_rides_109 (by decide) ?_
  refine lv_icmp_eq (tgt := 129) hx hb dX1_rides_110 (by decide) (fun c110 => ?_) (fun c110 => ?_)
  · have hf := g_t c110 hf
    exact b_X1_rides_129 X K15 _ _ _ _ _ _ _ _ _ _ _ _ hf hI (lv_sub hl [1, 2, 3, 4, 5, 0] rfl)
  · have hf := g_f c110 hf
    refine lv_iload hx hb dX1_rides_113 (lv_at hl 6 rfl) ?_
    refine lv_aload_n hx hb dX1_rides_115 rfl (lv_at hl 1 rfl) ?_
    refine g_fi X hI hf fX1_17 q478 rfl rfl dX1_rides_116 (fun v101 hf => ?_)
    refine lv_icmp_ne (tgt := 129) hx hb dX1_rides_119 (by decide) (fun c119 => ?_) (fun c119 => ?_)
    · have hf := g_f c119 hf
      exact b_X1_rides_129 X K15 _ _ _ _ _ _ _ _ _ _ _ _ hf hI (lv_sub hl [1, 2, 3, 4, 5, 0] rfl)
    · have hf := g_t c119 hf
      refine lv_iload_n hx hb dX1_rides_122 rfl (lv_at hl 4 rfl) ?_
      refine lv_iload hx hb dX1_rides_123 (lv_at hl 0 rfl) ?_
      refine lv_iadd hx hb dX1_rides_125 ?_
      refine lv_goto (tgt := 142) hx hb dX1_rides_126 (by decide) ?_
      exact b_X1_rides_142 X K15 _ _ _ _ _ _ _ _ _ _ _ hf hI (lv_sub hl [1, 2, 3, 5] rfl)
def f_X1_rides_79 (k15 : Nat → Nat → Int32 → Int32 → Int32 → gM Unit) (a0 : Nat) (a1 : Nat) (x2 : Int32) (x3 : Int32) (x4 : Int32) (x5 : Int32) : gM Unit :=
    gIf (x5 = (-1 : Int32))
    (f_X1_rides_105 k15 a0 a1 x2 x3 x4 x5 (0 : Int32))
    (gIf (x2 = 0)
    (f_X1_rides_105 k15 a0 a1 x2 x3 x4 x5 (1 : Int32))
    (gB (gFR a0 0 1) fun v101 =>
    gB (gCk v101 2) fun _ =>
    gB (f_X3_draw v101 (3 : Int32)) fun r102 =>
    f_X1_rides_105 k15 a0 a1 x2 x3 x4 x5 r102))
set_option maxHeartbeats 4000000 in
set_option maxRecDepth 100000 in
theorem b_X1_rides_79 {G : gG} {l : Launch} {p : Program} {e : Env} {s : State} {m : MethodId} {args : Array Value} {below : List Frame} {meth : Method} {c : Code} {h0 : g_H} {r : Unit} {h' : g_H} (X : gX G l yX1_rides.cls cX1_rides 7 none [] yX1_rides.name p s m args meth c) {k15 : Nat → Nat → Int32 → Int32 → Int32 → gM Unit} (K15 : w_X1_rides_15 G l p e s m args below meth c h0 r h' k15) : w_X1_rides_79 G l p e s m args below meth c h0 r h' (f_X1_rides_79 k15) := by
  have hx := X.1
  have hb := X.2.1
  have hown := X.2.2.2.1
  have hts := X.2.2.2.2.1
  intro a0 a1 x2 x3 x4 x5 h H locs cells slots ls hf hI hl
  unfold f_X1_rides_79 at hf
  refine lv_iload hx hb dX1_rides_79 (lv_at hl 5 rfl) ?_
  refine lv_iconst (v := (-1 : Int32)) hx hb dX1_rides_81 (by decide) ?_
  refine lv_icmp_ne (tgt := 89) hx hb dX1_rides_82 (by decide) (fun c82 => ?_) (fun c82 => ?_)
  · have hf := g_f c82 hf
    refine lv_iload_n hx hb dX1_rides_89 rfl (lv_at hl 2 rfl) ?_
    refine lv_if_eq (tgt := 104) hx hb dX1_rides_90 (by decide) (fun c90 => ?_) (fun c90 => ?_)
    · have hf := g_t c90 hf
      refine lv_iconst (v := (1 : Int32)) hx hb dX1_rides_104 (by decide) ?_
      exact b_X1_rides_105 X K15 _ _ _ _ _ _ _ _ _ _ _ _ _ hf hI (lv_sub hl [0, 1, 2, 3, 4, 5] rfl)
    · have hf := g_f c90 hf
      refine lv_aload_n hx hb dX1_rides_93 rfl (lv_at hl 0 rfl) ?_
      refine g_fr X hI hf fX1_1 q461 rfl rfl dX1_rides_94 (fun v101 hf => ?_)
      refine lv_iconst (v := (3 : Int32)) hx hb dX1_rides_97 (by decide) ?_
      obtain ⟨hs, hf⟩ := gCk_b hf
      refine g_cBI hI hf (fun v9 h9 e9 l9 l9' => g_rV X hI l9 l9' ⟨Nat.le_refl _, Nat.le_refl _⟩ (As := [.int (3 : Int32)]) (m_X3_draw X.2.2.2.2.2.2.2.2.2.2.1 e9) ydX3_draw hs rfl rfl q712 q713 q714 q123 q715 rfl (Nat.le_of_ble_eq_true rfl) (Nat.le_of_ble_eq_true rfl) hl.1 rfl (Nat.le_of_ble_eq_true rfl) dX1_rides_98) (fun r102 h H locs cells slots hf hI => ?_)
      refine lv_goto (tgt := 105) hx hb dX1_rides_101 (by decide) ?_
      exact b_X1_rides_105 X K15 _ _ _ _ _ _ _ _ _ _ _ _ _ hf hI (lv_sub hl [0, 1, 2, 3, 4, 5] rfl)
  · have hf := g_t c82 hf
    refine lv_iconst (v := (0 : Int32)) hx hb dX1_rides_85 (by decide) ?_
    refine lv_goto (tgt := 105) hx hb dX1_rides_86 (by decide) ?_
    exact b_X1_rides_105 X K15 _ _ _ _ _ _ _ _ _ _ _ _ _ hf hI (lv_sub hl [0, 1, 2, 3, 4, 5] rfl)
def f_X1_rides_163 (a0 : Nat) (x3 : Int32) : gM Unit :=
    gB (gPI a0 0 15 x3) fun _ =>
    gRet ()
set_option maxHeartbeats 4000000 in
set_option maxRecDepth 100000 in
theorem b_X1_rides_163 {G : gG} {l : Launch} {p : Program} {e : Env} {s : State} {m : MethodId} {args : Array Value} {below : List Frame} {meth : Method} {c : Code} {h0 : g_H} {r : Unit} {h' : g_H} (X : gX G l yX1_rides.cls cX1_rides 7 none [] yX1_rides.name p s m args meth c) : w_X1_rides_163 G l p e s m args below meth c h0 r h' (f_X1_rides_163) := by
  have hx := X.1
  have hb := X.2.1
  have hown := X.2.2.2.1
  have hts := X.2.2.2.2.1
  intro a0 x3 h H locs cells slots ls hf hI hl
  unfold f_X1_rides_163 at hf
  refine lv_aload_n hx hb dX1_rides_163 rfl (lv_at hl 0 rfl) ?_
  refine lv_iload_n hx hb dX1_rides_164 rfl (lv_at hl 1 rfl) ?_
  refine g_pi X hI hf fX1_15 q476 rfl dX1_rides_165 (fun h H locs hf hI => ?_)
  cases gRet_e hf
  exact g_retU X hI rfl dX1_rides_168
def f_X1_rides_15 : Nat → Nat → Nat → Int32 → Int32 → Int32 → gM Unit
  | 0, _, _, _, _, _ => gFail
  | n + 1, a0, a1, x2, x3, x4 =>
    gIf ((10 : Int32) ≤ x4)
    (f_X1_rides_163 a0 x3)
    (gB (gFI a0 0 14) fun v101 =>
    gIf (v101 = (-1 : Int32))
    (gB (gFR a0 0 1) fun v102 =>
    gB (gFR v102 2 3) fun v103 =>
    gB (gAI v103 0 x4) fun v104 =>
    gIf (v104 = (-1 : Int32))
    (f_X1_rides_79 (f_X1_rides_15 n) a0 a1 x2 x3 x4 v104)
    (gB (gFR a0 0 8) fun v105 =>
    gB (gFR a0 0 1) fun v106 =>
    gB (gCk v106 2) fun _ =>
    gB (f_X3_wears v106 a1 x4 x3) fun r107 =>
    gB (gSI v105 0 v104 r107) fun _ =>
    gB (gFI a0 0 16) fun v108 =>
    gB (gPI a0 0 16 (v108 ||| ((1 : Int32) <<< (v104 &&& 31)))) fun _ =>
    f_X1_rides_79 (f_X1_rides_15 n) a0 a1 x2 x3 x4 v104))
    (f_X1_rides_163 a0 x3))
set_option maxHeartbeats 4000000 in
set_option maxRecDepth 100000 in
theorem b_X1_rides_15 {G : gG} {l : Launch} {p : Program} {e : Env} {s : State} {m : MethodId} {args : Array Value} {below : List Frame} {meth : Method} {c : Code} {h0 : g_H} {r : Unit} {h' : g_H} (X : gX G l yX1_rides.cls cX1_rides 7 none [] yX1_rides.name p s m args meth c) : ∀ n : Nat, w_X1_rides_15 G l p e s m args below meth c h0 r h' (f_X1_rides_15 n) := by
  have hx := X.1
  have hb := X.2.1
  have hown := X.2.2.2.1
  have hts := X.2.2.2.2.1
  intro n
  induction n with
  | zero =>
    intro a0 a1 x2 x3 x4 h H locs cells slots ls hf hI hl
    exact (gFail_f hf).elim
  | succ n ih =>
    intro a0 a1 x2 x3 x4 h H locs cells slots ls hf hI hl
    rw [f_X1_rides_15] at hf
    refine lv_iload hx hb dX1_rides_15 (lv_at hl 4 rfl) ?_
    refine lv_bipush (v := (10 : Int32)) hx hb dX1_rides_17 (by decide) ?_
    refine lv_icmp_ge (tgt := 163) hx hb dX1_rides_19 (by decide) (fun c19 => ?_) (fun c19 => ?_)
    · have hf := g_t c19 hf
      exact b_X1_rides_163 X _ _ _ _ _ _ _ _ hf hI (lv_sub hl [0, 3] rfl)
    · have hf := g_f c19 hf
      refine lv_aload_n hx hb dX1_rides_22 rfl (lv_at hl 0 rfl) ?_
      refine g_fi X hI hf fX1_14 q475 rfl rfl dX1_rides_23 (fun v101 hf => ?_)
      refine lv_iconst (v := (-1 : Int32)) hx hb dX1_rides_26 (by decide) ?_
      refine lv_icmp_ne (tgt := 163) hx hb dX1_rides_27 (by decide) (fun c27 => ?_) (fun c27 => ?_)
      · have hf := g_f c27 hf
        exact b_X1_rides_163 X _ _ _ _ _ _ _ _ hf hI (lv_sub hl [0, 3] rfl)
      · have hf := g_t c27 hf
        refine lv_aload_n hx hb dX1_rides_30 rfl (lv_at hl 0 rfl) ?_
        refine g_fr X hI hf fX1_1 q461 rfl rfl dX1_rides_31 (fun v102 hf => ?_)
        refine g_frN X hI hf fX3_3 q264 rfl rfl dX1_rides_34 (fun v103 hf => ?_)
        refine lv_iload hx hb dX1_rides_37 (lv_at hl 4 rfl) ?_
        refine g_ai0 X hI hf dX1_rides_39 (fun v104 hf => ?_)
        refine lv_istore (lv' := [(5, .int v104), (0, .ref a0), (1, .ref a1), (2, .int x2), (3, .int x3), (4, .int x4)]) hx hb dX1_rides_40 hl (by decide) rfl (fun ls hl => ?_)
        refine lv_iload hx hb dX1_rides_42 (lv_at hl 0 rfl) ?_
        refine lv_iconst (v := (-1 : Int32)) hx hb dX1_rides_44 (by decide) ?_
        refine lv_icmp_eq (tgt := 79) hx hb dX1_rides_45 (by decide) (fun c45 => ?_) (fun c45 => ?_)
        · have hf := g_t c45 hf
          exact b_X1_rides_79 X ih _ _ _ _ _ _ _ _ _ _ _ _ hf hI (lv_sub hl [1, 2, 3, 4, 5, 0] rfl)
        · have hf := g_f c45 hf
          refine lv_aload_n hx hb dX1_rides_48 rfl (lv_at hl 1 rfl) ?_
          refine g_fr X hI hf fX1_8 q469 rfl rfl dX1_rides_49 (fun v105 hf => ?_)
          refine lv_iload hx hb dX1_rides_52 (lv_at hl 0 rfl) ?_
          refine lv_aload_n hx hb dX1_rides_54 rfl (lv_at hl 1 rfl) ?_
          refine g_fr X hI hf fX1_1 q461 rfl rfl dX1_rides_55 (fun v106 hf => ?_)
          refine lv_aload_n hx hb dX1_rides_58 rfl (lv_at hl 2 rfl) ?_
          refine lv_iload hx hb dX1_rides_59 (lv_at hl 5 rfl) ?_
          refine lv_iload_n hx hb dX1_rides_61 rfl (lv_at hl 4 rfl) ?_
          obtain ⟨hs, hf⟩ := gCk_b hf
          refine g_cBI hI hf (fun v9 h9 e9 l9 l9' => g_rV X hI l9 l9' ⟨Nat.le_refl _, Nat.le_refl _⟩ (As := [.ref a1, .int x4, .int x3]) (m_X3_wears X.2.2.2.2.2.2.2.2.2.2.1 e9) ydX3_wears hs rfl rfl q697 q698 q699 q123 q700 rfl (Nat.le_of_ble_eq_true rfl) (Nat.le_of_ble_eq_true rfl) hl.1 rfl (Nat.le_of_ble_eq_true rfl) dX1_rides_62) (fun r107 h H locs cells slots hf hI => ?_)
          refine g_si0 X hI hf dX1_rides_65 (fun h H locs hf hI => ?_)
          refine lv_aload_n hx hb dX1_rides_66 rfl (lv_at hl 1 rfl) ?_
          refine lv_dup hx hb dX1_rides_67 rfl ?_
          refine g_fi X hI hf fX1_16 q477 rfl rfl dX1_rides_68 (fun v108 hf => ?_)
          refine lv_iconst (v := (1 : Int32)) hx hb dX1_rides_71 (by decide) ?_
          refine lv_iload hx hb dX1_rides_72 (lv_at hl 0 rfl) ?_
          refine lv_ishl hx hb dX1_rides_74 ?_
          refine lv_ior hx hb dX1_rides_75 ?_
          refine g_pi X hI hf fX1_16 q477 rfl dX1_rides_76 (fun h H locs hf hI => ?_)
          exact b_X1_rides_79 X ih _ _ _ _ _ _ _ _ _ _ _ _ hf hI (lv_sub hl [1, 2, 3, 4, 5, 0] rfl)
def f_X1_rides (a0 : Nat) (a1 : Nat) (x2 : Int32) : gM Unit :=
    gB (gPI a0 0 16 (0 : Int32)) fun _ =>
    gB (gPI a0 0 14 (-1 : Int32)) fun _ =>
    f_X1_rides_15 gN a0 a1 x2 (0 : Int32) (0 : Int32)
set_option maxHeartbeats 4000000 in
set_option maxRecDepth 100000 in
theorem m_X1_rides {G : gG} {l : Launch} (hfl : l.stackTraces = false) {a0 : Nat} {a1 : Nat} {x2 : Int32} {h h' : g_H} {r : Unit} (hf : (f_X1_rides a0 a1 x2).1 h = some (r, h')) : gMet G l yX1_rides (Cond.code yX1_rides cX1_rides 7 none) 101 1866 [.ref a0, .ref a1, .int x2] h (.inl (g_wU r)) h' := by
  refine g_head hfl ((f_X1_rides a0 a1 x2).2 h r h' hf) (plainFor_of_name (by decide)) (Nat.le_of_ble_eq_true rfl) (fun p e s m below meth c H locs cells slots ls X hI hl9 => ?_)
  have hl : lv_has ls 7 [(0, .ref a0), (1, .ref a1), (2, .int x2)] := hl9
  have hx := X.1
  have hb := X.2.1
  have hown := X.2.2.2.1
  have hts := X.2.2.2.2.1
  unfold f_X1_rides at hf
  refine lv_iconst (v := (0 : Int32)) hx hb dX1_rides_0 (by decide) ?_
  refine lv_istore_n (lv' := [(3, .int (0 : Int32)), (0, .ref a0), (1, .ref a1), (2, .int x2)]) hx hb dX1_rides_1 rfl hl (by decide) rfl (fun ls hl => ?_)
  refine lv_aload_n hx hb dX1_rides_2 rfl (lv_at hl 1 rfl) ?_
  refine lv_iconst (v := (0 : Int32)) hx hb dX1_rides_3 (by decide) ?_
  refine g_pi X hI hf fX1_16 q477 rfl dX1_rides_4 (fun h H locs hf hI => ?_)
  refine lv_aload_n hx hb dX1_rides_7 rfl (lv_at hl 1 rfl) ?_
  refine lv_iconst (v := (-1 : Int32)) hx hb dX1_rides_8 (by decide) ?_
  refine g_pi X hI hf fX1_14 q475 rfl dX1_rides_9 (fun h H locs hf hI => ?_)
  refine lv_iconst (v := (0 : Int32)) hx hb dX1_rides_12 (by decide) ?_
  refine lv_istore (lv' := [(4, .int (0 : Int32)), (3, .int (0 : Int32)), (0, .ref a0), (1, .ref a1), (2, .int x2)]) hx hb dX1_rides_13 hl (by decide) rfl (fun ls hl => ?_)
  exact b_X1_rides_15 X gN _ _ _ _ _ _ _ _ _ _ _ hf hI (lv_sub hl [2, 3, 4, 1, 0] rfl)
/-! X1_goOn -/
abbrev w_X1_goOn_74 (G : gG) (l : Launch) (p : Program) (e : Env) (s : State) (m : MethodId) (args : Array Value) (below : List Frame) (meth : Method) (c : Code) (h0 : g_H) (r : Int32) (h' : g_H) (k : Nat → Int32 → Int32 → Int32 → Int32 → gM Int32) : Prop := ∀ (a0 : Nat) (x1 : Int32) (x2 : Int32) (x3 : Int32) (x4 : Int32) (h : g_H) (H : Heap) (locs : List Loc) (cells slots : Nat) (ls : Array Slot), (k a0 x1 x2 x3 x4).1 h = some (r, h') → gI G h0 h H locs cells slots → lv_has ls 5 [(0, .ref a0), (1, .int x1), (2, .int x2), (3, .int x3), (4, .int x4)] → W p l e (g_rm 102 1892 h0 h') s m args below meth c H locs cells slots (gQ G below args s h0 h' (.inl (g_wI r))) (F0 m 74 ls [])
abbrev w_X1_goOn_72 (G : gG) (l : Launch) (p : Program) (e : Env) (s : State) (m : MethodId) (args : Array Value) (below : List Frame) (meth : Method) (c : Code) (h0 : g_H) (r : Int32) (h' : g_H) (k : Nat → Int32 → Int32 → Int32 → Int32 → Int32 → gM Int32) : Prop := ∀ (a0 : Nat) (x1 : Int32) (x3 : Int32) (x4 : Int32) (u0 : Int32) (u1 : Int32) (h : g_H) (H : Heap) (locs : List Loc) (cells slots : Nat) (ls : Array Slot), (k a0 x1 x3 x4 u0 u1).1 h = some (r, h') → gI G h0 h H locs cells slots → lv_has ls 5 [(0, .ref a0), (1, .int x1), (3, .int x3), (4, .int x4)] → W p l e (g_rm 102 1892 h0 h') s m args below meth c H locs cells slots (gQ G below args s h0 h' (.inl (g_wI r))) (F0 m 72 ls [.int u1, .int u0])
abbrev w_X1_goOn_80 (G : gG) (l : Launch) (p : Program) (e : Env) (s : State) (m : MethodId) (args : Array Value) (below : List Frame) (meth : Method) (c : Code) (h0 : g_H) (r : Int32) (h' : g_H) (k : Nat → Int32 → Int32 → Int32 → gM Int32) : Prop := ∀ (a0 : Nat) (x1 : Int32) (x2 : Int32) (x3 : Int32) (h : g_H) (H : Heap) (locs : List Loc) (cells slots : Nat) (ls : Array Slot), (k a0 x1 x2 x3).1 h = some (r, h') → gI G h0 h H locs cells slots → lv_has ls 5 [(0, .ref a0), (1, .int x1), (2, .int x2), (3, .int x3)] → W p l e (g_rm 102 1892 h0 h') s m args below meth c H locs cells slots (gQ G below args s h0 h' (.inl (g_wI r))) (F0 m 80 ls [])
abbrev w_X1_goOn_12 (G : gG) (l : Launch) (p : Program) (e : Env) (s : State) (m : MethodId) (args : Array Value) (below : List Frame) (meth : Method) (c : Code) (h0 : g_H) (r : Int32) (h' : g_H) (k : Nat → Int32 → Int32 → Int32 → Int32 → gM Int32) : Prop := ∀ (a0 : Nat) (x1 : Int32) (x2 : Int32) (x3 : Int32) (x4 : Int32) (h : g_H) (H : Heap) (locs : List Loc) (cells slots : Nat) (ls : Array Slot), (k a0 x1 x2 x3 x4).1 h = some (r, h') → gI G h0 h H locs cells slots → lv_has ls 5 [(0, .ref a0), (1, .int x1), (2, .int x2), (3, .int x3), (4, .int x4)] → W p l e (g_rm 102 1892 h0 h') s m args below meth c H locs cells slots (gQ G below args s h0 h' (.inl (g_wI r))) (F0 m 12 ls [])
abbrev w_X1_goOn_86 (G : gG) (l : Launch) (p : Program) (e : Env) (s : State) (m : MethodId) (args : Array Value) (below : List Frame) (meth : Method) (c : Code) (h0 : g_H) (r : Int32) (h' : g_H) (k : Int32 → gM Int32) : Prop := ∀ (x2 : Int32) (h : g_H) (H : Heap) (locs : List Loc) (cells slots : Nat) (ls : Array Slot), (k x2).1 h = some (r, h') → gI G h0 h H locs cells slots → lv_has ls 5 [(2, .int x2)] → W p l e (g_rm 102 1892 h0 h') s m args below meth c H locs cells slots (gQ G below args s h0 h' (.inl (g_wI r))) (F0 m 86 ls [])
abbrev w_X1_goOn_4 (G : gG) (l : Launch) (p : Program) (e : Env) (s : State) (m : MethodId) (args : Array Value) (below : List Frame) (meth : Method) (c : Code) (h0 : g_H) (r : Int32) (h' : g_H) (k : Nat → Int32 → Int32 → Int32 → gM Int32) : Prop := ∀ (a0 : Nat) (x1 : Int32) (x2 : Int32) (x3 : Int32) (h : g_H) (H : Heap) (locs : List Loc) (cells slots : Nat) (ls : Array Slot), (k a0 x1 x2 x3).1 h = some (r, h') → gI G h0 h H locs cells slots → lv_has ls 5 [(0, .ref a0), (1, .int x1), (2, .int x2), (3, .int x3)] → W p l e (g_rm 102 1892 h0 h') s m args below meth c H locs cells slots (gQ G below args s h0 h' (.inl (g_wI r))) (F0 m 4 ls [])
def f_X1_goOn_74 (k12 : Nat → Int32 → Int32 → Int32 → Int32 → gM Int32) (a0 : Nat) (x1 : Int32) (x2 : Int32) (x3 : Int32) (x4 : Int32) : gM Int32 :=
    k12 a0 x1 x2 x3 (x4 + (1 : Int32))
set_option maxHeartbeats 4000000 in
set_option maxRecDepth 100000 in
theorem b_X1_goOn_74 {G : gG} {l : Launch} {p : Program} {e : Env} {s : State} {m : MethodId} {args : Array Value} {below : List Frame} {meth : Method} {c : Code} {h0 : g_H} {r : Int32} {h' : g_H} (X : gX G l yX1_goOn.cls cX1_goOn 5 (some .int) [] yX1_goOn.name p s m args meth c) {k12 : Nat → Int32 → Int32 → Int32 → Int32 → gM Int32} (K12 : w_X1_goOn_12 G l p e s m args below meth c h0 r h' k12) : w_X1_goOn_74 G l p e s m args below meth c h0 r h' (f_X1_goOn_74 k12) := by
  have hx := X.1
  have hb := X.2.1
  have hown := X.2.2.2.1
  have hts := X.2.2.2.2.1
  intro a0 x1 x2 x3 x4 h H locs cells slots ls hf hI hl
  unfold f_X1_goOn_74 at hf
  refine lv_iinc (v := (x4 + (1 : Int32))) (lv' := [(4, .int (x4 + (1 : Int32))), (0, .ref a0), (1, .int x1), (2, .int x2), (3, .int x3)]) hx hb dX1_goOn_74 hl (k := 4) rfl rfl (by decide) rfl (fun ls hl => ?_)
  refine lv_goto (tgt := 12) hx hb dX1_goOn_77 (by decide) ?_
  exact K12 _ _ _ _ _ _ _ _ _ _ _ hf hI (lv_sub hl [1, 2, 3, 4, 0] rfl)
def f_X1_goOn_72 (k12 : Nat → Int32 → Int32 → Int32 → Int32 → gM Int32) (a0 : Nat) (x1 : Int32) (x3 : Int32) (x4 : Int32) (u0 : Int32) (u1 : Int32) : gM Int32 :=
    f_X1_goOn_74 k12 a0 x1 (u0 + u1) x3 x4
set_option maxHeartbeats 4000000 in
set_option maxRecDepth 100000 in
theorem b_X1_goOn_72 {G : gG} {l : Launch} {p : Program} {e : Env} {s : State} {m : MethodId} {args : Array Value} {below : List Frame} {meth : Method} {c : Code} {h0 : g_H} {r : Int32} {h' : g_H} (X : gX G l yX1_goOn.cls cX1_goOn 5 (some .int) [] yX1_goOn.name p s m args meth c) {k12 : Nat → Int32 → Int32 → Int32 → Int32 → gM Int32} (K12 : w_X1_goOn_12 G l p e s m args below meth c h0 r h' k12) : w_X1_goOn_72 G l p e s m args below meth c h0 r h' (f_X1_goOn_72 k12) := by
  have hx := X.1
  have hb := X.2.1
  have hown := X.2.2.2.1
  have hts := X.2.2.2.2.1
  intro a0 x1 x3 x4 u0 u1 h H locs cells slots ls hf hI hl
  unfold f_X1_goOn_72 at hf
  refine lv_iadd hx hb dX1_goOn_72 ?_
  refine lv_istore_n (lv' := [(2, .int (u0 + u1)), (0, .ref a0), (1, .int x1), (3, .int x3), (4, .int x4)]) hx hb dX1_goOn_73 rfl hl (by decide) rfl (fun ls hl => ?_)
  exact b_X1_goOn_74 X K12 _ _ _ _ _ _ _ _ _ _ _ hf hI (lv_sub hl [1, 2, 0, 3, 4] rfl)
def f_X1_goOn_80 (k4 : Nat → Int32 → Int32 → Int32 → gM Int32) (a0 : Nat) (x1 : Int32) (x2 : Int32) (x3 : Int32) : gM Int32 :=
    k4 a0 x1 x2 (x3 + (1 : Int32))
set_option maxHeartbeats 4000000 in
set_option maxRecDepth 100000 in
theorem b_X1_goOn_80 {G : gG} {l : Launch} {p : Program} {e : Env} {s : State} {m : MethodId} {args : Array Value} {below : List Frame} {meth : Method} {c : Code} {h0 : g_H} {r : Int32} {h' : g_H} (X : gX G l yX1_goOn.cls cX1_goOn 5 (some .int) [] yX1_goOn.name p s m args meth c) {k4 : Nat → Int32 → Int32 → Int32 → gM Int32} (K4 : w_X1_goOn_4 G l p e s m args below meth c h0 r h' k4) : w_X1_goOn_80 G l p e s m args below meth c h0 r h' (f_X1_goOn_80 k4) := by
  have hx := X.1
  have hb := X.2.1
  have hown := X.2.2.2.1
  have hts := X.2.2.2.2.1
  intro a0 x1 x2 x3 h H locs cells slots ls hf hI hl
  unfold f_X1_goOn_80 at hf
  refine lv_iinc (v := (x3 + (1 : Int32))) (lv' := [(3, .int (x3 + (1 : Int32))), (0, .ref a0), (1, .int x1), (2, .int x2)]) hx hb dX1_goOn_80 hl (k := 3) rfl rfl (by decide) rfl (fun ls hl => ?_)
  refine lv_goto (tgt := 4) hx hb dX1_goOn_83 (by decide) ?_
  exact K4 _ _ _ _ _ _ _ _ _ _ hf hI (lv_sub hl [1, 2, 3, 0] rfl)
def f_X1_goOn_12 (k4 : Nat → Int32 → Int32 → Int32 → gM Int32) : Nat → Nat → Int32 → Int32 → Int32 → Int32 → gM Int32
  | 0, _, _, _, _, _ => gFail
  | n + 1, a0, x1, x2, x3, x4 =>
    gB (gFR a0 0 1) fun v101 =>
    gB (gFI v101 2 7) fun v102 =>
    gIf (v102 ≤ x4)
    (f_X1_goOn_80 k4 a0 x1 x2 x3)
    (gB (gFR a0 0 1) fun v103 =>
    gB (gFR v103 2 1) fun v104 =>
    gB (gAR v104 5 x4) fun v105 =>
    gB (gFI v105 4 3) fun v106 =>
    gIf (v106 = 0)
    (gB (gFR a0 0 1) fun v107 =>
    gB (gFR v107 2 1) fun v108 =>
    gB (gAR v108 5 x4) fun v109 =>
    gB (gCk a0 0) fun _ =>
    gB (f_X1_rides a0 v109 (1 : Int32)) fun _ =>
    gB (gFI a0 0 14) fun v111 =>
    gIf (v111 = (-1 : Int32))
    (f_X1_goOn_72 (f_X1_goOn_12 k4 n) a0 x1 x3 x4 x2 (0 : Int32))
    (f_X1_goOn_72 (f_X1_goOn_12 k4 n) a0 x1 x3 x4 x2 (1 : Int32)))
    (f_X1_goOn_74 (f_X1_goOn_12 k4 n) a0 x1 x2 x3 x4))
set_option maxHeartbeats 4000000 in
set_option maxRecDepth 100000 in
theorem b_X1_goOn_12 {G : gG} {l : Launch} {p : Program} {e : Env} {s : State} {m : MethodId} {args : Array Value} {below : List Frame} {meth : Method} {c : Code} {h0 : g_H} {r : Int32} {h' : g_H} (X : gX G l yX1_goOn.cls cX1_goOn 5 (some .int) [] yX1_goOn.name p s m args meth c) {k4 : Nat → Int32 → Int32 → Int32 → gM Int32} (K4 : w_X1_goOn_4 G l p e s m args below meth c h0 r h' k4) : ∀ n : Nat, w_X1_goOn_12 G l p e s m args below meth c h0 r h' (f_X1_goOn_12 k4 n) := by
  have hx := X.1
  have hb := X.2.1
  have hown := X.2.2.2.1
  have hts := X.2.2.2.2.1
  intro n
  induction n with
  | zero =>
    intro a0 x1 x2 x3 x4 h H locs cells slots ls hf hI hl
    exact (gFail_f hf).elim
  | succ n ih =>
    intro a0 x1 x2 x3 x4 h H locs cells slots ls hf hI hl
    rw [f_X1_goOn_12] at hf
    refine lv_iload hx hb dX1_goOn_12 (lv_at hl 4 rfl) ?_
    refine lv_aload_n hx hb dX1_goOn_14 rfl (lv_at hl 0 rfl) ?_
    refine g_fr X hI hf fX1_1 q461 rfl rfl dX1_goOn_15 (fun v101 hf => ?_)
    refine g_fiN X hI hf fX3_7 q271 rfl rfl dX1_goOn_18 (fun v102 hf => ?_)
    refine lv_icmp_ge (tgt := 80) hx hb dX1_goOn_21 (by decide) (fun c21 => ?_) (fun c21 => ?_)
    · have hf := g_t c21 hf
      exact b_X1_goOn_80 X K4 _ _ _ _ _ _ _ _ _ _ hf hI (lv_sub hl [0, 1, 2, 3] rfl)
    · have hf := g_f c21 hf
      refine lv_aload_n hx hb dX1_goOn_24 rfl (lv_at hl 0 rfl) ?_
      refine g_fr X hI hf fX1_1 q461 rfl rfl dX1_goOn_25 (fun v103 hf => ?_)
      refine g_frN X hI hf fX3_1 q257 rfl rfl dX1_goOn_28 (fun v104 hf => ?_)
      refine lv_iload hx hb dX1_goOn_31 (lv_at hl 4 rfl) ?_
      refine g_ar5 X hI hf dX1_goOn_33 (fun v105 hf => ?_)
      refine g_fiN X hI hf fX5_3 q243 rfl rfl dX1_goOn_34 (fun v106 hf => ?_)
      refine lv_if_eq (tgt := 43) hx hb dX1_goOn_37 (by decide) (fun c37 => ?_) (fun c37 => ?_)
      · have hf := g_t c37 hf
        refine lv_aload_n hx hb dX1_goOn_43 rfl (lv_at hl 0 rfl) ?_
        refine lv_aload_n hx hb dX1_goOn_44 rfl (lv_at hl 0 rfl) ?_
        refine g_fr X hI hf fX1_1 q461 rfl rfl dX1_goOn_45 (fun v107 hf => ?_)
        refine g_frN X hI hf fX3_1 q257 rfl rfl dX1_goOn_48 (fun v108 hf => ?_)
        refine lv_iload hx hb dX1_goOn_51 (lv_at hl 4 rfl) ?_
        refine g_ar5 X hI hf dX1_goOn_53 (fun v109 hf => ?_)
        refine lv_iconst (v := (1 : Int32)) hx hb dX1_goOn_54 (by decide) ?_
        obtain ⟨hs, hf⟩ := gCk_b hf
        refine g_cBU hI hf (fun v9 h9 e9 l9 l9' => g_rV X hI l9 l9' ⟨Nat.le_refl _, Nat.le_refl _⟩ (As := [.ref v109, .int (1 : Int32)]) (m_X1_rides X.2.2.2.2.2.2.2.2.2.2.1 e9) ydX1_rides hs rfl rfl q693 q695 qs9 q121 q696 rfl (Nat.le_of_ble_eq_true rfl) (Nat.le_of_ble_eq_true rfl) hl.1 rfl (Nat.le_of_ble_eq_true rfl) dX1_goOn_55) (fun r110 h H locs cells slots hf hI => ?_)
        refine lv_iload_n hx hb dX1_goOn_58 rfl (lv_at hl 2 rfl) ?_
        refine lv_aload_n hx hb dX1_goOn_59 rfl (lv_at hl 0 rfl) ?_
        refine g_fi X hI hf fX1_14 q475 rfl rfl dX1_goOn_60 (fun v111 hf => ?_)
        refine lv_iconst (v := (-1 : Int32)) hx hb dX1_goOn_63 (by decide) ?_
        refine lv_icmp_eq (tgt := 71) hx hb dX1_goOn_64 (by decide) (fun c64 => ?_) (fun c64 => ?_)
        · have hf := g_t c64 hf
          refine lv_iconst (v := (0 : Int32)) hx hb dX1_goOn_71 (by decide) ?_
          exact b_X1_goOn_72 X ih _ _ _ _ _ _ _ _ _ _ _ _ hf hI (lv_sub hl [0, 1, 3, 4] rfl)
        · have hf := g_f c64 hf
          refine lv_iconst (v := (1 : Int32)) hx hb dX1_goOn_67 (by decide) ?_
          refine lv_goto (tgt := 72) hx hb dX1_goOn_68 (by decide) ?_
          exact b_X1_goOn_72 X ih _ _ _ _ _ _ _ _ _ _ _ _ hf hI (lv_sub hl [0, 1, 3, 4] rfl)
      · have hf := g_f c37 hf
        refine lv_goto (tgt := 74) hx hb dX1_goOn_40 (by decide) ?_
        exact b_X1_goOn_74 X ih _ _ _ _ _ _ _ _ _ _ _ hf hI (lv_sub hl [0, 1, 2, 3, 4] rfl)
def f_X1_goOn_86 (x2 : Int32) : gM Int32 :=
    (gRet x2)
set_option maxHeartbeats 4000000 in
set_option maxRecDepth 100000 in
theorem b_X1_goOn_86 {G : gG} {l : Launch} {p : Program} {e : Env} {s : State} {m : MethodId} {args : Array Value} {below : List Frame} {meth : Method} {c : Code} {h0 : g_H} {r : Int32} {h' : g_H} (X : gX G l yX1_goOn.cls cX1_goOn 5 (some .int) [] yX1_goOn.name p s m args meth c) : w_X1_goOn_86 G l p e s m args below meth c h0 r h' (f_X1_goOn_86) := by
  have hx := X.1
  have hb := X.2.1
  have hown := X.2.2.2.1
  have hts := X.2.2.2.2.1
  intro x2 h H locs cells slots ls hf hI hl
  unfold f_X1_goOn_86 at hf
  refine lv_iload_n hx hb dX1_goOn_86 rfl (lv_at hl 0 rfl) ?_
  cases gRet_e hf
  exact g_retI X hI rfl dX1_goOn_87
def f_X1_goOn_4 : Nat → Nat → Int32 → Int32 → Int32 → gM Int32
  | 0, _, _, _, _ => gFail
  | n + 1, a0, x1, x2, x3 =>
    gIf (x1 ≤ x3)
    (f_X1_goOn_86 x2)
    (f_X1_goOn_12 (f_X1_goOn_4 n) gN a0 x1 x2 x3 (0 : Int32))
set_option maxHeartbeats 4000000 in
set_option maxRecDepth 100000 in
theorem b_X1_goOn_4 {G : gG} {l : Launch} {p : Program} {e : Env} {s : State} {m : MethodId} {args : Array Value} {below : List Frame} {meth : Method} {c : Code} {h0 : g_H} {r : Int32} {h' : g_H} (X : gX G l yX1_goOn.cls cX1_goOn 5 (some .int) [] yX1_goOn.name p s m args meth c) : ∀ n : Nat, w_X1_goOn_4 G l p e s m args below meth c h0 r h' (f_X1_goOn_4 n) := by
  have hx := X.1
  have hb := X.2.1
  have hown := X.2.2.2.1
  have hts := X.2.2.2.2.1
  intro n
  induction n with
  | zero =>
    intro a0 x1 x2 x3 h H locs cells slots ls hf hI hl
    exact (gFail_f hf).elim
  | succ n ih =>
    intro a0 x1 x2 x3 h H locs cells slots ls hf hI hl
    rw [f_X1_goOn_4] at hf
    refine lv_iload_n hx hb dX1_goOn_4 rfl (lv_at hl 3 rfl) ?_
    refine lv_iload_n hx hb dX1_goOn_5 rfl (lv_at hl 1 rfl) ?_
    refine lv_icmp_ge (tgt := 86) hx hb dX1_goOn_6 (by decide) (fun c6 => ?_) (fun c6 => ?_)
    · have hf := g_t c6 hf
      exact b_X1_goOn_86 X _ _ _ _ _ _ _ hf hI (lv_sub hl [2] rfl)
    · have hf := g_f c6 hf
      refine lv_iconst (v := (0 : Int32)) hx hb dX1_goOn_9 (by decide) ?_
      refine lv_istore (lv' := [(4, .int (0 : Int32)), (0, .ref a0), (1, .int x1), (2, .int x2), (3, .int x3)]) hx hb dX1_goOn_10 hl (by decide) rfl (fun ls hl => ?_)
      exact b_X1_goOn_12 X ih gN _ _ _ _ _ _ _ _ _ _ _ hf hI (lv_sub hl [1, 2, 3, 4, 0] rfl)
def f_X1_goOn (a0 : Nat) (x1 : Int32) : gM Int32 :=
    f_X1_goOn_4 gN a0 x1 (0 : Int32) (0 : Int32)
set_option maxHeartbeats 4000000 in
set_option maxRecDepth 100000 in
theorem m_X1_goOn {G : gG} {l : Launch} (hfl : l.stackTraces = false) {a0 : Nat} {x1 : Int32} {h h' : g_H} {r : Int32} (hf : (f_X1_goOn a0 x1).1 h = some (r, h')) : gMet G l yX1_goOn (Cond.code yX1_goOn cX1_goOn 5 (some .int)) 102 1892 [.ref a0, .int x1] h (.inl (g_wI r)) h' := by
  refine g_head hfl ((f_X1_goOn a0 x1).2 h r h' hf) (plainFor_of_name (by decide)) (Nat.le_of_ble_eq_true rfl) (fun p e s m below meth c H locs cells slots ls X hI hl9 => ?_)
  have hl : lv_has ls 5 [(0, .ref a0), (1, .int x1)] := hl9
  have hx := X.1
  have hb := X.2.1
  have hown := X.2.2.2.1
  have hts := X.2.2.2.2.1
  unfold f_X1_goOn at hf
  refine lv_iconst (v := (0 : Int32)) hx hb dX1_goOn_0 (by decide) ?_
  refine lv_istore_n (lv' := [(2, .int (0 : Int32)), (0, .ref a0), (1, .int x1)]) hx hb dX1_goOn_1 rfl hl (by decide) rfl (fun ls hl => ?_)
  refine lv_iconst (v := (0 : Int32)) hx hb dX1_goOn_2 (by decide) ?_
  refine lv_istore_n (lv' := [(3, .int (0 : Int32)), (2, .int (0 : Int32)), (0, .ref a0), (1, .int x1)]) hx hb dX1_goOn_3 rfl hl (by decide) rfl (fun ls hl => ?_)
  exact b_X1_goOn_4 X gN _ _ _ _ _ _ _ _ _ _ hf hI (lv_sub hl [2, 3, 1, 0] rfl)
/-! X1_span -/
abbrev w_X1_span_78 (G : gG) (l : Launch) (p : Program) (e : Env) (s : State) (m : MethodId) (args : Array Value) (below : List Frame) (meth : Method) (c : Code) (h0 : g_H) (r : (Int32 ⊕ gE)) (h' : g_H) (k : Nat → Int32 → Int32 → Int32 → Int32 → Int32 → gM (Int32 ⊕ gE)) : Prop := ∀ (a0 : Nat) (x1 : Int32) (x2 : Int32) (x3 : Int32) (x5 : Int32) (u0 : Int32) (h : g_H) (H : Heap) (locs : List Loc) (cells slots : Nat) (ls : Array Slot), (k a0 x1 x2 x3 x5 u0).1 h = some (r, h') → gI G h0 h H locs cells slots → lv_has ls 7 [(0, .ref a0), (1, .int x1), (2, .int x2), (3, .int x3), (5, .int x5)] → W p l e (g_rm 103 1916 h0 h') s m args below meth c H locs cells slots (gQ G below args s h0 h' (g_w g_wI r)) (F0 m 78 ls [.int u0])
abbrev w_X1_span_86 (G : gG) (l : Launch) (p : Program) (e : Env) (s : State) (m : MethodId) (args : Array Value) (below : List Frame) (meth : Method) (c : Code) (h0 : g_H) (r : (Int32 ⊕ gE)) (h' : g_H) (k : Nat → Int32 → Int32 → gM (Int32 ⊕ gE)) : Prop := ∀ (a0 : Nat) (x3 : Int32) (x4 : Int32) (h : g_H) (H : Heap) (locs : List Loc) (cells slots : Nat) (ls : Array Slot), (k a0 x3 x4).1 h = some (r, h') → gI G h0 h H locs cells slots → lv_has ls 7 [(0, .ref a0), (3, .int x3), (4, .int x4)] → W p l e (g_rm 103 1916 h0 h') s m args below meth c H locs cells slots (gQ G below args s h0 h' (g_w g_wI r)) (F0 m 86 ls [])
abbrev w_X1_span_34 (G : gG) (l : Launch) (p : Program) (e : Env) (s : State) (m : MethodId) (args : Array Value) (below : List Frame) (meth : Method) (c : Code) (h0 : g_H) (r : (Int32 ⊕ gE)) (h' : g_H) (k : Nat → Int32 → Int32 → Int32 → Int32 → Int32 → gM (Int32 ⊕ gE)) : Prop := ∀ (a0 : Nat) (x1 : Int32) (x2 : Int32) (x3 : Int32) (x4 : Int32) (x5 : Int32) (h : g_H) (H : Heap) (locs : List Loc) (cells slots : Nat) (ls : Array Slot), (k a0 x1 x2 x3 x4 x5).1 h = some (r, h') → gI G h0 h H locs cells slots → lv_has ls 7 [(0, .ref a0), (1, .int x1), (2, .int x2), (3, .int x3), (4, .int x4), (5, .int x5)] → W p l e (g_rm 103 1916 h0 h') s m args below meth c H locs cells slots (gQ G below args s h0 h' (g_w g_wI r)) (F0 m 34 ls [])
abbrev w_X1_span_29 (G : gG) (l : Launch) (p : Program) (e : Env) (s : State) (m : MethodId) (args : Array Value) (below : List Frame) (meth : Method) (c : Code) (h0 : g_H) (r : (Int32 ⊕ gE)) (h' : g_H) (k : Nat → Int32 → Int32 → Int32 → Int32 → gM (Int32 ⊕ gE)) : Prop := ∀ (a0 : Nat) (x1 : Int32) (x2 : Int32) (x3 : Int32) (u0 : Int32) (h : g_H) (H : Heap) (locs : List Loc) (cells slots : Nat) (ls : Array Slot), (k a0 x1 x2 x3 u0).1 h = some (r, h') → gI G h0 h H locs cells slots → lv_has ls 7 [(0, .ref a0), (1, .int x1), (2, .int x2), (3, .int x3)] → W p l e (g_rm 103 1916 h0 h') s m args below meth c H locs cells slots (gQ G below args s h0 h' (g_w g_wI r)) (F0 m 29 ls [.int u0])
def f_X1_span_78 (k34 : Nat → Int32 → Int32 → Int32 → Int32 → Int32 → gM (Int32 ⊕ gE)) (a0 : Nat) (x1 : Int32) (x2 : Int32) (x3 : Int32) (x5 : Int32) (u0 : Int32) : gM (Int32 ⊕ gE) :=
    k34 a0 x1 x2 x3 u0 (x5 + (1 : Int32))
set_option maxHeartbeats 4000000 in
set_option maxRecDepth 100000 in
theorem b_X1_span_78 {G : gG} {l : Launch} {p : Program} {e : Env} {s : State} {m : MethodId} {args : Array Value} {below : List Frame} {meth : Method} {c : Code} {h0 : g_H} {r : (Int32 ⊕ gE)} {h' : g_H} (X : gX G l yX1_span.cls cX1_span 7 (some .int) [] yX1_span.name p s m args meth c) {k34 : Nat → Int32 → Int32 → Int32 → Int32 → Int32 → gM (Int32 ⊕ gE)} (K34 : w_X1_span_34 G l p e s m args below meth c h0 r h' k34) : w_X1_span_78 G l p e s m args below meth c h0 r h' (f_X1_span_78 k34) := by
  have hx := X.1
  have hb := X.2.1
  have hown := X.2.2.2.1
  have hts := X.2.2.2.2.1
  intro a0 x1 x2 x3 x5 u0 h H locs cells slots ls hf hI hl
  unfold f_X1_span_78 at hf
  refine lv_istore (lv' := [(4, .int u0), (0, .ref a0), (1, .int x1), (2, .int x2), (3, .int x3), (5, .int x5)]) hx hb dX1_span_78 hl (by decide) rfl (fun ls hl => ?_)
  refine lv_iinc (v := (x5 + (1 : Int32))) (lv' := [(5, .int (x5 + (1 : Int32))), (4, .int u0), (0, .ref a0), (1, .int x1), (2, .int x2), (3, .int x3)]) hx hb dX1_span_80 hl (k := 5) rfl rfl (by decide) rfl (fun ls hl => ?_)
  refine lv_goto (tgt := 34) hx hb dX1_span_83 (by decide) ?_
  exact K34 _ _ _ _ _ _ _ _ _ _ _ _ hf hI (lv_sub hl [2, 3, 4, 5, 1, 0] rfl)
def f_X1_span_86 (a0 : Nat) (x3 : Int32) (x4 : Int32) : gM (Int32 ⊕ gE) :=
    gB (gFR a0 0 1) fun v101 =>
    gB (gPI v101 2 13 x3) fun _ =>
    (gRet (.inl x4))
set_option maxHeartbeats 4000000 in
set_option maxRecDepth 100000 in
theorem b_X1_span_86 {G : gG} {l : Launch} {p : Program} {e : Env} {s : State} {m : MethodId} {args : Array Value} {below : List Frame} {meth : Method} {c : Code} {h0 : g_H} {r : (Int32 ⊕ gE)} {h' : g_H} (X : gX G l yX1_span.cls cX1_span 7 (some .int) [] yX1_span.name p s m args meth c) : w_X1_span_86 G l p e s m args below meth c h0 r h' (f_X1_span_86) := by
  have hx := X.1
  have hb := X.2.1
  have hown := X.2.2.2.1
  have hts := X.2.2.2.2.1
  intro a0 x3 x4 h H locs cells slots ls hf hI hl
  unfold f_X1_span_86 at hf
  refine lv_aload_n hx hb dX1_span_86 rfl (lv_at hl 0 rfl) ?_
  refine g_fr X hI hf fX1_1 q461 rfl rfl dX1_span_87 (fun v101 hf => ?_)
  refine lv_iload_n hx hb dX1_span_90 rfl (lv_at hl 1 rfl) ?_
  refine g_piN X hI hf fX3_13 q287 rfl dX1_span_91 (fun h H locs hf hI => ?_)
  refine lv_iload hx hb dX1_span_94 (lv_at hl 2 rfl) ?_
  cases gRet_e hf
  exact g_retI X hI rfl dX1_span_96
def f_X1_span_34 : Nat → Nat → Int32 → Int32 → Int32 → Int32 → Int32 → gM (Int32 ⊕ gE)
  | 0, _, _, _, _, _, _ => gFail
  | n + 1, a0, x1, x2, x3, x4, x5 =>
    gIf ((6 : Int32) < x5)
    (f_X1_span_86 a0 x3 x4)
    (gB (gFR a0 0 1) fun v101 =>
    gB (gPI v101 2 13 x5) fun _ =>
    gB (gCk a0 0) fun _ =>
    gB (f_X1_goOn a0 x1) fun r102 =>
    gIf (x2 = 0)
    (gB (f_J13_min x4 r102) fun r103 =>
    f_X1_span_78 (f_X1_span_34 n) a0 x1 x2 x3 x5 r103)
    (gB (f_J13_max x4 r102) fun r104 =>
    f_X1_span_78 (f_X1_span_34 n) a0 x1 x2 x3 x5 r104))
set_option maxHeartbeats 4000000 in
set_option maxRecDepth 100000 in
theorem b_X1_span_34 {G : gG} {l : Launch} {p : Program} {e : Env} {s : State} {m : MethodId} {args : Array Value} {below : List Frame} {meth : Method} {c : Code} {h0 : g_H} {r : (Int32 ⊕ gE)} {h' : g_H} (X : gX G l yX1_span.cls cX1_span 7 (some .int) [] yX1_span.name p s m args meth c) : ∀ n : Nat, w_X1_span_34 G l p e s m args below meth c h0 r h' (f_X1_span_34 n) := by
  have hx := X.1
  have hb := X.2.1
  have hown := X.2.2.2.1
  have hts := X.2.2.2.2.1
  intro n
  induction n with
  | zero =>
    intro a0 x1 x2 x3 x4 x5 h H locs cells slots ls hf hI hl
    exact (gFail_f hf).elim
  | succ n ih =>
    intro a0 x1 x2 x3 x4 x5 h H locs cells slots ls hf hI hl
    rw [f_X1_span_34] at hf
    refine lv_iload hx hb dX1_span_34 (lv_at hl 5 rfl) ?_
    refine lv_bipush (v := (6 : Int32)) hx hb dX1_span_36 (by decide) ?_
    refine lv_icmp_gt (tgt := 86) hx hb dX1_span_38 (by decide) (fun c38 => ?_) (fun c38 => ?_)
    · have hf := g_t c38 hf
      exact b_X1_span_86 X _ _ _ _ _ _ _ _ _ hf hI (lv_sub hl [0, 3, 4] rfl)
    · have hf := g_f c38 hf
      refine lv_aload_n hx hb dX1_span_41 rfl (lv_at hl 0 rfl) ?_
      refine g_fr X hI hf fX1_1 q461 rfl rfl dX1_span_42 (fun v101 hf => ?_)
      refine lv_iload hx hb dX1_span_45 (lv_at hl 5 rfl) ?_
      refine g_piN X hI hf fX3_13 q287 rfl dX1_span_47 (fun h H locs hf hI => ?_)
      refine lv_aload_n hx hb dX1_span_50 rfl (lv_at hl 0 rfl) ?_
      refine lv_iload_n hx hb dX1_span_51 rfl (lv_at hl 1 rfl) ?_
      obtain ⟨hs, hf⟩ := gCk_b hf
      refine g_cBI hI hf (fun v9 h9 e9 l9 l9' => g_rV X hI l9 l9' ⟨Nat.le_refl _, Nat.le_refl _⟩ (As := [.int x1]) (m_X1_goOn X.2.2.2.2.2.2.2.2.2.2.1 e9) ydX1_goOn hs rfl rfl q1396 q1398 qs43 q121 q1399 rfl (Nat.le_of_ble_eq_true rfl) (Nat.le_of_ble_eq_true rfl) hl.1 rfl (Nat.le_of_ble_eq_true rfl) dX1_span_52) (fun r102 h H locs cells slots hf hI => ?_)
      refine lv_istore (lv' := [(6, .int r102), (0, .ref a0), (1, .int x1), (2, .int x2), (3, .int x3), (4, .int x4), (5, .int x5)]) hx hb dX1_span_55 hl (by decide) rfl (fun ls hl => ?_)
      refine lv_iload_n hx hb dX1_span_57 rfl (lv_at hl 3 rfl) ?_
      refine lv_if_eq (tgt := 71) hx hb dX1_span_58 (by decide) (fun c58 => ?_) (fun c58 => ?_)
      · have hf := g_t c58 hf
        refine lv_iload hx hb dX1_span_71 (lv_at hl 5 rfl) ?_
        refine lv_iload hx hb dX1_span_73 (lv_at hl 0 rfl) ?_
        refine g_cBI hI hf (fun v9 h9 e9 l9 l9' => g_rS (b := 0) X hI l9 l9' ⟨Nat.le_refl _, Nat.le_refl _⟩ (As := [.int x4, .int r102]) (m_J13_min X.2.2.2.2.2.2.2.2.2.2.1 e9) ydJ13_min q739 q740 q151 q741 rfl (Nat.le_of_ble_eq_true rfl) (Nat.le_of_ble_eq_true rfl) hl.1 rfl (Nat.le_of_ble_eq_true rfl) dX1_span_75) (fun r103 h H locs cells slots hf hI => ?_)
        exact b_X1_span_78 X ih _ _ _ _ _ _ _ _ _ _ _ _ hf hI (lv_sub hl [1, 2, 3, 4, 6] rfl)
      · have hf := g_f c58 hf
        refine lv_iload hx hb dX1_span_61 (lv_at hl 5 rfl) ?_
        refine lv_iload hx hb dX1_span_63 (lv_at hl 0 rfl) ?_
        refine g_cBI hI hf (fun v9 h9 e9 l9 l9' => g_rS (b := 0) X hI l9 l9' ⟨Nat.le_refl _, Nat.le_refl _⟩ (As := [.int x4, .int r102]) (m_J13_max X.2.2.2.2.2.2.2.2.2.2.1 e9) ydJ13_max q1288 q564 q151 q565 rfl (Nat.le_of_ble_eq_true rfl) (Nat.le_of_ble_eq_true rfl) hl.1 rfl (Nat.le_of_ble_eq_true rfl) dX1_span_65) (fun r104 h H locs cells slots hf hI => ?_)
        refine lv_goto (tgt := 78) hx hb dX1_span_68 (by decide) ?_
        exact b_X1_span_78 X ih _ _ _ _ _ _ _ _ _ _ _ _ hf hI (lv_sub hl [1, 2, 3, 4, 6] rfl)
def f_X1_span_29 (a0 : Nat) (x1 : Int32) (x2 : Int32) (x3 : Int32) (u0 : Int32) : gM (Int32 ⊕ gE) :=
    f_X1_span_34 gN a0 x1 x2 x3 u0 (1 : Int32)
set_option maxHeartbeats 4000000 in
set_option maxRecDepth 100000 in
theorem b_X1_span_29 {G : gG} {l : Launch} {p : Program} {e : Env} {s : State} {m : MethodId} {args : Array Value} {below : List Frame} {meth : Method} {c : Code} {h0 : g_H} {r : (Int32 ⊕ gE)} {h' : g_H} (X : gX G l yX1_span.cls cX1_span 7 (some .int) [] yX1_span.name p s m args meth c) : w_X1_span_29 G l p e s m args below meth c h0 r h' (f_X1_span_29) := by
  have hx := X.1
  have hb := X.2.1
  have hown := X.2.2.2.1
  have hts := X.2.2.2.2.1
  intro a0 x1 x2 x3 u0 h H locs cells slots ls hf hI hl
  unfold f_X1_span_29 at hf
  refine lv_istore (lv' := [(4, .int u0), (0, .ref a0), (1, .int x1), (2, .int x2), (3, .int x3)]) hx hb dX1_span_29 hl (by decide) rfl (fun ls hl => ?_)
  refine lv_iconst (v := (1 : Int32)) hx hb dX1_span_31 (by decide) ?_
  refine lv_istore (lv' := [(5, .int (1 : Int32)), (4, .int u0), (0, .ref a0), (1, .int x1), (2, .int x2), (3, .int x3)]) hx hb dX1_span_32 hl (by decide) rfl (fun ls hl => ?_)
  exact b_X1_span_34 X gN _ _ _ _ _ _ _ _ _ _ _ _ hf hI (lv_sub hl [2, 3, 4, 5, 1, 0] rfl)
def f_X1_span (a0 : Nat) (x1 : Int32) (x2 : Int32) : gM (Int32 ⊕ gE) :=
    gB (f_X1_isIn x1 (0 : Int32) (20 : Int32)) fun r1 =>
    gT (f_X1_must r1) fun _ =>
    gB (gFR a0 0 1) fun v3 =>
    gB (gFI v3 2 13) fun v4 =>
    gIf (x2 = 0)
    (f_X1_span_29 a0 x1 x2 v4 (100000000 : Int32))
    (f_X1_span_29 a0 x1 x2 v4 (0 : Int32))
set_option maxHeartbeats 4000000 in
set_option maxRecDepth 100000 in
theorem m_X1_span {G : gG} {l : Launch} (hfl : l.stackTraces = false) {a0 : Nat} {x1 : Int32} {x2 : Int32} {h h' : g_H} {r : (Int32 ⊕ gE)} (hf : (f_X1_span a0 x1 x2).1 h = some (r, h')) : gMet G l yX1_span (Cond.code yX1_span cX1_span 7 (some .int)) 103 1916 [.ref a0, .int x1, .int x2] h (g_w g_wI r) h' := by
  refine g_head hfl ((f_X1_span a0 x1 x2).2 h r h' hf) (plainFor_of_name (by decide)) (Nat.le_of_ble_eq_true rfl) (fun p e s m below meth c H locs cells slots ls X hI hl9 => ?_)
  have hl : lv_has ls 7 [(0, .ref a0), (1, .int x1), (2, .int x2)] := hl9
  have hx := X.1
  have hb := X.2.1
  have hown := X.2.2.2.1
  have hts := X.2.2.2.2.1
  unfold f_X1_span at hf
  refine lv_iload_n hx hb dX1_span_0 rfl (lv_at hl 1 rfl) ?_
  refine lv_iconst (v := (0 : Int32)) hx hb dX1_span_1 (by decide) ?_
  refine lv_bipush (v := (20 : Int32)) hx hb dX1_span_2 (by decide) ?_
  refine g_cBI hI hf (fun v9 h9 e9 l9 l9' => g_rS (b := 0) X hI l9 l9' ⟨Nat.le_refl _, Nat.le_refl _⟩ (As := [.int x1, .int (0 : Int32), .int (20 : Int32)]) (m_X1_isIn X.2.2.2.2.2.2.2.2.2.2.1 e9) ydX1_isIn q532 q533 q121 q534 rfl (Nat.le_of_ble_eq_true rfl) (Nat.le_of_ble_eq_true rfl) hl.1 rfl (Nat.le_of_ble_eq_true rfl) dX1_span_4) (fun r1 h H locs cells slots hf hI => ?_)
  refine g_cTU X hI (by decide) hf (fun v9 h9 e9 l9 l9' => g_rS (b := 0) X hI l9 l9' ⟨Nat.le_refl _, Nat.le_refl _⟩ (As := [.int r1]) (m_X1_must X.2.2.2.2.2.2.2.2.2.2.1 e9) ydX1_must q1200 q1201 q121 q1202 rfl (Nat.le_of_ble_eq_true rfl) (Nat.le_of_ble_eq_true rfl) hl.1 rfl (Nat.le_of_ble_eq_true rfl) dX1_span_7) (fun r2 h H locs cells slots hf hI => ?_)
  refine lv_aload_n hx hb dX1_span_10 rfl (lv_at hl 0 rfl) ?_
  refine g_fr X hI hf fX1_1 q461 rfl rfl dX1_span_11 (fun v3 hf => ?_)
  refine g_fiN X hI hf fX3_13 q287 rfl rfl dX1_span_14 (fun v4 hf => ?_)
  refine lv_istore_n (lv' := [(3, .int v4), (0, .ref a0), (1, .int x1), (2, .int x2)]) hx hb dX1_span_17 rfl hl (by decide) rfl (fun ls hl => ?_)
  refine lv_iload_n hx hb dX1_span_18 rfl (lv_at hl 3 rfl) ?_
  refine lv_if_eq (tgt := 26) hx hb dX1_span_19 (by decide) (fun c19 => ?_) (fun c19 => ?_)
  · have hf := g_t c19 hf
    refine lv_ldcw (v := (100000000 : Int32)) hx hb hown (hts _ q726) dX1_span_26 ?_
    exact b_X1_span_29 X _ _ _ _ _ _ _ _ _ _ _ hf hI (lv_sub hl [1, 2, 3, 0] rfl)
  · have hf := g_f c19 hf
    refine lv_iconst (v := (0 : Int32)) hx hb dX1_span_22 (by decide) ?_
    refine lv_goto (tgt := 29) hx hb dX1_span_23 (by decide) ?_
    exact b_X1_span_29 X _ _ _ _ _ _ _ _ _ _ _ hf hI (lv_sub hl [1, 2, 3, 0] rfl)
/-! X0_span -/
def f_X0_span (a0 : Nat) (x1 : Int32) (x2 : Int32) (a3 : Nat) : gM Int32 :=
    gB (gCk a0 0) fun _ =>
    gB (f_X1_span a0 x1 x2) fun r9 => match r9 with
    | .inl r1 => (gB (gSI a3 2 (0 : Int32) (r1)) fun _ =>
    (gRet (0 : Int32)))
    | .inr x9 => (gIf (x9.1 = 17)
    ((gRet (1 : Int32)))
    (gFail))
set_option maxHeartbeats 4000000 in
set_option maxRecDepth 100000 in
theorem m_X0_span {G : gG} {l : Launch} (hfl : l.stackTraces = false) {a0 : Nat} {x1 : Int32} {x2 : Int32} {a3 : Nat} {h h' : g_H} {r : Int32} (hf : (f_X0_span a0 x1 x2 a3).1 h = some (r, h')) : gMet G l yX0_span (Cond.codeWith yX0_span cX0_span 5 (some .int) [(0, 10, 13, 13)]) 104 1942 [.ref a0, .int x1, .int x2, .ref a3] h (.inl (g_wI r)) h' := by
  refine g_headW hfl ((f_X0_span a0 x1 x2 a3).2 h r h' hf) (plainFor_of_name (by decide)) (Nat.le_of_ble_eq_true rfl) (fun p e s m below meth c H locs cells slots ls X hI hl9 => ?_)
  have hl : lv_has ls 5 [(0, .ref a0), (1, .int x1), (2, .int x2), (3, .ref a3)] := hl9
  have hx := X.1
  have hb := X.2.1
  have hown := X.2.2.2.1
  have hts := X.2.2.2.2.1
  unfold f_X0_span at hf
  refine lv_aload_n hx hb dX0_span_0 rfl (lv_at hl 3 rfl) ?_
  refine lv_iconst (v := (0 : Int32)) hx hb dX0_span_1 (by decide) ?_
  refine lv_aload_n hx hb dX0_span_2 rfl (lv_at hl 0 rfl) ?_
  refine lv_iload_n hx hb dX0_span_3 rfl (lv_at hl 1 rfl) ?_
  refine lv_iload_n hx hb dX0_span_4 rfl (lv_at hl 2 rfl) ?_
  obtain ⟨hs, hf⟩ := gCk_b hf
  refine g_cHI hI hf (fun v9 h9 e9 l9 l9' => g_rV X hI l9 l9' ⟨Nat.le_refl _, Nat.le_refl _⟩ (As := [.int x1, .int x2]) (m_X1_span X.2.2.2.2.2.2.2.2.2.2.1 e9) ydX1_span hs rfl rfl q1403 q1404 q1405 q121 q1406 rfl (Nat.le_of_ble_eq_true rfl) (Nat.le_of_ble_eq_true rfl) hl.1 rfl (Nat.le_of_ble_eq_true rfl) dX0_span_5) (fun r1 h H locs cells slots hf hI => ?_) ?_
  · refine lv_i2l hx hb dX0_span_8 rfl ?_
    refine g_si2 X hI hf dX0_span_9 (fun h H locs hf hI => ?_)
    refine lv_goto (tgt := 17) hx hb dX0_span_10 (by decide) ?_
    refine lv_iconst (v := (0 : Int32)) hx hb dX0_span_17 (by decide) ?_
    cases gRet_e hf
    exact g_retI X hI rfl dX0_span_18
  · intro ci9 x9 h H locs cells slots r9 ce9 hf hr9 hI hce hcv hcl
    by_cases k0 : ci9 = 17
    · subst k0
      cases hr9
      have hf := g_t rfl hf
      refine g_catch0 X hI (name := "java/lang/IllegalArgumentException") rfl (by rfl) (by decide) (by decide) q785 q922 hce hcv hcl ?_
      refine lv_astore (lv' := [(4, .ref x9), (0, .ref a0), (1, .int x1), (2, .int x2), (3, .ref a3)]) hx hb dX0_span_13 hl (by decide) rfl (fun ls hl => ?_)
      refine lv_iconst (v := (1 : Int32)) hx hb dX0_span_15 (by decide) ?_
      cases gRet_e hf
      exact g_retI X hI rfl dX0_span_16
    have hf := g_f k0 hf
    exact (gFail_f hf).elim
/-! X8_waits -/
abbrev w_X8_waits_14 (G : gG) (l : Launch) (p : Program) (e : Env) (s : State) (m : MethodId) (args : Array Value) (below : List Frame) (meth : Method) (c : Code) (h0 : g_H) (r : Int32) (h' : g_H) (k : Int32 → gM Int32) : Prop := ∀ (u0 : Int32) (h : g_H) (H : Heap) (locs : List Loc) (cells slots : Nat) (ls : Array Slot), (k u0).1 h = some (r, h') → gI G h0 h H locs cells slots → lv_has ls 2 [] → W p l e (g_rm 3 63 h0 h') s m args below meth c H locs cells slots (gQ G below args s h0 h' (.inl (g_wI r))) (F0 m 14 ls [.int u0])
def f_X8_waits_14 (u0 : Int32) : gM Int32 :=
    gB (gGd (u0 = 0 ∨ u0 = 1)) fun _ =>
    (gRet u0)
set_option maxHeartbeats 4000000 in
set_option maxRecDepth 100000 in
theorem b_X8_waits_14 {G : gG} {l : Launch} {p : Program} {e : Env} {s : State} {m : MethodId} {args : Array Value} {below : List Frame} {meth : Method} {c : Code} {h0 : g_H} {r : Int32} {h' : g_H} (X : gX G l yX8_waits.cls cX8_waits 2 (some .boolean) [] yX8_waits.name p s m args meth c) : w_X8_waits_14 G l p e s m args below meth c h0 r h' (f_X8_waits_14) := by
  have hx := X.1
  have hb := X.2.1
  have hown := X.2.2.2.1
  have hts := X.2.2.2.2.1
  intro u0 h H locs cells slots ls hf hI hl
  unfold f_X8_waits_14 at hf
  obtain ⟨hz, hf⟩ := gB_gd hf
  cases gRet_e hf
  exact g_retZ X hI hz rfl dX8_waits_14
def f_X8_waits (a0 : Nat) (x1 : Int32) : gM Int32 :=
    gB (gCk a0 7) fun _ =>
    gB (f_X8_of a0 x1 (3 : Int32)) fun r1 =>
    gIf (r1 = 0)
    (f_X8_waits_14 (1 : Int32))
    (f_X8_waits_14 (0 : Int32))
set_option maxHeartbeats 4000000 in
set_option maxRecDepth 100000 in
theorem m_X8_waits {G : gG} {l : Launch} (hfl : l.stackTraces = false) {a0 : Nat} {x1 : Int32} {h h' : g_H} {r : Int32} (hf : (f_X8_waits a0 x1).1 h = some (r, h')) : gMet G l yX8_waits (Cond.code yX8_waits cX8_waits 2 (some .boolean)) 3 63 [.ref a0, .int x1] h (.inl (g_wI r)) h' := by
  refine g_head hfl ((f_X8_waits a0 x1).2 h r h' hf) (plainFor_of_name (by decide)) (Nat.le_of_ble_eq_true rfl) (fun p e s m below meth c H locs cells slots ls X hI hl9 => ?_)
  have hl : lv_has ls 2 [(0, .ref a0), (1, .int x1)] := hl9
  have hx := X.1
  have hb := X.2.1
  have hown := X.2.2.2.1
  have hts := X.2.2.2.2.1
  unfold f_X8_waits at hf
  refine lv_aload_n hx hb dX8_waits_0 rfl (lv_at hl 0 rfl) ?_
  refine lv_iload_n hx hb dX8_waits_1 rfl (lv_at hl 1 rfl) ?_
  refine lv_iconst (v := (3 : Int32)) hx hb dX8_waits_2 (by decide) ?_
  obtain ⟨hs, hf⟩ := gCk_b hf
  refine g_cBI hI hf (fun v9 h9 e9 l9 l9' => g_rV X hI l9 l9' ⟨Nat.le_refl _, Nat.le_refl _⟩ (As := [.int x1, .int (3 : Int32)]) (m_X8_of X.2.2.2.2.2.2.2.2.2.2.1 e9) ydX8_of hs rfl rfl q1767 q1769 qs75 q131 q1770 rfl (Nat.le_of_ble_eq_true rfl) (Nat.le_of_ble_eq_true rfl) hl.1 rfl (Nat.le_of_ble_eq_true rfl) dX8_waits_3) (fun r1 h H locs cells slots hf hI => ?_)
  refine lv_if_ne (tgt := 13) hx hb dX8_waits_6 (by decide) (fun c6 => ?_) (fun c6 => ?_)
  · have hf := g_f c6 hf
    refine lv_iconst (v := (0 : Int32)) hx hb dX8_waits_13 (by decide) ?_
    exact b_X8_waits_14 X _ _ _ _ _ _ _ hf hI (lv_sub hl [] rfl)
  · have hf := g_t c6 hf
    refine lv_iconst (v := (1 : Int32)) hx hb dX8_waits_9 (by decide) ?_
    refine lv_goto (tgt := 14) hx hb dX8_waits_10 (by decide) ?_
    exact b_X8_waits_14 X _ _ _ _ _ _ _ hf hI (lv_sub hl [] rfl)
/-! X8_looksAt -/
def f_X8_looksAt (a0 : Nat) (x1 : Int32) : gM Unit :=
    gB (gCk a0 7) fun _ =>
    gB (f_X8_of a0 x1 (0 : Int32)) fun r1 =>
    gB (gPI a0 7 18 r1) fun _ =>
    gB (gCk a0 7) fun _ =>
    gB (f_X8_of a0 x1 (1 : Int32)) fun r2 =>
    gB (gPI a0 7 19 r2) fun _ =>
    gB (gCk a0 7) fun _ =>
    gB (f_X8_of a0 x1 (2 : Int32)) fun r3 =>
    gB (gPI a0 7 20 r3) fun _ =>
    gRet ()
set_option maxHeartbeats 4000000 in
set_option maxRecDepth 100000 in
theorem m_X8_looksAt {G : gG} {l : Launch} (hfl : l.stackTraces = false) {a0 : Nat} {x1 : Int32} {h h' : g_H} {r : Unit} (hf : (f_X8_looksAt a0 x1).1 h = some (r, h')) : gMet G l yX8_looksAt (Cond.code yX8_looksAt cX8_looksAt 2 none) 3 63 [.ref a0, .int x1] h (.inl (g_wU r)) h' := by
  refine g_head hfl ((f_X8_looksAt a0 x1).2 h r h' hf) (plainFor_of_name (by decide)) (Nat.le_of_ble_eq_true rfl) (fun p e s m below meth c H locs cells slots ls X hI hl9 => ?_)
  have hl : lv_has ls 2 [(0, .ref a0), (1, .int x1)] := hl9
  have hx := X.1
  have hb := X.2.1
  have hown := X.2.2.2.1
  have hts := X.2.2.2.2.1
  unfold f_X8_looksAt at hf
  refine lv_aload_n hx hb dX8_looksAt_0 rfl (lv_at hl 0 rfl) ?_
  refine lv_aload_n hx hb dX8_looksAt_1 rfl (lv_at hl 0 rfl) ?_
  refine lv_iload_n hx hb dX8_looksAt_2 rfl (lv_at hl 1 rfl) ?_
  refine lv_iconst (v := (0 : Int32)) hx hb dX8_looksAt_3 (by decide) ?_
  obtain ⟨hs, hf⟩ := gCk_b hf
  refine g_cBI hI hf (fun v9 h9 e9 l9 l9' => g_rV X hI l9 l9' ⟨Nat.le_refl _, Nat.le_refl _⟩ (As := [.int x1, .int (0 : Int32)]) (m_X8_of X.2.2.2.2.2.2.2.2.2.2.1 e9) ydX8_of hs rfl rfl q1767 q1769 qs75 q131 q1770 rfl (Nat.le_of_ble_eq_true rfl) (Nat.le_of_ble_eq_true rfl) hl.1 rfl (Nat.le_of_ble_eq_true rfl) dX8_looksAt_4) (fun r1 h H locs cells slots hf hI => ?_)
  refine g_pi X hI hf fX8_18 q1462 rfl dX8_looksAt_7 (fun h H locs hf hI => ?_)
  refine lv_aload_n hx hb dX8_looksAt_10 rfl (lv_at hl 0 rfl) ?_
  refine lv_aload_n hx hb dX8_looksAt_11 rfl (lv_at hl 0 rfl) ?_
  refine lv_iload_n hx hb dX8_looksAt_12 rfl (lv_at hl 1 rfl) ?_
  refine lv_iconst (v := (1 : Int32)) hx hb dX8_looksAt_13 (by decide) ?_
  obtain ⟨hs, hf⟩ := gCk_b hf
  refine g_cBI hI hf (fun v9 h9 e9 l9 l9' => g_rV X hI l9 l9' ⟨Nat.le_refl _, Nat.le_refl _⟩ (As := [.int x1, .int (1 : Int32)]) (m_X8_of X.2.2.2.2.2.2.2.2.2.2.1 e9) ydX8_of hs rfl rfl q1767 q1769 qs75 q131 q1770 rfl (Nat.le_of_ble_eq_true rfl) (Nat.le_of_ble_eq_true rfl) hl.1 rfl (Nat.le_of_ble_eq_true rfl) dX8_looksAt_14) (fun r2 h H locs cells slots hf hI => ?_)
  refine g_pi X hI hf fX8_19 q1463 rfl dX8_looksAt_17 (fun h H locs hf hI => ?_)
  refine lv_aload_n hx hb dX8_looksAt_20 rfl (lv_at hl 0 rfl) ?_
  refine lv_aload_n hx hb dX8_looksAt_21 rfl (lv_at hl 0 rfl) ?_
  refine lv_iload_n hx hb dX8_looksAt_22 rfl (lv_at hl 1 rfl) ?_
  refine lv_iconst (v := (2 : Int32)) hx hb dX8_looksAt_23 (by decide) ?_
  obtain ⟨hs, hf⟩ := gCk_b hf
  refine g_cBI hI hf (fun v9 h9 e9 l9 l9' => g_rV X hI l9 l9' ⟨Nat.le_refl _, Nat.le_refl _⟩ (As := [.int x1, .int (2 : Int32)]) (m_X8_of X.2.2.2.2.2.2.2.2.2.2.1 e9) ydX8_of hs rfl rfl q1767 q1769 qs75 q131 q1770 rfl (Nat.le_of_ble_eq_true rfl) (Nat.le_of_ble_eq_true rfl) hl.1 rfl (Nat.le_of_ble_eq_true rfl) dX8_looksAt_24) (fun r3 h H locs cells slots hf hI => ?_)
  refine g_pi X hI hf fX8_20 q1464 rfl dX8_looksAt_27 (fun h H locs hf hI => ?_)
  cases gRet_e hf
  exact g_retU X hI rfl dX8_looksAt_30
/-! X8_begins -/
def f_X8_begins (a0 : Nat) : gM Unit :=
    gB (gPI a0 7 28 (-1 : Int32)) fun _ =>
    gB (gPI a0 7 29 (0 : Int32)) fun _ =>
    gB (gPI a0 7 30 (0 : Int32)) fun _ =>
    gRet ()
set_option maxHeartbeats 4000000 in
set_option maxRecDepth 100000 in
theorem m_X8_begins {G : gG} {l : Launch} (hfl : l.stackTraces = false) {a0 : Nat} {h h' : g_H} {r : Unit} (hf : (f_X8_begins a0).1 h = some (r, h')) : gMet G l yX8_begins (Cond.code yX8_begins cX8_begins 1 none) 1 20 [.ref a0] h (.inl (g_wU r)) h' := by
  refine g_head hfl ((f_X8_begins a0).2 h r h' hf) (plainFor_of_name (by decide)) (Nat.le_of_ble_eq_true rfl) (fun p e s m below meth c H locs cells slots ls X hI hl9 => ?_)
  have hl : lv_has ls 1 [(0, .ref a0)] := hl9
  have hx := X.1
  have hb := X.2.1
  have hown := X.2.2.2.1
  have hts := X.2.2.2.2.1
  unfold f_X8_begins at hf
  refine lv_aload_n hx hb dX8_begins_0 rfl (lv_at hl 0 rfl) ?_
  refine lv_iconst (v := (-1 : Int32)) hx hb dX8_begins_1 (by decide) ?_
  refine g_pi X hI hf fX8_28 q1472 rfl dX8_begins_2 (fun h H locs hf hI => ?_)
  refine lv_aload_n hx hb dX8_begins_5 rfl (lv_at hl 0 rfl) ?_
  refine lv_iconst (v := (0 : Int32)) hx hb dX8_begins_6 (by decide) ?_
  refine g_pi X hI hf fX8_29 q1473 rfl dX8_begins_7 (fun h H locs hf hI => ?_)
  refine lv_aload_n hx hb dX8_begins_10 rfl (lv_at hl 0 rfl) ?_
  refine lv_iconst (v := (0 : Int32)) hx hb dX8_begins_11 (by decide) ?_
  refine g_pi X hI hf fX8_30 q1474 rfl dX8_begins_12 (fun h H locs hf hI => ?_)
  cases gRet_e hf
  exact g_retU X hI rfl dX8_begins_15
/-! X8_has -/
abbrev w_X8_has_14 (G : gG) (l : Launch) (p : Program) (e : Env) (s : State) (m : MethodId) (args : Array Value) (below : List Frame) (meth : Method) (c : Code) (h0 : g_H) (r : Int32) (h' : g_H) (k : Int32 → gM Int32) : Prop := ∀ (u0 : Int32) (h : g_H) (H : Heap) (locs : List Loc) (cells slots : Nat) (ls : Array Slot), (k u0).1 h = some (r, h') → gI G h0 h H locs cells slots → lv_has ls 2 [] → W p l e (g_rm 1 20 h0 h') s m args below meth c H locs cells slots (gQ G below args s h0 h' (.inl (g_wI r))) (F0 m 14 ls [.int u0])
def f_X8_has_14 (u0 : Int32) : gM Int32 :=
    gB (gGd (u0 = 0 ∨ u0 = 1)) fun _ =>
    (gRet u0)
set_option maxHeartbeats 4000000 in
set_option maxRecDepth 100000 in
theorem b_X8_has_14 {G : gG} {l : Launch} {p : Program} {e : Env} {s : State} {m : MethodId} {args : Array Value} {below : List Frame} {meth : Method} {c : Code} {h0 : g_H} {r : Int32} {h' : g_H} (X : gX G l yX8_has.cls cX8_has 2 (some .boolean) [] yX8_has.name p s m args meth c) : w_X8_has_14 G l p e s m args below meth c h0 r h' (f_X8_has_14) := by
  have hx := X.1
  have hb := X.2.1
  have hown := X.2.2.2.1
  have hts := X.2.2.2.2.1
  intro u0 h H locs cells slots ls hf hI hl
  unfold f_X8_has_14 at hf
  obtain ⟨hz, hf⟩ := gB_gd hf
  cases gRet_e hf
  exact g_retZ X hI hz rfl dX8_has_14
def f_X8_has (x0 : Int32) (x1 : Int32) : gM Int32 :=
    gIf (((x0 >>> (x1 &&& 31)) &&& (1 : Int32)) = (1 : Int32))
    (f_X8_has_14 (1 : Int32))
    (f_X8_has_14 (0 : Int32))
set_option maxHeartbeats 4000000 in
set_option maxRecDepth 100000 in
theorem m_X8_has {G : gG} {l : Launch} (hfl : l.stackTraces = false) {x0 : Int32} {x1 : Int32} {h h' : g_H} {r : Int32} (hf : (f_X8_has x0 x1).1 h = some (r, h')) : gMet G l yX8_has (Cond.code yX8_has cX8_has 2 (some .boolean)) 1 20 [.int x0, .int x1] h (.inl (g_wI r)) h' := by
  refine g_head hfl ((f_X8_has x0 x1).2 h r h' hf) (plainFor_of_name (by decide)) (Nat.le_of_ble_eq_true rfl) (fun p e s m below meth c H locs cells slots ls X hI hl9 => ?_)
  have hl : lv_has ls 2 [(0, .int x0), (1, .int x1)] := hl9
  have hx := X.1
  have hb := X.2.1
  have hown := X.2.2.2.1
  have hts := X.2.2.2.2.1
  unfold f_X8_has at hf
  refine lv_iload_n hx hb dX8_has_0 rfl (lv_at hl 0 rfl) ?_
  refine lv_iload_n hx hb dX8_has_1 rfl (lv_at hl 1 rfl) ?_
  refine lv_ishr hx hb dX8_has_2 ?_
  refine lv_iconst (v := (1 : Int32)) hx hb dX8_has_3 (by decide) ?_
  refine lv_iand hx hb dX8_has_4 ?_
  refine lv_iconst (v := (1 : Int32)) hx hb dX8_has_5 (by decide) ?_
  refine lv_icmp_ne (tgt := 13) hx hb dX8_has_6 (by decide) (fun c6 => ?_) (fun c6 => ?_)
  · have hf := g_f c6 hf
    refine lv_iconst (v := (0 : Int32)) hx hb dX8_has_13 (by decide) ?_
    exact b_X8_has_14 X _ _ _ _ _ _ _ hf hI (lv_sub hl [] rfl)
  · have hf := g_t c6 hf
    refine lv_iconst (v := (1 : Int32)) hx hb dX8_has_9 (by decide) ?_
    refine lv_goto (tgt := 14) hx hb dX8_has_10 (by decide) ?_
    exact b_X8_has_14 X _ _ _ _ _ _ _ hf hI (lv_sub hl [] rfl)
/-! X8_propOnTheWay -/
abbrev w_X8_propOnTheWay_27 (G : gG) (l : Launch) (p : Program) (e : Env) (s : State) (m : MethodId) (args : Array Value) (below : List Frame) (meth : Method) (c : Code) (h0 : g_H) (r : Int32) (h' : g_H) (k : Int32 → gM Int32) : Prop := ∀ (u0 : Int32) (h : g_H) (H : Heap) (locs : List Loc) (cells slots : Nat) (ls : Array Slot), (k u0).1 h = some (r, h') → gI G h0 h H locs cells slots → lv_has ls 3 [] → W p l e (g_rm 4 85 h0 h') s m args below meth c H locs cells slots (gQ G below args s h0 h' (.inl (g_wI r))) (F0 m 27 ls [.int u0])
abbrev w_X8_propOnTheWay_26 (G : gG) (l : Launch) (p : Program) (e : Env) (s : State) (m : MethodId) (args : Array Value) (below : List Frame) (meth : Method) (c : Code) (h0 : g_H) (r : Int32) (h' : g_H) (k : Int32 → gM Int32) : Prop := ∀ (x2 : Int32) (h : g_H) (H : Heap) (locs : List Loc) (cells slots : Nat) (ls : Array Slot), (k x2).1 h = some (r, h') → gI G h0 h H locs cells slots → lv_has ls 3 [(2, .int x2)] → W p l e (g_rm 4 85 h0 h') s m args below meth c H locs cells slots (gQ G below args s h0 h' (.inl (g_wI r))) (F0 m 26 ls [])
def f_X8_propOnTheWay_27 (u0 : Int32) : gM Int32 :=
    (gRet u0)
set_option maxHeartbeats 4000000 in
set_option maxRecDepth 100000 in
theorem b_X8_propOnTheWay_27 {G : gG} {l : Launch} {p : Program} {e : Env} {s : State} {m : MethodId} {args : Array Value} {below : List Frame} {meth : Method} {c : Code} {h0 : g_H} {r : Int32} {h' : g_H} (X : gX G l yX8_propOnTheWay.cls cX8_propOnTheWay 3 (some .int) [] yX8_propOnTheWay.name p s m args meth c) : w_X8_propOnTheWay_27 G l p e s m args below meth c h0 r h' (f_X8_propOnTheWay_27) := by
  have hx := X.1
  have hb := X.2.1
  have hown := X.2.2.2.1
  have hts := X.2.2.2.2.1
  intro u0 h H locs cells slots ls hf hI hl
  unfold f_X8_propOnTheWay_27 at hf
  cases gRet_e hf
  exact g_retI X hI rfl dX8_propOnTheWay_27
def f_X8_propOnTheWay_26 (x2 : Int32) : gM Int32 :=
    f_X8_propOnTheWay_27 x2
set_option maxHeartbeats 4000000 in
set_option maxRecDepth 100000 in
theorem b_X8_propOnTheWay_26 {G : gG} {l : Launch} {p : Program} {e : Env} {s : State} {m : MethodId} {args : Array Value} {below : List Frame} {meth : Method} {c : Code} {h0 : g_H} {r : Int32} {h' : g_H} (X : gX G l yX8_propOnTheWay.cls cX8_propOnTheWay 3 (some .int) [] yX8_propOnTheWay.name p s m args meth c) : w_X8_propOnTheWay_26 G l p e s m args below meth c h0 r h' (f_X8_propOnTheWay_26) := by
  have hx := X.1
  have hb := X.2.1
  have hown := X.2.2.2.1
  have hts := X.2.2.2.2.1
  intro x2 h H locs cells slots ls hf hI hl
  unfold f_X8_propOnTheWay_26 at hf
  refine lv_iload_n hx hb dX8_propOnTheWay_26 rfl (lv_at hl 0 rfl) ?_
  exact b_X8_propOnTheWay_27 X _ _ _ _ _ _ _ hf hI (lv_sub hl [] rfl)
def f_X8_propOnTheWay (a0 : Nat) (x1 : Int32) : gM Int32 :=
    gB (gCk a0 7) fun _ =>
    gB (f_X8_propIn a0 x1) fun r1 =>
    gIf (r1 = (-1 : Int32))
    (f_X8_propOnTheWay_26 r1)
    (gB (gFI a0 7 23) fun v2 =>
    gB (f_X8_has v2 r1) fun r3 =>
    gIf (r3 = 0)
    (f_X8_propOnTheWay_26 r1)
    (f_X8_propOnTheWay_27 (-1 : Int32)))
set_option maxHeartbeats 4000000 in
set_option maxRecDepth 100000 in
theorem m_X8_propOnTheWay {G : gG} {l : Launch} (hfl : l.stackTraces = false) {a0 : Nat} {x1 : Int32} {h h' : g_H} {r : Int32} (hf : (f_X8_propOnTheWay a0 x1).1 h = some (r, h')) : gMet G l yX8_propOnTheWay (Cond.code yX8_propOnTheWay cX8_propOnTheWay 3 (some .int)) 4 85 [.ref a0, .int x1] h (.inl (g_wI r)) h' := by
  refine g_head hfl ((f_X8_propOnTheWay a0 x1).2 h r h' hf) (plainFor_of_name (by decide)) (Nat.le_of_ble_eq_true rfl) (fun p e s m below meth c H locs cells slots ls X hI hl9 => ?_)
  have hl : lv_has ls 3 [(0, .ref a0), (1, .int x1)] := hl9
  have hx := X.1
  have hb := X.2.1
  have hown := X.2.2.2.1
  have hts := X.2.2.2.2.1
  unfold f_X8_propOnTheWay at hf
  refine lv_aload_n hx hb dX8_propOnTheWay_0 rfl (lv_at hl 0 rfl) ?_
  refine lv_iload_n hx hb dX8_propOnTheWay_1 rfl (lv_at hl 1 rfl) ?_
  obtain ⟨hs, hf⟩ := gCk_b hf
  refine g_cBI hI hf (fun v9 h9 e9 l9 l9' => g_rV X hI l9 l9' ⟨Nat.le_refl _, Nat.le_refl _⟩ (As := [.int x1]) (m_X8_propIn X.2.2.2.2.2.2.2.2.2.2.1 e9) ydX8_propIn hs rfl rfl q1655 q1657 qs58 q131 q1658 rfl (Nat.le_of_ble_eq_true rfl) (Nat.le_of_ble_eq_true rfl) hl.1 rfl (Nat.le_of_ble_eq_true rfl) dX8_propOnTheWay_2) (fun r1 h H locs cells slots hf hI => ?_)
  refine lv_istore_n (lv' := [(2, .int r1), (0, .ref a0), (1, .int x1)]) hx hb dX8_propOnTheWay_5 rfl hl (by decide) rfl (fun ls hl => ?_)
  refine lv_iload_n hx hb dX8_propOnTheWay_6 rfl (lv_at hl 0 rfl) ?_
  refine lv_iconst (v := (-1 : Int32)) hx hb dX8_propOnTheWay_7 (by decide) ?_
  refine lv_icmp_eq (tgt := 26) hx hb dX8_propOnTheWay_8 (by decide) (fun c8 => ?_) (fun c8 => ?_)
  · have hf := g_t c8 hf
    exact b_X8_propOnTheWay_26 X _ _ _ _ _ _ _ hf hI (lv_sub hl [0] rfl)
  · have hf := g_f c8 hf
    refine lv_aload_n hx hb dX8_propOnTheWay_11 rfl (lv_at hl 1 rfl) ?_
    refine g_fi X hI hf fX8_23 q1467 rfl rfl dX8_propOnTheWay_12 (fun v2 hf => ?_)
    refine lv_iload_n hx hb dX8_propOnTheWay_15 rfl (lv_at hl 0 rfl) ?_
    refine g_cBI hI hf (fun v9 h9 e9 l9 l9' => g_rS (b := 0) X hI l9 l9' ⟨Nat.le_refl _, Nat.le_refl _⟩ (As := [.int v2, .int r1]) (m_X8_has X.2.2.2.2.2.2.2.2.2.2.1 e9) ydX8_has q1637 q1638 q131 q1639 rfl (Nat.le_of_ble_eq_true rfl) (Nat.le_of_ble_eq_true rfl) hl.1 rfl (Nat.le_of_ble_eq_true rfl) dX8_propOnTheWay_16) (fun r3 h H locs cells slots hf hI => ?_)
    refine lv_if_eq (tgt := 26) hx hb dX8_propOnTheWay_19 (by decide) (fun c19 => ?_) (fun c19 => ?_)
    · have hf := g_t c19 hf
      exact b_X8_propOnTheWay_26 X _ _ _ _ _ _ _ hf hI (lv_sub hl [0] rfl)
    · have hf := g_f c19 hf
      refine lv_iconst (v := (-1 : Int32)) hx hb dX8_propOnTheWay_22 (by decide) ?_
      refine lv_goto (tgt := 27) hx hb dX8_propOnTheWay_23 (by decide) ?_
      exact b_X8_propOnTheWay_27 X _ _ _ _ _ _ _ hf hI (lv_sub hl [] rfl)
/-! X8_calmer -/
def f_X8_calmer (a0 : Nat) (x1 : Int32) : gM Int32 :=
    gB (gFR a0 7 1) fun v1 =>
    gB (gAI v1 0 (5 : Int32)) fun v2 =>
    gB (f_J13_max (0 : Int32) (x1 - v2)) fun r3 =>
    (gRet r3)
set_option maxHeartbeats 4000000 in
set_option maxRecDepth 100000 in
theorem m_X8_calmer {G : gG} {l : Launch} (hfl : l.stackTraces = false) {a0 : Nat} {x1 : Int32} {h h' : g_H} {r : Int32} (hf : (f_X8_calmer a0 x1).1 h = some (r, h')) : gMet G l yX8_calmer (Cond.code yX8_calmer cX8_calmer 2 (some .int)) 2 41 [.ref a0, .int x1] h (.inl (g_wI r)) h' := by
  refine g_head hfl ((f_X8_calmer a0 x1).2 h r h' hf) (plainFor_of_name (by decide)) (Nat.le_of_ble_eq_true rfl) (fun p e s m below meth c H locs cells slots ls X hI hl9 => ?_)
  have hl : lv_has ls 2 [(0, .ref a0), (1, .int x1)] := hl9
  have hx := X.1
  have hb := X.2.1
  have hown := X.2.2.2.1
  have hts := X.2.2.2.2.1
  unfold f_X8_calmer at hf
  refine lv_iconst (v := (0 : Int32)) hx hb dX8_calmer_0 (by decide) ?_
  refine lv_iload_n hx hb dX8_calmer_1 rfl (lv_at hl 1 rfl) ?_
  refine lv_aload_n hx hb dX8_calmer_2 rfl (lv_at hl 0 rfl) ?_
  refine g_fr X hI hf fX8_1 q1445 rfl rfl dX8_calmer_3 (fun v1 hf => ?_)
  refine lv_iconst (v := (5 : Int32)) hx hb dX8_calmer_6 (by decide) ?_
  refine g_ai0 X hI hf dX8_calmer_7 (fun v2 hf => ?_)
  refine lv_isub hx hb dX8_calmer_8 ?_
  refine g_cBI hI hf (fun v9 h9 e9 l9 l9' => g_rS (b := 0) X hI l9 l9' ⟨Nat.le_refl _, Nat.le_refl _⟩ (As := [.int (0 : Int32), .int (x1 - v2)]) (m_J13_max X.2.2.2.2.2.2.2.2.2.2.1 e9) ydJ13_max q1799 q564 q151 q565 rfl (Nat.le_of_ble_eq_true rfl) (Nat.le_of_ble_eq_true rfl) hl.1 rfl (Nat.le_of_ble_eq_true rfl) dX8_calmer_9) (fun r3 h H locs cells slots hf hI => ?_)
  cases gRet_e hf
  exact g_retI X hI rfl dX8_calmer_12
/-! X8_drawn -/
def f_X8_drawn (a0 : Nat) (x1 : Int32) : gM Int32 :=
    gB (gFR a0 7 1) fun v1 =>
    gB (gFR a0 7 1) fun v2 =>
    gB (gAI v2 0 (8 : Int32)) fun v3 =>
    gB (gSI v1 0 (8 : Int32) (((1103515245 : Int32) * v3) + (12345 : Int32))) fun _ =>
    gB (gFR a0 7 1) fun v4 =>
    gB (gAI v4 0 (8 : Int32)) fun v5 =>
    gB (gGd (¬ x1 = 0)) fun _ =>
    (gRet (((v5 >>> ((16 : Int32) &&& 31)) &&& (32767 : Int32)) - ((v5 >>> ((16 : Int32) &&& 31)) &&& (32767 : Int32)) / x1 * x1))
set_option maxHeartbeats 4000000 in
set_option maxRecDepth 100000 in
theorem m_X8_drawn {G : gG} {l : Launch} (hfl : l.stackTraces = false) {a0 : Nat} {x1 : Int32} {h h' : g_H} {r : Int32} (hf : (f_X8_drawn a0 x1).1 h = some (r, h')) : gMet G l yX8_drawn (Cond.code yX8_drawn cX8_drawn 2 (some .int)) 1 20 [.ref a0, .int x1] h (.inl (g_wI r)) h' := by
  refine g_head hfl ((f_X8_drawn a0 x1).2 h r h' hf) (plainFor_of_name (by decide)) (Nat.le_of_ble_eq_true rfl) (fun p e s m below meth c H locs cells slots ls X hI hl9 => ?_)
  have hl : lv_has ls 2 [(0, .ref a0), (1, .int x1)] := hl9
  have hx := X.1
  have hb := X.2.1
  have hown := X.2.2.2.1
  have hts := X.2.2.2.2.1
  unfold f_X8_drawn at hf
  refine lv_aload_n hx hb dX8_drawn_0 rfl (lv_at hl 0 rfl) ?_
  refine g_fr X hI hf fX8_1 q1445 rfl rfl dX8_drawn_1 (fun v1 hf => ?_)
  refine lv_bipush (v := (8 : Int32)) hx hb dX8_drawn_4 (by decide) ?_
  refine lv_ldc (v := (1103515245 : Int32)) hx hb hown (hts _ q1836) dX8_drawn_6 ?_
  refine lv_aload_n hx hb dX8_drawn_8 rfl (lv_at hl 0 rfl) ?_
  refine g_fr X hI hf fX8_1 q1445 rfl rfl dX8_drawn_9 (fun v2 hf => ?_)
  refine lv_bipush (v := (8 : Int32)) hx hb dX8_drawn_12 (by decide) ?_
  refine g_ai0 X hI hf dX8_drawn_14 (fun v3 hf => ?_)
  refine lv_imul hx hb dX8_drawn_15 ?_
  refine lv_sipush (v := (12345 : Int32)) hx hb dX8_drawn_16 (by decide) ?_
  refine lv_iadd hx hb dX8_drawn_19 ?_
  refine g_si0 X hI hf dX8_drawn_20 (fun h H locs hf hI => ?_)
  refine lv_aload_n hx hb dX8_drawn_21 rfl (lv_at hl 0 rfl) ?_
  refine g_fr X hI hf fX8_1 q1445 rfl rfl dX8_drawn_22 (fun v4 hf => ?_)
  refine lv_bipush (v := (8 : Int32)) hx hb dX8_drawn_25 (by decide) ?_
  refine g_ai0 X hI hf dX8_drawn_27 (fun v5 hf => ?_)
  refine lv_bipush (v := (16 : Int32)) hx hb dX8_drawn_28 (by decide) ?_
  refine lv_ishr hx hb dX8_drawn_30 ?_
  refine lv_sipush (v := (32767 : Int32)) hx hb dX8_drawn_31 (by decide) ?_
  refine lv_iand hx hb dX8_drawn_34 ?_
  refine lv_iload_n hx hb dX8_drawn_35 rfl (lv_at hl 1 rfl) ?_
  obtain ⟨hz36, hf⟩ := gB_gd hf
  refine lv_irem hx hb dX8_drawn_36 hz36 ?_
  cases gRet_e hf
  exact g_retI X hI rfl dX8_drawn_37
/-! X8_factOf -/
abbrev w_X8_factOf_112 (G : gG) (l : Launch) (p : Program) (e : Env) (s : State) (m : MethodId) (args : Array Value) (below : List Frame) (meth : Method) (c : Code) (h0 : g_H) (r : Int32) (h' : g_H) (k : Int32 → gM Int32) : Prop := ∀ (u0 : Int32) (h : g_H) (H : Heap) (locs : List Loc) (cells slots : Nat) (ls : Array Slot), (k u0).1 h = some (r, h') → gI G h0 h H locs cells slots → lv_has ls 3 [] → W p l e (g_rm 3 63 h0 h') s m args below meth c H locs cells slots (gQ G below args s h0 h' (.inl (g_wI r))) (F0 m 112 ls [.int u0])
abbrev w_X8_factOf_137 (G : gG) (l : Launch) (p : Program) (e : Env) (s : State) (m : MethodId) (args : Array Value) (below : List Frame) (meth : Method) (c : Code) (h0 : g_H) (r : Int32) (h' : g_H) (k : Int32 → gM Int32) : Prop := ∀ (u0 : Int32) (h : g_H) (H : Heap) (locs : List Loc) (cells slots : Nat) (ls : Array Slot), (k u0).1 h = some (r, h') → gI G h0 h H locs cells slots → lv_has ls 3 [] → W p l e (g_rm 3 63 h0 h') s m args below meth c H locs cells slots (gQ G below args s h0 h' (.inl (g_wI r))) (F0 m 137 ls [.int u0])
def f_X8_factOf_112 (u0 : Int32) : gM Int32 :=
    (gRet u0)
set_option maxHeartbeats 4000000 in
set_option maxRecDepth 100000 in
theorem b_X8_factOf_112 {G : gG} {l : Launch} {p : Program} {e : Env} {s : State} {m : MethodId} {args : Array Value} {below : List Frame} {meth : Method} {c : Code} {h0 : g_H} {r : Int32} {h' : g_H} (X : gX G l yX8_factOf.cls cX8_factOf 3 (some .int) [] yX8_factOf.name p s m args meth c) : w_X8_factOf_112 G l p e s m args below meth c h0 r h' (f_X8_factOf_112) := by
  have hx := X.1
  have hb := X.2.1
  have hown := X.2.2.2.1
  have hts := X.2.2.2.2.1
  intro u0 h H locs cells slots ls hf hI hl
  unfold f_X8_factOf_112 at hf
  cases gRet_e hf
  exact g_retI X hI rfl dX8_factOf_112
def f_X8_factOf_137 (u0 : Int32) : gM Int32 :=
    (gRet u0)
set_option maxHeartbeats 4000000 in
set_option maxRecDepth 100000 in
theorem b_X8_factOf_137 {G : gG} {l : Launch} {p : Program} {e : Env} {s : State} {m : MethodId} {args : Array Value} {below : List Frame} {meth : Method} {c : Code} {h0 : g_H} {r : Int32} {h' : g_H} (X : gX G l yX8_factOf.cls cX8_factOf 3 (some .int) [] yX8_factOf.name p s m args meth c) : w_X8_factOf_137 G l p e s m args below meth c h0 r h' (f_X8_factOf_137) := by
  have hx := X.1
  have hb := X.2.1
  have hown := X.2.2.2.1
  have hts := X.2.2.2.2.1
  intro u0 h H locs cells slots ls hf hI hl
  unfold f_X8_factOf_137 at hf
  cases gRet_e hf
  exact g_retI X hI rfl dX8_factOf_137
def f_X8_factOf (a0 : Nat) (x1 : Int32) (x2 : Int32) : gM Int32 :=
    gIf (x1 = (0 : Int32))
    (gB (gFI a0 7 21) fun v1 =>
    (gRet v1))
    (gIf (x1 = (1 : Int32))
    (gB (gFI a0 7 21) fun v2 =>
    gB (gCk a0 7) fun _ =>
    gB (f_X8_ofProp a0 v2 (3 : Int32)) fun r3 =>
    (gRet r3))
    (gIf (x1 = (2 : Int32))
    (gB (gFI a0 7 21) fun v4 =>
    gB (gCk a0 7) fun _ =>
    gB (f_X8_ofProp a0 v4 (1 : Int32)) fun r5 =>
    (gRet r5))
    (gIf (x1 = (3 : Int32))
    (gB (gFI a0 7 21) fun v6 =>
    gB (gCk a0 7) fun _ =>
    gB (f_X8_ofProp a0 v6 (2 : Int32)) fun r7 =>
    (gRet r7))
    (gIf (x1 = (4 : Int32))
    (gB (gFI a0 7 22) fun v8 =>
    (gRet v8))
    (gIf (x1 = (5 : Int32))
    (gB (gFI a0 7 19) fun v9 =>
    (gRet v9))
    (gIf (x1 = (6 : Int32))
    (gB (gFI a0 7 20) fun v10 =>
    gB (gFI a0 7 21) fun v11 =>
    gB (f_X8_has v10 v11) fun r12 =>
    gIf (r12 = 0)
    (f_X8_factOf_112 (0 : Int32))
    (f_X8_factOf_112 (1 : Int32)))
    (gIf (x1 = (7 : Int32))
    (gB (gFI a0 7 18) fun v13 =>
    gB (gFI a0 7 21) fun v14 =>
    gB (gCk a0 7) fun _ =>
    gB (f_X8_ofProp a0 v14 (0 : Int32)) fun r15 =>
    gB (f_X8_has v13 r15) fun r16 =>
    gIf (r16 = 0)
    (f_X8_factOf_137 (0 : Int32))
    (f_X8_factOf_137 (1 : Int32)))
    ((gRet x2)))))))))
set_option maxHeartbeats 4000000 in
set_option maxRecDepth 100000 in
theorem m_X8_factOf {G : gG} {l : Launch} (hfl : l.stackTraces = false) {a0 : Nat} {x1 : Int32} {x2 : Int32} {h h' : g_H} {r : Int32} (hf : (f_X8_factOf a0 x1 x2).1 h = some (r, h')) : gMet G l yX8_factOf (Cond.code yX8_factOf cX8_factOf 3 (some .int)) 3 63 [.ref a0, .int x1, .int x2] h (.inl (g_wI r)) h' := by
  refine g_head hfl ((f_X8_factOf a0 x1 x2).2 h r h' hf) (plainFor_of_name (by decide)) (Nat.le_of_ble_eq_true rfl) (fun p e s m below meth c H locs cells slots ls X hI hl9 => ?_)
  have hl : lv_has ls 3 [(0, .ref a0), (1, .int x1), (2, .int x2)] := hl9
  have hx := X.1
  have hb := X.2.1
  have hown := X.2.2.2.1
  have hts := X.2.2.2.2.1
  unfold f_X8_factOf at hf
  refine lv_iload_n hx hb dX8_factOf_0 rfl (lv_at hl 1 rfl) ?_
  by_cases c1_0 : x1 = (0 : Int32)
  · have hf := g_t c1_0 hf
    refine g_tsIn (k := (0 : Int32)) (off := 47) (tgt := 48) hx hb c1_0 dX8_factOf_1 (by decide) (by decide) rfl (by decide) ?_
    refine lv_aload_n hx hb dX8_factOf_48 rfl (lv_at hl 0 rfl) ?_
    refine g_fi X hI hf fX8_21 q1465 rfl rfl dX8_factOf_49 (fun v1 hf => ?_)
    cases gRet_e hf
    exact g_retI X hI rfl dX8_factOf_52
  have hf := g_f c1_0 hf
  by_cases c1_1 : x1 = (1 : Int32)
  · have hf := g_t c1_1 hf
    refine g_tsIn (k := (1 : Int32)) (off := 52) (tgt := 53) hx hb c1_1 dX8_factOf_1 (by decide) (by decide) rfl (by decide) ?_
    refine lv_aload_n hx hb dX8_factOf_53 rfl (lv_at hl 0 rfl) ?_
    refine lv_aload_n hx hb dX8_factOf_54 rfl (lv_at hl 0 rfl) ?_
    refine g_fi X hI hf fX8_21 q1465 rfl rfl dX8_factOf_55 (fun v2 hf => ?_)
    refine lv_iconst (v := (3 : Int32)) hx hb dX8_factOf_58 (by decide) ?_
    obtain ⟨hs, hf⟩ := gCk_b hf
    refine g_cBI hI hf (fun v9 h9 e9 l9 l9' => g_rV X hI l9 l9' ⟨Nat.le_refl _, Nat.le_refl _⟩ (As := [.int v2, .int (3 : Int32)]) (m_X8_ofProp X.2.2.2.2.2.2.2.2.2.2.1 e9) ydX8_ofProp hs rfl rfl q1659 q1661 qs59 q131 q1662 rfl (Nat.le_of_ble_eq_true rfl) (Nat.le_of_ble_eq_true rfl) hl.1 rfl (Nat.le_of_ble_eq_true rfl) dX8_factOf_59) (fun r3 h H locs cells slots hf hI => ?_)
    cases gRet_e hf
    exact g_retI X hI rfl dX8_factOf_62
  have hf := g_f c1_1 hf
  by_cases c1_2 : x1 = (2 : Int32)
  · have hf := g_t c1_2 hf
    refine g_tsIn (k := (2 : Int32)) (off := 62) (tgt := 63) hx hb c1_2 dX8_factOf_1 (by decide) (by decide) rfl (by decide) ?_
    refine lv_aload_n hx hb dX8_factOf_63 rfl (lv_at hl 0 rfl) ?_
    refine lv_aload_n hx hb dX8_factOf_64 rfl (lv_at hl 0 rfl) ?_
    refine g_fi X hI hf fX8_21 q1465 rfl rfl dX8_factOf_65 (fun v4 hf => ?_)
    refine lv_iconst (v := (1 : Int32)) hx hb dX8_factOf_68 (by decide) ?_
    obtain ⟨hs, hf⟩ := gCk_b hf
    refine g_cBI hI hf (fun v9 h9 e9 l9 l9' => g_rV X hI l9 l9' ⟨Nat.le_refl _, Nat.le_refl _⟩ (As := [.int v4, .int (1 : Int32)]) (m_X8_ofProp X.2.2.2.2.2.2.2.2.2.2.1 e9) ydX8_ofProp hs rfl rfl q1659 q1661 qs59 q131 q1662 rfl (Nat.le_of_ble_eq_true rfl) (Nat.le_of_ble_eq_true rfl) hl.1 rfl (Nat.le_of_ble_eq_true rfl) dX8_factOf_69) (fun r5 h H locs cells slots hf hI => ?_)
    cases gRet_e hf
    exact g_retI X hI rfl dX8_factOf_72
  have hf := g_f c1_2 hf
  by_cases c1_3 : x1 = (3 : Int32)
  · have hf := g_t c1_3 hf
    refine g_tsIn (k := (3 : Int32)) (off := 72) (tgt := 73) hx hb c1_3 dX8_factOf_1 (by decide) (by decide) rfl (by decide) ?_
    refine lv_aload_n hx hb dX8_factOf_73 rfl (lv_at hl 0 rfl) ?_
    refine lv_aload_n hx hb dX8_factOf_74 rfl (lv_at hl 0 rfl) ?_
    refine g_fi X hI hf fX8_21 q1465 rfl rfl dX8_factOf_75 (fun v6 hf => ?_)
    refine lv_iconst (v := (2 : Int32)) hx hb dX8_factOf_78 (by decide) ?_
    obtain ⟨hs, hf⟩ := gCk_b hf
    refine g_cBI hI hf (fun v9 h9 e9 l9 l9' => g_rV X hI l9 l9' ⟨Nat.le_refl _, Nat.le_refl _⟩ (As := [.int v6, .int (2 : Int32)]) (m_X8_ofProp X.2.2.2.2.2.2.2.2.2.2.1 e9) ydX8_ofProp hs rfl rfl q1659 q1661 qs59 q131 q1662 rfl (Nat.le_of_ble_eq_true rfl) (Nat.le_of_ble_eq_true rfl) hl.1 rfl (Nat.le_of_ble_eq_true rfl) dX8_factOf_79) (fun r7 h H locs cells slots hf hI => ?_)
    cases gRet_e hf
    exact g_retI X hI rfl dX8_factOf_82
  have hf := g_f c1_3 hf
  by_cases c1_4 : x1 = (4 : Int32)
  · have hf := g_t c1_4 hf
    refine g_tsIn (k := (4 : Int32)) (off := 82) (tgt := 83) hx hb c1_4 dX8_factOf_1 (by decide) (by decide) rfl (by decide) ?_
    refine lv_aload_n hx hb dX8_factOf_83 rfl (lv_at hl 0 rfl) ?_
    refine g_fi X hI hf fX8_22 q1466 rfl rfl dX8_factOf_84 (fun v8 hf => ?_)
    cases gRet_e hf
    exact g_retI X hI rfl dX8_factOf_87
  have hf := g_f c1_4 hf
  by_cases c1_5 : x1 = (5 : Int32)
  · have hf := g_t c1_5 hf
    refine g_tsIn (k := (5 : Int32)) (off := 87) (tgt := 88) hx hb c1_5 dX8_factOf_1 (by decide) (by decide) rfl (by decide) ?_
    refine lv_aload_n hx hb dX8_factOf_88 rfl (lv_at hl 0 rfl) ?_
    refine g_fi X hI hf fX8_19 q1463 rfl rfl dX8_factOf_89 (fun v9 hf => ?_)
    cases gRet_e hf
    exact g_retI X hI rfl dX8_factOf_92
  have hf := g_f c1_5 hf
  by_cases c1_6 : x1 = (6 : Int32)
  · have hf := g_t c1_6 hf
    refine g_tsIn (k := (6 : Int32)) (off := 92) (tgt := 93) hx hb c1_6 dX8_factOf_1 (by decide) (by decide) rfl (by decide) ?_
    refine lv_aload_n hx hb dX8_factOf_93 rfl (lv_at hl 0 rfl) ?_
    refine g_fi X hI hf fX8_20 q1464 rfl rfl dX8_factOf_94 (fun v10 hf => ?_)
    refine lv_aload_n hx hb dX8_factOf_97 rfl (lv_at hl 0 rfl) ?_
    refine g_fi X hI hf fX8_21 q1465 rfl rfl dX8_factOf_98 (fun v11 hf => ?_)
    refine g_cBI hI hf (fun v9 h9 e9 l9 l9' => g_rS (b := 0) X hI l9 l9' ⟨Nat.le_refl _, Nat.le_refl _⟩ (As := [.int v10, .int v11]) (m_X8_has X.2.2.2.2.2.2.2.2.2.2.1 e9) ydX8_has q1637 q1638 q131 q1639 rfl (Nat.le_of_ble_eq_true rfl) (Nat.le_of_ble_eq_true rfl) hl.1 rfl (Nat.le_of_ble_eq_true rfl) dX8_factOf_101) (fun r12 h H locs cells slots hf hI => ?_)
    refine lv_if_eq (tgt := 111) hx hb dX8_factOf_104 (by decide) (fun c104 => ?_) (fun c104 => ?_)
    · have hf := g_t c104 hf
      refine lv_iconst (v := (0 : Int32)) hx hb dX8_factOf_111 (by decide) ?_
      exact b_X8_factOf_112 X _ _ _ _ _ _ _ hf hI (lv_sub hl [] rfl)
    · have hf := g_f c104 hf
      refine lv_iconst (v := (1 : Int32)) hx hb dX8_factOf_107 (by decide) ?_
      refine lv_goto (tgt := 112) hx hb dX8_factOf_108 (by decide) ?_
      exact b_X8_factOf_112 X _ _ _ _ _ _ _ hf hI (lv_sub hl [] rfl)
  have hf := g_f c1_6 hf
  by_cases c1_7 : x1 = (7 : Int32)
  · have hf := g_t c1_7 hf
    refine g_tsIn (k := (7 : Int32)) (off := 112) (tgt := 113) hx hb c1_7 dX8_factOf_1 (by decide) (by decide) rfl (by decide) ?_
    refine lv_aload_n hx hb dX8_factOf_113 rfl (lv_at hl 0 rfl) ?_
    refine g_fi X hI hf fX8_18 q1462 rfl rfl dX8_factOf_114 (fun v13 hf => ?_)
    refine lv_aload_n hx hb dX8_factOf_117 rfl (lv_at hl 0 rfl) ?_
    refine lv_aload_n hx hb dX8_factOf_118 rfl (lv_at hl 0 rfl) ?_
    refine g_fi X hI hf fX8_21 q1465 rfl rfl dX8_factOf_119 (fun v14 hf => ?_)
    refine lv_iconst (v := (0 : Int32)) hx hb dX8_factOf_122 (by decide) ?_
    obtain ⟨hs, hf⟩ := gCk_b hf
    refine g_cBI hI hf (fun v9 h9 e9 l9 l9' => g_rV X hI l9 l9' ⟨Nat.le_refl _, Nat.le_refl _⟩ (As := [.int v14, .int (0 : Int32)]) (m_X8_ofProp X.2.2.2.2.2.2.2.2.2.2.1 e9) ydX8_ofProp hs rfl rfl q1659 q1661 qs59 q131 q1662 rfl (Nat.le_of_ble_eq_true rfl) (Nat.le_of_ble_eq_true rfl) hl.1 rfl (Nat.le_of_ble_eq_true rfl) dX8_factOf_123) (fun r15 h H locs cells slots hf hI => ?_)
    refine g_cBI hI hf (fun v9 h9 e9 l9 l9' => g_rS (b := 0) X hI l9 l9' ⟨Nat.le_refl _, Nat.le_refl _⟩ (As := [.int v13, .int r15]) (m_X8_has X.2.2.2.2.2.2.2.2.2.2.1 e9) ydX8_has q1637 q1638 q131 q1639 rfl (Nat.le_of_ble_eq_true rfl) (Nat.le_of_ble_eq_true rfl) hl.1 rfl (Nat.le_of_ble_eq_true rfl) dX8_factOf_126) (fun r16 h H locs cells slots hf hI => ?_)
    refine lv_if_eq (tgt := 136) hx hb dX8_factOf_129 (by decide) (fun c129 => ?_) (fun c129 => ?_)
    · have hf := g_t c129 hf
      refine lv_iconst (v := (0 : Int32)) hx hb dX8_factOf_136 (by decide) ?_
      exact b_X8_factOf_137 X _ _ _ _ _ _ _ hf hI (lv_sub hl [] rfl)
    · have hf := g_f c129 hf
      refine lv_iconst (v := (1 : Int32)) hx hb dX8_factOf_132 (by decide) ?_
      refine lv_goto (tgt := 137) hx hb dX8_factOf_133 (by decide) ?_
      exact b_X8_factOf_137 X _ _ _ _ _ _ _ hf hI (lv_sub hl [] rfl)
  have hf := g_f c1_7 hf
  refine lv_tableOut (tgt := 138) hx hb dX8_factOf_1 (by have := lv_neT c1_0 (a := 0) rfl; have := lv_neT c1_1 (a := 1) rfl; have := lv_neT c1_2 (a := 2) rfl; have := lv_neT c1_3 (a := 3) rfl; have := lv_neT c1_4 (a := 4) rfl; have := lv_neT c1_5 (a := 5) rfl; have := lv_neT c1_6 (a := 6) rfl; have := lv_neT c1_7 (a := 7) rfl; omega) (by decide) ?_
  refine lv_iload_n hx hb dX8_factOf_138 rfl (lv_at hl 2 rfl) ?_
  cases gRet_e hf
  exact g_retI X hI rfl dX8_factOf_139
/-! X8_holdsLine -/
abbrev w_X8_holdsLine_253 (G : gG) (l : Launch) (p : Program) (e : Env) (s : State) (m : MethodId) (args : Array Value) (below : List Frame) (meth : Method) (c : Code) (h0 : g_H) (r : Int32) (h' : g_H) (k : Nat → Int32 → Int32 → Int32 → gM Int32) : Prop := ∀ (a0 : Nat) (x2 : Int32) (x3 : Int32) (x4 : Int32) (h : g_H) (H : Heap) (locs : List Loc) (cells slots : Nat) (ls : Array Slot), (k a0 x2 x3 x4).1 h = some (r, h') → gI G h0 h H locs cells slots → lv_has ls 9 [(0, .ref a0), (2, .int x2), (3, .int x3), (4, .int x4)] → W p l e (g_rm 4 85 h0 h') s m args below meth c H locs cells slots (gQ G below args s h0 h' (.inl (g_wI r))) (F0 m 253 ls [])
abbrev w_X8_holdsLine_252 (G : gG) (l : Launch) (p : Program) (e : Env) (s : State) (m : MethodId) (args : Array Value) (below : List Frame) (meth : Method) (c : Code) (h0 : g_H) (r : Int32) (h' : g_H) (k : Nat → Int32 → Int32 → Int32 → Nat → Int32 → Int32 → gM Int32) : Prop := ∀ (a0 : Nat) (x2 : Int32) (x3 : Int32) (x4 : Int32) (b0 : Nat) (u1 : Int32) (u2 : Int32) (h : g_H) (H : Heap) (locs : List Loc) (cells slots : Nat) (ls : Array Slot), (k a0 x2 x3 x4 b0 u1 u2).1 h = some (r, h') → gI G h0 h H locs cells slots → lv_has ls 9 [(0, .ref a0), (2, .int x2), (3, .int x3), (4, .int x4)] → W p l e (g_rm 4 85 h0 h') s m args below meth c H locs cells slots (gQ G below args s h0 h' (.inl (g_wI r))) (F0 m 252 ls [.int u2, .int u1, .ref b0])
abbrev w_X8_holdsLine_218 (G : gG) (l : Launch) (p : Program) (e : Env) (s : State) (m : MethodId) (args : Array Value) (below : List Frame) (meth : Method) (c : Code) (h0 : g_H) (r : Int32) (h' : g_H) (k : Nat → Int32 → Int32 → Int32 → Int32 → Int32 → Int32 → Int32 → gM Int32) : Prop := ∀ (a0 : Nat) (x2 : Int32) (x3 : Int32) (x4 : Int32) (x5 : Int32) (x6 : Int32) (x7 : Int32) (u0 : Int32) (h : g_H) (H : Heap) (locs : List Loc) (cells slots : Nat) (ls : Array Slot), (k a0 x2 x3 x4 x5 x6 x7 u0).1 h = some (r, h') → gI G h0 h H locs cells slots → lv_has ls 9 [(0, .ref a0), (2, .int x2), (3, .int x3), (4, .int x4), (5, .int x5), (6, .int x6), (7, .int x7)] → W p l e (g_rm 4 85 h0 h') s m args below meth c H locs cells slots (gQ G below args s h0 h' (.inl (g_wI r))) (F0 m 218 ls [.int u0])
abbrev w_X8_holdsLine_278 (G : gG) (l : Launch) (p : Program) (e : Env) (s : State) (m : MethodId) (args : Array Value) (below : List Frame) (meth : Method) (c : Code) (h0 : g_H) (r : Int32) (h' : g_H) (k : Int32 → gM Int32) : Prop := ∀ (u0 : Int32) (h : g_H) (H : Heap) (locs : List Loc) (cells slots : Nat) (ls : Array Slot), (k u0).1 h = some (r, h') → gI G h0 h H locs cells slots → lv_has ls 9 [] → W p l e (g_rm 4 85 h0 h') s m args below meth c H locs cells slots (gQ G below args s h0 h' (.inl (g_wI r))) (F0 m 278 ls [.int u0])
abbrev w_X8_holdsLine_273 (G : gG) (l : Launch) (p : Program) (e : Env) (s : State) (m : MethodId) (args : Array Value) (below : List Frame) (meth : Method) (c : Code) (h0 : g_H) (r : Int32) (h' : g_H) (k : gM Int32) : Prop := ∀ (h : g_H) (H : Heap) (locs : List Loc) (cells slots : Nat) (ls : Array Slot), (k).1 h = some (r, h') → gI G h0 h H locs cells slots → lv_has ls 9 [] → W p l e (g_rm 4 85 h0 h') s m args below meth c H locs cells slots (gQ G below args s h0 h' (.inl (g_wI r))) (F0 m 273 ls [])
abbrev w_X8_holdsLine_259 (G : gG) (l : Launch) (p : Program) (e : Env) (s : State) (m : MethodId) (args : Array Value) (below : List Frame) (meth : Method) (c : Code) (h0 : g_H) (r : Int32) (h' : g_H) (k : Nat → Int32 → gM Int32) : Prop := ∀ (a0 : Nat) (x2 : Int32) (h : g_H) (H : Heap) (locs : List Loc) (cells slots : Nat) (ls : Array Slot), (k a0 x2).1 h = some (r, h') → gI G h0 h H locs cells slots → lv_has ls 9 [(0, .ref a0), (2, .int x2)] → W p l e (g_rm 4 85 h0 h') s m args below meth c H locs cells slots (gQ G below args s h0 h' (.inl (g_wI r))) (F0 m 259 ls [])
abbrev w_X8_holdsLine_20 (G : gG) (l : Launch) (p : Program) (e : Env) (s : State) (m : MethodId) (args : Array Value) (below : List Frame) (meth : Method) (c : Code) (h0 : g_H) (r : Int32) (h' : g_H) (k : Nat → Int32 → Int32 → Int32 → gM Int32) : Prop := ∀ (a0 : Nat) (x2 : Int32) (x3 : Int32) (x4 : Int32) (h : g_H) (H : Heap) (locs : List Loc) (cells slots : Nat) (ls : Array Slot), (k a0 x2 x3 x4).1 h = some (r, h') → gI G h0 h H locs cells slots → lv_has ls 9 [(0, .ref a0), (2, .int x2), (3, .int x3), (4, .int x4)] → W p l e (g_rm 4 85 h0 h') s m args below meth c H locs cells slots (gQ G below args s h0 h' (.inl (g_wI r))) (F0 m 20 ls [])
def f_X8_holdsLine_253 (k20 : Nat → Int32 → Int32 → Int32 → gM Int32) (a0 : Nat) (x2 : Int32) (x3 : Int32) (x4 : Int32) : gM Int32 :=
    k20 a0 x2 x3 (x4 + (1 : Int32))
set_option maxHeartbeats 4000000 in
set_option maxRecDepth 100000 in
theorem b_X8_holdsLine_253 {G : gG} {l : Launch} {p : Program} {e : Env} {s : State} {m : MethodId} {args : Array Value} {below : List Frame} {meth : Method} {c : Code} {h0 : g_H} {r : Int32} {h' : g_H} (X : gX G l yX8_holdsLine.cls cX8_holdsLine 9 (some .boolean) [] yX8_holdsLine.name p s m args meth c) {k20 : Nat → Int32 → Int32 → Int32 → gM Int32} (K20 : w_X8_holdsLine_20 G l p e s m args below meth c h0 r h' k20) : w_X8_holdsLine_253 G l p e s m args below meth c h0 r h' (f_X8_holdsLine_253 k20) := by
  have hx := X.1
  have hb := X.2.1
  have hown := X.2.2.2.1
  have hts := X.2.2.2.2.1
  intro a0 x2 x3 x4 h H locs cells slots ls hf hI hl
  unfold f_X8_holdsLine_253 at hf
  refine lv_iinc (v := (x4 + (1 : Int32))) (lv' := [(4, .int (x4 + (1 : Int32))), (0, .ref a0), (2, .int x2), (3, .int x3)]) hx hb dX8_holdsLine_253 hl (k := 3) rfl rfl (by decide) rfl (fun ls hl => ?_)
  refine lv_goto (tgt := 20) hx hb dX8_holdsLine_256 (by decide) ?_
  exact K20 _ _ _ _ _ _ _ _ _ _ hf hI (lv_sub hl [1, 2, 3, 0] rfl)
def f_X8_holdsLine_252 (k20 : Nat → Int32 → Int32 → Int32 → gM Int32) (a0 : Nat) (x2 : Int32) (x3 : Int32) (x4 : Int32) (b0 : Nat) (u1 : Int32) (u2 : Int32) : gM Int32 :=
    gB (gSI b0 0 u1 u2) fun _ =>
    f_X8_holdsLine_253 k20 a0 x2 x3 x4
set_option maxHeartbeats 4000000 in
set_option maxRecDepth 100000 in
theorem b_X8_holdsLine_252 {G : gG} {l : Launch} {p : Program} {e : Env} {s : State} {m : MethodId} {args : Array Value} {below : List Frame} {meth : Method} {c : Code} {h0 : g_H} {r : Int32} {h' : g_H} (X : gX G l yX8_holdsLine.cls cX8_holdsLine 9 (some .boolean) [] yX8_holdsLine.name p s m args meth c) {k20 : Nat → Int32 → Int32 → Int32 → gM Int32} (K20 : w_X8_holdsLine_20 G l p e s m args below meth c h0 r h' k20) : w_X8_holdsLine_252 G l p e s m args below meth c h0 r h' (f_X8_holdsLine_252 k20) := by
  have hx := X.1
  have hb := X.2.1
  have hown := X.2.2.2.1
  have hts := X.2.2.2.2.1
  intro a0 x2 x3 x4 b0 u1 u2 h H locs cells slots ls hf hI hl
  unfold f_X8_holdsLine_252 at hf
  refine g_si0 X hI hf dX8_holdsLine_252 (fun h H locs hf hI => ?_)
  exact b_X8_holdsLine_253 X K20 _ _ _ _ _ _ _ _ _ _ hf hI (lv_sub hl [0, 1, 2, 3] rfl)
def f_X8_holdsLine_218 (k20 : Nat → Int32 → Int32 → Int32 → gM Int32) (a0 : Nat) (x2 : Int32) (x3 : Int32) (x4 : Int32) (x5 : Int32) (x6 : Int32) (x7 : Int32) (u0 : Int32) : gM Int32 :=
    gB (gFR a0 7 17) fun v101 =>
    gIf (x5 = (9 : Int32))
    (f_X8_holdsLine_252 k20 a0 x2 x3 x4 v101 (x2 - (1 : Int32)) (x6 + x7))
    (gIf (u0 = 0)
    (f_X8_holdsLine_252 k20 a0 x2 x3 x4 v101 (x2 - (1 : Int32)) (0 : Int32))
    (f_X8_holdsLine_252 k20 a0 x2 x3 x4 v101 (x2 - (1 : Int32)) (1 : Int32)))
set_option maxHeartbeats 4000000 in
set_option maxRecDepth 100000 in
theorem b_X8_holdsLine_218 {G : gG} {l : Launch} {p : Program} {e : Env} {s : State} {m : MethodId} {args : Array Value} {below : List Frame} {meth : Method} {c : Code} {h0 : g_H} {r : Int32} {h' : g_H} (X : gX G l yX8_holdsLine.cls cX8_holdsLine 9 (some .boolean) [] yX8_holdsLine.name p s m args meth c) {k20 : Nat → Int32 → Int32 → Int32 → gM Int32} (K20 : w_X8_holdsLine_20 G l p e s m args below meth c h0 r h' k20) : w_X8_holdsLine_218 G l p e s m args below meth c h0 r h' (f_X8_holdsLine_218 k20) := by
  have hx := X.1
  have hb := X.2.1
  have hown := X.2.2.2.1
  have hts := X.2.2.2.2.1
  intro a0 x2 x3 x4 x5 x6 x7 u0 h H locs cells slots ls hf hI hl
  unfold f_X8_holdsLine_218 at hf
  refine lv_istore (lv' := [(8, .int u0), (0, .ref a0), (2, .int x2), (3, .int x3), (4, .int x4), (5, .int x5), (6, .int x6), (7, .int x7)]) hx hb dX8_holdsLine_218 hl (by decide) rfl (fun ls hl => ?_)
  refine lv_aload_n hx hb dX8_holdsLine_220 rfl (lv_at hl 1 rfl) ?_
  refine g_fr X hI hf fX8_17 q1461 rfl rfl dX8_holdsLine_221 (fun v101 hf => ?_)
  refine lv_iload_n hx hb dX8_holdsLine_224 rfl (lv_at hl 2 rfl) ?_
  refine lv_iconst (v := (1 : Int32)) hx hb dX8_holdsLine_225 (by decide) ?_
  refine lv_isub hx hb dX8_holdsLine_226 ?_
  refine lv_iload hx hb dX8_holdsLine_227 (lv_at hl 5 rfl) ?_
  refine lv_bipush (v := (9 : Int32)) hx hb dX8_holdsLine_229 (by decide) ?_
  refine lv_icmp_ne (tgt := 242) hx hb dX8_holdsLine_231 (by decide) (fun c231 => ?_) (fun c231 => ?_)
  · have hf := g_f c231 hf
    refine lv_iload hx hb dX8_holdsLine_242 (lv_at hl 0 rfl) ?_
    refine lv_if_eq (tgt := 251) hx hb dX8_holdsLine_244 (by decide) (fun c244 => ?_) (fun c244 => ?_)
    · have hf := g_t c244 hf
      refine lv_iconst (v := (0 : Int32)) hx hb dX8_holdsLine_251 (by decide) ?_
      exact b_X8_holdsLine_252 X K20 _ _ _ _ _ _ _ _ _ _ _ _ _ hf hI (lv_sub hl [1, 2, 3, 4] rfl)
    · have hf := g_f c244 hf
      refine lv_iconst (v := (1 : Int32)) hx hb dX8_holdsLine_247 (by decide) ?_
      refine lv_goto (tgt := 252) hx hb dX8_holdsLine_248 (by decide) ?_
      exact b_X8_holdsLine_252 X K20 _ _ _ _ _ _ _ _ _ _ _ _ _ hf hI (lv_sub hl [1, 2, 3, 4] rfl)
  · have hf := g_t c231 hf
    refine lv_iload hx hb dX8_holdsLine_234 (lv_at hl 6 rfl) ?_
    refine lv_iload hx hb dX8_holdsLine_236 (lv_at hl 7 rfl) ?_
    refine lv_iadd hx hb dX8_holdsLine_238 ?_
    refine lv_goto (tgt := 252) hx hb dX8_holdsLine_239 (by decide) ?_
    exact b_X8_holdsLine_252 X K20 _ _ _ _ _ _ _ _ _ _ _ _ _ hf hI (lv_sub hl [1, 2, 3, 4] rfl)
def f_X8_holdsLine_278 (u0 : Int32) : gM Int32 :=
    gB (gGd (u0 = 0 ∨ u0 = 1)) fun _ =>
    (gRet u0)
set_option maxHeartbeats 4000000 in
set_option maxRecDepth 100000 in
theorem b_X8_holdsLine_278 {G : gG} {l : Launch} {p : Program} {e : Env} {s : State} {m : MethodId} {args : Array Value} {below : List Frame} {meth : Method} {c : Code} {h0 : g_H} {r : Int32} {h' : g_H} (X : gX G l yX8_holdsLine.cls cX8_holdsLine 9 (some .boolean) [] yX8_holdsLine.name p s m args meth c) : w_X8_holdsLine_278 G l p e s m args below meth c h0 r h' (f_X8_holdsLine_278) := by
  have hx := X.1
  have hb := X.2.1
  have hown := X.2.2.2.1
  have hts := X.2.2.2.2.1
  intro u0 h H locs cells slots ls hf hI hl
  unfold f_X8_holdsLine_278 at hf
  obtain ⟨hz, hf⟩ := gB_gd hf
  cases gRet_e hf
  exact g_retZ X hI hz rfl dX8_holdsLine_278
def f_X8_holdsLine_273 : gM Int32 :=
    f_X8_holdsLine_278 (1 : Int32)
set_option maxHeartbeats 4000000 in
set_option maxRecDepth 100000 in
theorem b_X8_holdsLine_273 {G : gG} {l : Launch} {p : Program} {e : Env} {s : State} {m : MethodId} {args : Array Value} {below : List Frame} {meth : Method} {c : Code} {h0 : g_H} {r : Int32} {h' : g_H} (X : gX G l yX8_holdsLine.cls cX8_holdsLine 9 (some .boolean) [] yX8_holdsLine.name p s m args meth c) : w_X8_holdsLine_273 G l p e s m args below meth c h0 r h' (f_X8_holdsLine_273) := by
  have hx := X.1
  have hb := X.2.1
  have hown := X.2.2.2.1
  have hts := X.2.2.2.2.1
  intro h H locs cells slots ls hf hI hl
  unfold f_X8_holdsLine_273 at hf
  refine lv_iconst (v := (1 : Int32)) hx hb dX8_holdsLine_273 (by decide) ?_
  refine lv_goto (tgt := 278) hx hb dX8_holdsLine_274 (by decide) ?_
  exact b_X8_holdsLine_278 X _ _ _ _ _ _ _ hf hI (lv_sub hl [] rfl)
def f_X8_holdsLine_259 (a0 : Nat) (x2 : Int32) : gM Int32 :=
    gIf (x2 = 0)
    (f_X8_holdsLine_273)
    (gB (gFR a0 7 17) fun v101 =>
    gB (gAI v101 0 (0 : Int32)) fun v102 =>
    gIf (v102 = (1 : Int32))
    (f_X8_holdsLine_273)
    (f_X8_holdsLine_278 (0 : Int32)))
set_option maxHeartbeats 4000000 in
set_option maxRecDepth 100000 in
theorem b_X8_holdsLine_259 {G : gG} {l : Launch} {p : Program} {e : Env} {s : State} {m : MethodId} {args : Array Value} {below : List Frame} {meth : Method} {c : Code} {h0 : g_H} {r : Int32} {h' : g_H} (X : gX G l yX8_holdsLine.cls cX8_holdsLine 9 (some .boolean) [] yX8_holdsLine.name p s m args meth c) : w_X8_holdsLine_259 G l p e s m args below meth c h0 r h' (f_X8_holdsLine_259) := by
  have hx := X.1
  have hb := X.2.1
  have hown := X.2.2.2.1
  have hts := X.2.2.2.2.1
  intro a0 x2 h H locs cells slots ls hf hI hl
  unfold f_X8_holdsLine_259 at hf
  refine lv_iload_n hx hb dX8_holdsLine_259 rfl (lv_at hl 1 rfl) ?_
  refine lv_if_eq (tgt := 273) hx hb dX8_holdsLine_260 (by decide) (fun c260 => ?_) (fun c260 => ?_)
  · have hf := g_t c260 hf
    exact b_X8_holdsLine_273 X _ _ _ _ _ _ hf hI (lv_sub hl [] rfl)
  · have hf := g_f c260 hf
    refine lv_aload_n hx hb dX8_holdsLine_263 rfl (lv_at hl 0 rfl) ?_
    refine g_fr X hI hf fX8_17 q1461 rfl rfl dX8_holdsLine_264 (fun v101 hf => ?_)
    refine lv_iconst (v := (0 : Int32)) hx hb dX8_holdsLine_267 (by decide) ?_
    refine g_ai0 X hI hf dX8_holdsLine_268 (fun v102 hf => ?_)
    refine lv_iconst (v := (1 : Int32)) hx hb dX8_holdsLine_269 (by decide) ?_
    refine lv_icmp_ne (tgt := 277) hx hb dX8_holdsLine_270 (by decide) (fun c270 => ?_) (fun c270 => ?_)
    · have hf := g_f c270 hf
      refine lv_iconst (v := (0 : Int32)) hx hb dX8_holdsLine_277 (by decide) ?_
      exact b_X8_holdsLine_278 X _ _ _ _ _ _ _ hf hI (lv_sub hl [] rfl)
    · have hf := g_t c270 hf
      exact b_X8_holdsLine_273 X _ _ _ _ _ _ hf hI (lv_sub hl [] rfl)
def f_X8_holdsLine_20 : Nat → Nat → Int32 → Int32 → Int32 → gM Int32
  | 0, _, _, _, _ => gFail
  | n + 1, a0, x2, x3, x4 =>
    gB (gFR a0 7 1) fun v101 =>
    gB (gAI v101 0 (x3 + (3 : Int32))) fun v102 =>
    gIf (v102 ≤ x4)
    (f_X8_holdsLine_259 a0 x2)
    (gB (gFR a0 7 1) fun v103 =>
    gB (gAI v103 0 ((354 : Int32) + ((2 : Int32) * x4))) fun v104 =>
    gIf ((8 : Int32) < v104)
    (gIf (v104 = (12 : Int32))
    (gB (gFR a0 7 17) fun v109 =>
    gB (gFR a0 7 17) fun v110 =>
    gB (gAI v110 0 (x2 - (1 : Int32))) fun v111 =>
    gB (gSI v109 0 (x2 - (1 : Int32)) ((1 : Int32) - v111)) fun _ =>
    f_X8_holdsLine_253 (f_X8_holdsLine_20 n) a0 x2 x3 x4)
    (gB (gFR a0 7 17) fun v105 =>
    gB (gAI v105 0 ((x2 + (-1 : Int32)) - (1 : Int32))) fun v106 =>
    gB (gFR a0 7 17) fun v107 =>
    gB (gAI v107 0 (x2 + (-1 : Int32))) fun v108 =>
    gIf (v104 = (10 : Int32))
    (gIf (v108 ≤ v106)
    (f_X8_holdsLine_218 (f_X8_holdsLine_20 n) a0 (x2 + (-1 : Int32)) x3 x4 v104 v106 v108 (0 : Int32))
    (f_X8_holdsLine_218 (f_X8_holdsLine_20 n) a0 (x2 + (-1 : Int32)) x3 x4 v104 v106 v108 (1 : Int32)))
    (gIf (v104 = (11 : Int32))
    (gIf (v106 ≤ v108)
    (f_X8_holdsLine_218 (f_X8_holdsLine_20 n) a0 (x2 + (-1 : Int32)) x3 x4 v104 v106 v108 (0 : Int32))
    (f_X8_holdsLine_218 (f_X8_holdsLine_20 n) a0 (x2 + (-1 : Int32)) x3 x4 v104 v106 v108 (1 : Int32)))
    (gIf (v104 = (13 : Int32))
    (gIf ((v106 + v108) = (2 : Int32))
    (f_X8_holdsLine_218 (f_X8_holdsLine_20 n) a0 (x2 + (-1 : Int32)) x3 x4 v104 v106 v108 (1 : Int32))
    (f_X8_holdsLine_218 (f_X8_holdsLine_20 n) a0 (x2 + (-1 : Int32)) x3 x4 v104 v106 v108 (0 : Int32)))
    (gIf ((v106 + v108) ≤ 0)
    (f_X8_holdsLine_218 (f_X8_holdsLine_20 n) a0 (x2 + (-1 : Int32)) x3 x4 v104 v106 v108 (0 : Int32))
    (f_X8_holdsLine_218 (f_X8_holdsLine_20 n) a0 (x2 + (-1 : Int32)) x3 x4 v104 v106 v108 (1 : Int32)))))))
    (gB (gFR a0 7 17) fun v112 =>
    gB (gFR a0 7 1) fun v113 =>
    gB (gAI v113 0 (((354 : Int32) + ((2 : Int32) * x4)) + (1 : Int32))) fun v114 =>
    gB (gCk a0 7) fun _ =>
    gB (f_X8_factOf a0 v104 v114) fun r115 =>
    gB (gSI v112 0 x2 r115) fun _ =>
    f_X8_holdsLine_253 (f_X8_holdsLine_20 n) a0 (x2 + (1 : Int32)) x3 x4))
set_option maxHeartbeats 4000000 in
set_option maxRecDepth 100000 in
theorem b_X8_holdsLine_20 {G : gG} {l : Launch} {p : Program} {e : Env} {s : State} {m : MethodId} {args : Array Value} {below : List Frame} {meth : Method} {c : Code} {h0 : g_H} {r : Int32} {h' : g_H} (X : gX G l yX8_holdsLine.cls cX8_holdsLine 9 (some .boolean) [] yX8_holdsLine.name p s m args meth c) : ∀ n : Nat, w_X8_holdsLine_20 G l p e s m args below meth c h0 r h' (f_X8_holdsLine_20 n) := by
  have hx := X.1
  have hb := X.2.1
  have hown := X.2.2.2.1
  have hts := X.2.2.2.2.1
  intro n
  induction n with
  | zero =>
    intro a0 x2 x3 x4 h H locs cells slots ls hf hI hl
    exact (gFail_f hf).elim
  | succ n ih =>
    intro a0 x2 x3 x4 h H locs cells slots ls hf hI hl
    rw [f_X8_holdsLine_20] at hf
    refine lv_iload hx hb dX8_holdsLine_20 (lv_at hl 3 rfl) ?_
    refine lv_aload_n hx hb dX8_holdsLine_22 rfl (lv_at hl 0 rfl) ?_
    refine g_fr X hI hf fX8_1 q1445 rfl rfl dX8_holdsLine_23 (fun v101 hf => ?_)
    refine lv_iload_n hx hb dX8_holdsLine_26 rfl (lv_at hl 2 rfl) ?_
    refine lv_iconst (v := (3 : Int32)) hx hb dX8_holdsLine_27 (by decide) ?_
    refine lv_iadd hx hb dX8_holdsLine_28 ?_
    refine g_ai0 X hI hf dX8_holdsLine_29 (fun v102 hf => ?_)
    refine lv_icmp_ge (tgt := 259) hx hb dX8_holdsLine_30 (by decide) (fun c30 => ?_) (fun c30 => ?_)
    · have hf := g_t c30 hf
      exact b_X8_holdsLine_259 X _ _ _ _ _ _ _ _ hf hI (lv_sub hl [0, 1] rfl)
    · have hf := g_f c30 hf
      refine lv_aload_n hx hb dX8_holdsLine_33 rfl (lv_at hl 0 rfl) ?_
      refine g_fr X hI hf fX8_1 q1445 rfl rfl dX8_holdsLine_34 (fun v103 hf => ?_)
      refine lv_sipush (v := (354 : Int32)) hx hb dX8_holdsLine_37 (by decide) ?_
      refine lv_iconst (v := (2 : Int32)) hx hb dX8_holdsLine_40 (by decide) ?_
      refine lv_iload hx hb dX8_holdsLine_41 (lv_at hl 3 rfl) ?_
      refine lv_imul hx hb dX8_holdsLine_43 ?_
      refine lv_iadd hx hb dX8_holdsLine_44 ?_
      refine g_ai0 X hI hf dX8_holdsLine_45 (fun v104 hf => ?_)
      refine lv_istore (lv' := [(5, .int v104), (0, .ref a0), (2, .int x2), (3, .int x3), (4, .int x4)]) hx hb dX8_holdsLine_46 hl (by decide) rfl (fun ls hl => ?_)
      refine lv_iload hx hb dX8_holdsLine_48 (lv_at hl 0 rfl) ?_
      refine lv_bipush (v := (8 : Int32)) hx hb dX8_holdsLine_50 (by decide) ?_
      refine lv_icmp_gt (tgt := 88) hx hb dX8_holdsLine_52 (by decide) (fun c52 => ?_) (fun c52 => ?_)
      · have hf := g_t c52 hf
        refine lv_iload hx hb dX8_holdsLine_88 (lv_at hl 0 rfl) ?_
        refine lv_bipush (v := (12 : Int32)) hx hb dX8_holdsLine_90 (by decide) ?_
        refine lv_icmp_ne (tgt := 116) hx hb dX8_holdsLine_92 (by decide) (fun c92 => ?_) (fun c92 => ?_)
        · have hf := g_f c92 hf
          refine lv_iinc (v := (x2 + (-1 : Int32))) (lv' := [(2, .int (x2 + (-1 : Int32))), (5, .int v104), (0, .ref a0), (3, .int x3), (4, .int x4)]) hx hb dX8_holdsLine_116 hl (k := 2) rfl rfl (by decide) rfl (fun ls hl => ?_)
          refine lv_aload_n hx hb dX8_holdsLine_119 rfl (lv_at hl 2 rfl) ?_
          refine g_fr X hI hf fX8_17 q1461 rfl rfl dX8_holdsLine_120 (fun v105 hf => ?_)
          refine lv_iload_n hx hb dX8_holdsLine_123 rfl (lv_at hl 0 rfl) ?_
          refine lv_iconst (v := (1 : Int32)) hx hb dX8_holdsLine_124 (by decide) ?_
          refine lv_isub hx hb dX8_holdsLine_125 ?_
          refine g_ai0 X hI hf dX8_holdsLine_126 (fun v106 hf => ?_)
          refine lv_istore (lv' := [(6, .int v106), (2, .int (x2 + (-1 : Int32))), (5, .int v104), (0, .ref a0), (3, .int x3), (4, .int x4)]) hx hb dX8_holdsLine_127 hl (by decide) rfl (fun ls hl => ?_)
          refine lv_aload_n hx hb dX8_holdsLine_129 rfl (lv_at hl 3 rfl) ?_
          refine g_fr X hI hf fX8_17 q1461 rfl rfl dX8_holdsLine_130 (fun v107 hf => ?_)
          refine lv_iload_n hx hb dX8_holdsLine_133 rfl (lv_at hl 1 rfl) ?_
          refine g_ai0 X hI hf dX8_holdsLine_134 (fun v108 hf => ?_)
          refine lv_istore (lv' := [(7, .int v108), (6, .int v106), (2, .int (x2 + (-1 : Int32))), (5, .int v104), (0, .ref a0), (3, .int x3), (4, .int x4)]) hx hb dX8_holdsLine_135 hl (by decide) rfl (fun ls hl => ?_)
          refine lv_iload hx hb dX8_holdsLine_137 (lv_at hl 3 rfl) ?_
          refine lv_bipush (v := (10 : Int32)) hx hb dX8_holdsLine_139 (by decide) ?_
          refine lv_icmp_ne (tgt := 159) hx hb dX8_holdsLine_141 (by decide) (fun c141 => ?_) (fun c141 => ?_)
          · have hf := g_f c141 hf
            refine lv_iload hx hb dX8_holdsLine_159 (lv_at hl 3 rfl) ?_
            refine lv_bipush (v := (11 : Int32)) hx hb dX8_holdsLine_161 (by decide) ?_
            refine lv_icmp_ne (tgt := 181) hx hb dX8_holdsLine_163 (by decide) (fun c163 => ?_) (fun c163 => ?_)
            · have hf := g_f c163 hf
              refine lv_iload hx hb dX8_holdsLine_181 (lv_at hl 3 rfl) ?_
              refine lv_bipush (v := (13 : Int32)) hx hb dX8_holdsLine_183 (by decide) ?_
              refine lv_icmp_ne (tgt := 205) hx hb dX8_holdsLine_185 (by decide) (fun c185 => ?_) (fun c185 => ?_)
              · have hf := g_f c185 hf
                refine lv_iload hx hb dX8_holdsLine_205 (lv_at hl 1 rfl) ?_
                refine lv_iload hx hb dX8_holdsLine_207 (lv_at hl 0 rfl) ?_
                refine lv_iadd hx hb dX8_holdsLine_209 ?_
                refine lv_if_le (tgt := 217) hx hb dX8_holdsLine_210 (by decide) (fun c210 => ?_) (fun c210 => ?_)
                · have hf := g_t c210 hf
                  refine lv_iconst (v := (0 : Int32)) hx hb dX8_holdsLine_217 (by decide) ?_
                  exact b_X8_holdsLine_218 X ih _ _ _ _ _ _ _ _ _ _ _ _ _ _ hf hI (lv_sub hl [4, 2, 5, 6, 3, 1, 0] rfl)
                · have hf := g_f c210 hf
                  refine lv_iconst (v := (1 : Int32)) hx hb dX8_holdsLine_213 (by decide) ?_
                  refine lv_goto (tgt := 218) hx hb dX8_holdsLine_214 (by decide) ?_
                  exact b_X8_holdsLine_218 X ih _ _ _ _ _ _ _ _ _ _ _ _ _ _ hf hI (lv_sub hl [4, 2, 5, 6, 3, 1, 0] rfl)
              · have hf := g_t c185 hf
                refine lv_iload hx hb dX8_holdsLine_188 (lv_at hl 1 rfl) ?_
                refine lv_iload hx hb dX8_holdsLine_190 (lv_at hl 0 rfl) ?_
                refine lv_iadd hx hb dX8_holdsLine_192 ?_
                refine lv_iconst (v := (2 : Int32)) hx hb dX8_holdsLine_193 (by decide) ?_
                refine lv_icmp_ne (tgt := 201) hx hb dX8_holdsLine_194 (by decide) (fun c194 => ?_) (fun c194 => ?_)
                · have hf := g_f c194 hf
                  refine lv_iconst (v := (0 : Int32)) hx hb dX8_holdsLine_201 (by decide) ?_
                  refine lv_goto (tgt := 218) hx hb dX8_holdsLine_202 (by decide) ?_
                  exact b_X8_holdsLine_218 X ih _ _ _ _ _ _ _ _ _ _ _ _ _ _ hf hI (lv_sub hl [4, 2, 5, 6, 3, 1, 0] rfl)
                · have hf := g_t c194 hf
                  refine lv_iconst (v := (1 : Int32)) hx hb dX8_holdsLine_197 (by decide) ?_
                  refine lv_goto (tgt := 218) hx hb dX8_holdsLine_198 (by decide) ?_
                  exact b_X8_holdsLine_218 X ih _ _ _ _ _ _ _ _ _ _ _ _ _ _ hf hI (lv_sub hl [4, 2, 5, 6, 3, 1, 0] rfl)
            · have hf := g_t c163 hf
              refine lv_iload hx hb dX8_holdsLine_166 (lv_at hl 1 rfl) ?_
              refine lv_iload hx hb dX8_holdsLine_168 (lv_at hl 0 rfl) ?_
              refine lv_icmp_le (tgt := 177) hx hb dX8_holdsLine_170 (by decide) (fun c170 => ?_) (fun c170 => ?_)
              · have hf := g_t c170 hf
                refine lv_iconst (v := (0 : Int32)) hx hb dX8_holdsLine_177 (by decide) ?_
                refine lv_goto (tgt := 218) hx hb dX8_holdsLine_178 (by decide) ?_
                exact b_X8_holdsLine_218 X ih _ _ _ _ _ _ _ _ _ _ _ _ _ _ hf hI (lv_sub hl [4, 2, 5, 6, 3, 1, 0] rfl)
              · have hf := g_f c170 hf
                refine lv_iconst (v := (1 : Int32)) hx hb dX8_holdsLine_173 (by decide) ?_
                refine lv_goto (tgt := 218) hx hb dX8_holdsLine_174 (by decide) ?_
                exact b_X8_holdsLine_218 X ih _ _ _ _ _ _ _ _ _ _ _ _ _ _ hf hI (lv_sub hl [4, 2, 5, 6, 3, 1, 0] rfl)
          · have hf := g_t c141 hf
            refine lv_iload hx hb dX8_holdsLine_144 (lv_at hl 1 rfl) ?_
            refine lv_iload hx hb dX8_holdsLine_146 (lv_at hl 0 rfl) ?_
            refine lv_icmp_ge (tgt := 155) hx hb dX8_holdsLine_148 (by decide) (fun c148 => ?_) (fun c148 => ?_)
            · have hf := g_t c148 hf
              refine lv_iconst (v := (0 : Int32)) hx hb dX8_holdsLine_155 (by decide) ?_
              refine lv_goto (tgt := 218) hx hb dX8_holdsLine_156 (by decide) ?_
              exact b_X8_holdsLine_218 X ih _ _ _ _ _ _ _ _ _ _ _ _ _ _ hf hI (lv_sub hl [4, 2, 5, 6, 3, 1, 0] rfl)
            · have hf := g_f c148 hf
              refine lv_iconst (v := (1 : Int32)) hx hb dX8_holdsLine_151 (by decide) ?_
              refine lv_goto (tgt := 218) hx hb dX8_holdsLine_152 (by decide) ?_
              exact b_X8_holdsLine_218 X ih _ _ _ _ _ _ _ _ _ _ _ _ _ _ hf hI (lv_sub hl [4, 2, 5, 6, 3, 1, 0] rfl)
        · have hf := g_t c92 hf
          refine lv_aload_n hx hb dX8_holdsLine_95 rfl (lv_at hl 1 rfl) ?_
          refine g_fr X hI hf fX8_17 q1461 rfl rfl dX8_holdsLine_96 (fun v109 hf => ?_)
          refine lv_iload_n hx hb dX8_holdsLine_99 rfl (lv_at hl 2 rfl) ?_
          refine lv_iconst (v := (1 : Int32)) hx hb dX8_holdsLine_100 (by decide) ?_
          refine lv_isub hx hb dX8_holdsLine_101 ?_
          refine lv_iconst (v := (1 : Int32)) hx hb dX8_holdsLine_102 (by decide) ?_
          refine lv_aload_n hx hb dX8_holdsLine_103 rfl (lv_at hl 1 rfl) ?_
          refine g_fr X hI hf fX8_17 q1461 rfl rfl dX8_holdsLine_104 (fun v110 hf => ?_)
          refine lv_iload_n hx hb dX8_holdsLine_107 rfl (lv_at hl 2 rfl) ?_
          refine lv_iconst (v := (1 : Int32)) hx hb dX8_holdsLine_108 (by decide) ?_
          refine lv_isub hx hb dX8_holdsLine_109 ?_
          refine g_ai0 X hI hf dX8_holdsLine_110 (fun v111 hf => ?_)
          refine lv_isub hx hb dX8_holdsLine_111 ?_
          refine g_si0 X hI hf dX8_holdsLine_112 (fun h H locs hf hI => ?_)
          refine lv_goto (tgt := 253) hx hb dX8_holdsLine_113 (by decide) ?_
          exact b_X8_holdsLine_253 X ih _ _ _ _ _ _ _ _ _ _ hf hI (lv_sub hl [1, 2, 3, 4] rfl)
      · have hf := g_f c52 hf
        refine lv_aload_n hx hb dX8_holdsLine_55 rfl (lv_at hl 1 rfl) ?_
        refine g_fr X hI hf fX8_17 q1461 rfl rfl dX8_holdsLine_56 (fun v112 hf => ?_)
        refine lv_iload_n hx hb dX8_holdsLine_59 rfl (lv_at hl 2 rfl) ?_
        refine lv_aload_n hx hb dX8_holdsLine_60 rfl (lv_at hl 1 rfl) ?_
        refine lv_iload hx hb dX8_holdsLine_61 (lv_at hl 0 rfl) ?_
        refine lv_aload_n hx hb dX8_holdsLine_63 rfl (lv_at hl 1 rfl) ?_
        refine g_fr X hI hf fX8_1 q1445 rfl rfl dX8_holdsLine_64 (fun v113 hf => ?_)
        refine lv_sipush (v := (354 : Int32)) hx hb dX8_holdsLine_67 (by decide) ?_
        refine lv_iconst (v := (2 : Int32)) hx hb dX8_holdsLine_70 (by decide) ?_
        refine lv_iload hx hb dX8_holdsLine_71 (lv_at hl 4 rfl) ?_
        refine lv_imul hx hb dX8_holdsLine_73 ?_
        refine lv_iadd hx hb dX8_holdsLine_74 ?_
        refine lv_iconst (v := (1 : Int32)) hx hb dX8_holdsLine_75 (by decide) ?_
        refine lv_iadd hx hb dX8_holdsLine_76 ?_
        refine g_ai0 X hI hf dX8_holdsLine_77 (fun v114 hf => ?_)
        obtain ⟨hs, hf⟩ := gCk_b hf
        refine g_cBI hI hf (fun v9 h9 e9 l9 l9' => g_rV X hI l9 l9' ⟨Nat.le_refl _, Nat.le_refl _⟩ (As := [.int v104, .int v114]) (m_X8_factOf X.2.2.2.2.2.2.2.2.2.2.1 e9) ydX8_factOf hs rfl rfl q1791 q1793 qs80 q131 q1794 rfl (Nat.le_of_ble_eq_true rfl) (Nat.le_of_ble_eq_true rfl) hl.1 rfl (Nat.le_of_ble_eq_true rfl) dX8_holdsLine_78) (fun r115 h H locs cells slots hf hI => ?_)
        refine g_si0 X hI hf dX8_holdsLine_81 (fun h H locs hf hI => ?_)
        refine lv_iinc (v := (x2 + (1 : Int32))) (lv' := [(2, .int (x2 + (1 : Int32))), (5, .int v104), (0, .ref a0), (3, .int x3), (4, .int x4)]) hx hb dX8_holdsLine_82 hl (k := 2) rfl rfl (by decide) rfl (fun ls hl => ?_)
        refine lv_goto (tgt := 253) hx hb dX8_holdsLine_85 (by decide) ?_
        exact b_X8_holdsLine_253 X ih _ _ _ _ _ _ _ _ _ _ hf hI (lv_sub hl [2, 0, 3, 4] rfl)
def f_X8_holdsLine (a0 : Nat) (x1 : Int32) : gM Int32 :=
    gB (gRet ((306 : Int32) + ((4 : Int32) * x1))) fun v1 =>
    gB (gFR a0 7 1) fun v2 =>
    gB (gAI v2 0 (v1 + (2 : Int32))) fun v3 =>
    f_X8_holdsLine_20 gN a0 (0 : Int32) v1 v3
set_option maxHeartbeats 4000000 in
set_option maxRecDepth 100000 in
theorem m_X8_holdsLine {G : gG} {l : Launch} (hfl : l.stackTraces = false) {a0 : Nat} {x1 : Int32} {h h' : g_H} {r : Int32} (hf : (f_X8_holdsLine a0 x1).1 h = some (r, h')) : gMet G l yX8_holdsLine (Cond.code yX8_holdsLine cX8_holdsLine 9 (some .boolean)) 4 85 [.ref a0, .int x1] h (.inl (g_wI r)) h' := by
  refine g_head hfl ((f_X8_holdsLine a0 x1).2 h r h' hf) (plainFor_of_name (by decide)) (Nat.le_of_ble_eq_true rfl) (fun p e s m below meth c H locs cells slots ls X hI hl9 => ?_)
  have hl : lv_has ls 9 [(0, .ref a0), (1, .int x1)] := hl9
  have hx := X.1
  have hb := X.2.1
  have hown := X.2.2.2.1
  have hts := X.2.2.2.2.1
  unfold f_X8_holdsLine at hf
  refine lv_iconst (v := (0 : Int32)) hx hb dX8_holdsLine_0 (by decide) ?_
  refine lv_istore_n (lv' := [(2, .int (0 : Int32)), (0, .ref a0), (1, .int x1)]) hx hb dX8_holdsLine_1 rfl hl (by decide) rfl (fun ls hl => ?_)
  refine lv_sipush (v := (306 : Int32)) hx hb dX8_holdsLine_2 (by decide) ?_
  refine lv_iconst (v := (4 : Int32)) hx hb dX8_holdsLine_5 (by decide) ?_
  refine lv_iload_n hx hb dX8_holdsLine_6 rfl (lv_at hl 2 rfl) ?_
  refine lv_imul hx hb dX8_holdsLine_7 ?_
  refine lv_iadd hx hb dX8_holdsLine_8 ?_
  refine g_let hf (fun v1 hf => ?_)
  refine lv_istore_n (lv' := [(3, .int v1), (2, .int (0 : Int32)), (0, .ref a0), (1, .int x1)]) hx hb dX8_holdsLine_9 rfl hl (by decide) rfl (fun ls hl => ?_)
  refine lv_aload_n hx hb dX8_holdsLine_10 rfl (lv_at hl 2 rfl) ?_
  refine g_fr X hI hf fX8_1 q1445 rfl rfl dX8_holdsLine_11 (fun v2 hf => ?_)
  refine lv_iload_n hx hb dX8_holdsLine_14 rfl (lv_at hl 0 rfl) ?_
  refine lv_iconst (v := (2 : Int32)) hx hb dX8_holdsLine_15 (by decide) ?_
  refine lv_iadd hx hb dX8_holdsLine_16 ?_
  refine g_ai0 X hI hf dX8_holdsLine_17 (fun v3 hf => ?_)
  refine lv_istore (lv' := [(4, .int v3), (3, .int v1), (2, .int (0 : Int32)), (0, .ref a0), (1, .int x1)]) hx hb dX8_holdsLine_18 hl (by decide) rfl (fun ls hl => ?_)
  exact b_X8_holdsLine_20 X gN _ _ _ _ _ _ _ _ _ _ hf hI (lv_sub hl [3, 2, 1, 0] rfl)
end
