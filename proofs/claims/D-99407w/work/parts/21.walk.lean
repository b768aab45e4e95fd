noncomputable section
/-! X4_be -/
def f_X4_be (a0 : Nat) (a1 : Nat) : gM Unit :=
    gB (gFI a1 3 0) fun v1 =>
    gB (gPI a0 3 0 v1) fun _ =>
    gB (gFI a1 3 1) fun v2 =>
    gB (gPI a0 3 1 v2) fun _ =>
    gB (gFI a1 3 2) fun v3 =>
    gB (gPI a0 3 2 v3) fun _ =>
    gB (gFI a1 3 3) fun v4 =>
    gB (gPI a0 3 3 v4) fun _ =>
    gRet ()
set_option maxHeartbeats 4000000 in
set_option maxRecDepth 100000 in
theorem m_X4_be {G : gG} {l : Launch} (hfl : l.stackTraces = false) {a0 : Nat} {a1 : Nat} {h h' : g_H} {r : Unit} (hf : (f_X4_be a0 a1).1 h = some (r, h')) : gMet G l yX4_be (Cond.code yX4_be cX4_be 2 none) 1 20 [.ref a0, .ref a1] h (.inl (g_wU r)) h' := by
  refine g_head hfl ((f_X4_be a0 a1).2 h r h' hf) (plainFor_of_name (by decide)) (Nat.le_of_ble_eq_true rfl) (fun p e s m below meth c H locs cells slots ls X hI hl9 => ?_)
  have hl : lv_has ls 2 [(0, .ref a0), (1, .ref a1)] := hl9
  have hx := X.1
  have hb := X.2.1
  have hown := X.2.2.2.1
  have hts := X.2.2.2.2.1
  unfold f_X4_be at hf
  refine lv_aload_n hx hb dX4_be_0 rfl (lv_at hl 0 rfl) ?_
  refine lv_aload_n hx hb dX4_be_1 rfl (lv_at hl 1 rfl) ?_
  refine g_fi X hI hf fX4_0 q195 rfl rfl dX4_be_2 (fun v1 hf => ?_)
  refine g_pi X hI hf fX4_0 q195 rfl dX4_be_5 (fun h H locs hf hI => ?_)
  refine lv_aload_n hx hb dX4_be_8 rfl (lv_at hl 0 rfl) ?_
  refine lv_aload_n hx hb dX4_be_9 rfl (lv_at hl 1 rfl) ?_
  refine g_fi X hI hf fX4_1 q199 rfl rfl dX4_be_10 (fun v2 hf => ?_)
  refine g_pi X hI hf fX4_1 q199 rfl dX4_be_13 (fun h H locs hf hI => ?_)
  refine lv_aload_n hx hb dX4_be_16 rfl (lv_at hl 0 rfl) ?_
  refine lv_aload_n hx hb dX4_be_17 rfl (lv_at hl 1 rfl) ?_
  refine g_fi X hI hf fX4_2 q203 rfl rfl dX4_be_18 (fun v3 hf => ?_)
  refine g_pi X hI hf fX4_2 q203 rfl dX4_be_21 (fun h H locs hf hI => ?_)
  refine lv_aload_n hx hb dX4_be_24 rfl (lv_at hl 0 rfl) ?_
  refine lv_aload_n hx hb dX4_be_25 rfl (lv_at hl 1 rfl) ?_
  refine g_fi X hI hf fX4_3 q207 rfl rfl dX4_be_26 (fun v4 hf => ?_)
  refine g_pi X hI hf fX4_3 q207 rfl dX4_be_29 (fun h H locs hf hI => ?_)
  cases gRet_e hf
  exact g_retU X hI rfl dX4_be_32
/-! X5_be -/
def f_X5_be (a0 : Nat) (a1 : Nat) : gM Unit :=
    gB (gFI a1 4 0) fun v1 =>
    gB (gPI a0 4 0 v1) fun _ =>
    gB (gFI a1 4 1) fun v2 =>
    gB (gPI a0 4 1 v2) fun _ =>
    gB (gFI a1 4 2) fun v3 =>
    gB (gPI a0 4 2 v3) fun _ =>
    gB (gFI a1 4 3) fun v4 =>
    gB (gPI a0 4 3 v4) fun _ =>
    gRet ()
set_option maxHeartbeats 4000000 in
set_option maxRecDepth 100000 in
theorem m_X5_be {G : gG} {l : Launch} (hfl : l.stackTraces = false) {a0 : Nat} {a1 : Nat} {h h' : g_H} {r : Unit} (hf : (f_X5_be a0 a1).1 h = some (r, h')) : gMet G l yX5_be (Cond.code yX5_be cX5_be 2 none) 1 20 [.ref a0, .ref a1] h (.inl (g_wU r)) h' := by
  refine g_head hfl ((f_X5_be a0 a1).2 h r h' hf) (plainFor_of_name (by decide)) (Nat.le_of_ble_eq_true rfl) (fun p e s m below meth c H locs cells slots ls X hI hl9 => ?_)
  have hl : lv_has ls 2 [(0, .ref a0), (1, .ref a1)] := hl9
  have hx := X.1
  have hb := X.2.1
  have hown := X.2.2.2.1
  have hts := X.2.2.2.2.1
  unfold f_X5_be at hf
  refine lv_aload_n hx hb dX5_be_0 rfl (lv_at hl 0 rfl) ?_
  refine lv_aload_n hx hb dX5_be_1 rfl (lv_at hl 1 rfl) ?_
  refine g_fi X hI hf fX5_0 q227 rfl rfl dX5_be_2 (fun v1 hf => ?_)
  refine g_pi X hI hf fX5_0 q227 rfl dX5_be_5 (fun h H locs hf hI => ?_)
  refine lv_aload_n hx hb dX5_be_8 rfl (lv_at hl 0 rfl) ?_
  refine lv_aload_n hx hb dX5_be_9 rfl (lv_at hl 1 rfl) ?_
  refine g_fi X hI hf fX5_1 q231 rfl rfl dX5_be_10 (fun v2 hf => ?_)
  refine g_pi X hI hf fX5_1 q231 rfl dX5_be_13 (fun h H locs hf hI => ?_)
  refine lv_aload_n hx hb dX5_be_16 rfl (lv_at hl 0 rfl) ?_
  refine lv_aload_n hx hb dX5_be_17 rfl (lv_at hl 1 rfl) ?_
  refine g_fi X hI hf fX5_2 q236 rfl rfl dX5_be_18 (fun v3 hf => ?_)
  refine g_pi X hI hf fX5_2 q236 rfl dX5_be_21 (fun h H locs hf hI => ?_)
  refine lv_aload_n hx hb dX5_be_24 rfl (lv_at hl 0 rfl) ?_
  refine lv_aload_n hx hb dX5_be_25 rfl (lv_at hl 1 rfl) ?_
  refine g_fi X hI hf fX5_3 q240 rfl rfl dX5_be_26 (fun v4 hf => ?_)
  refine g_pi X hI hf fX5_3 q240 rfl dX5_be_29 (fun h H locs hf hI => ?_)
  cases gRet_e hf
  exact g_retU X hI rfl dX5_be_32
/-! X3_be -/
abbrev w_X3_be_62 (G : gG) (l : Launch) (p : Program) (e : Env) (s : State) (m : MethodId) (args : Array Value) (below : List Frame) (meth : Method) (c : Code) (h0 : g_H) (r : Unit) (h' : g_H) (k : Nat → Nat → gM Unit) : Prop := ∀ (a0 : Nat) (a1 : Nat) (h : g_H) (H : Heap) (locs : List Loc) (cells slots : Nat) (ls : Array Slot), (k a0 a1).1 h = some (r, h') → gI G h0 h H locs cells slots → lv_has ls 3 [(0, .ref a0), (1, .ref a1)] → W p l e (g_rm 2 79 h0 h') s m args below meth c H locs cells slots (gQ G below args s h0 h' (.inl (g_wU r))) (F0 m 62 ls [])
abbrev w_X3_be_33 (G : gG) (l : Launch) (p : Program) (e : Env) (s : State) (m : MethodId) (args : Array Value) (below : List Frame) (meth : Method) (c : Code) (h0 : g_H) (r : Unit) (h' : g_H) (k : Nat → Nat → Int32 → gM Unit) : Prop := ∀ (a0 : Nat) (a1 : Nat) (x2 : Int32) (h : g_H) (H : Heap) (locs : List Loc) (cells slots : Nat) (ls : Array Slot), (k a0 a1 x2).1 h = some (r, h') → gI G h0 h H locs cells slots → lv_has ls 3 [(0, .ref a0), (1, .ref a1), (2, .int x2)] → W p l e (g_rm 2 79 h0 h') s m args below meth c H locs cells slots (gQ G below args s h0 h' (.inl (g_wU r))) (F0 m 33 ls [])
abbrev w_X3_be_31 (G : gG) (l : Launch) (p : Program) (e : Env) (s : State) (m : MethodId) (args : Array Value) (below : List Frame) (meth : Method) (c : Code) (h0 : g_H) (r : Unit) (h' : g_H) (k : Nat → Nat → gM Unit) : Prop := ∀ (a0 : Nat) (a1 : Nat) (h : g_H) (H : Heap) (locs : List Loc) (cells slots : Nat) (ls : Array Slot), (k a0 a1).1 h = some (r, h') → gI G h0 h H locs cells slots → lv_has ls 3 [(0, .ref a0), (1, .ref a1)] → W p l e (g_rm 2 79 h0 h') s m args below meth c H locs cells slots (gQ G below args s h0 h' (.inl (g_wU r))) (F0 m 31 ls [])
abbrev w_X3_be_2 (G : gG) (l : Launch) (p : Program) (e : Env) (s : State) (m : MethodId) (args : Array Value) (below : List Frame) (meth : Method) (c : Code) (h0 : g_H) (r : Unit) (h' : g_H) (k : Nat → Nat → Int32 → gM Unit) : Prop := ∀ (a0 : Nat) (a1 : Nat) (x2 : Int32) (h : g_H) (H : Heap) (locs : List Loc) (cells slots : Nat) (ls : Array Slot), (k a0 a1 x2).1 h = some (r, h') → gI G h0 h H locs cells slots → lv_has ls 3 [(0, .ref a0), (1, .ref a1), (2, .int x2)] → W p l e (g_rm 2 79 h0 h') s m args below meth c H locs cells slots (gQ G below args s h0 h' (.inl (g_wU r))) (F0 m 2 ls [])
def f_X3_be_62 (a0 : Nat) (a1 : Nat) : gM Unit :=
    gB (gFR a1 2 2) fun v101 =>
    gB (gFR a0 2 2) fun v102 =>
    gB (gCpQ v101 (0 : Int32) v102 (0 : Int32) (12 : Int32)) fun _ =>
    gB (gFR a1 2 3) fun v103 =>
    gB (gFR a0 2 3) fun v104 =>
    gB (gCpI v103 (0 : Int32) v104 (0 : Int32) (10 : Int32)) fun _ =>
    gB (gFR a1 2 5) fun v105 =>
    gB (gFR a0 2 5) fun v106 =>
    gB (gCpI v105 (0 : Int32) v106 (0 : Int32) (240 : Int32)) fun _ =>
    gB (gFI a1 2 6) fun v107 =>
    gB (gPI a0 2 6 v107) fun _ =>
    gB (gFI a1 2 7) fun v108 =>
    gB (gPI a0 2 7 v108) fun _ =>
    gB (gFI a1 2 8) fun v109 =>
    gB (gPI a0 2 8 v109) fun _ =>
    gB (gFI a1 2 9) fun v110 =>
    gB (gPI a0 2 9 v110) fun _ =>
    gB (gFI a1 2 10) fun v111 =>
    gB (gPI a0 2 10 v111) fun _ =>
    gB (gFI a1 2 11) fun v112 =>
    gB (gPI a0 2 11 v112) fun _ =>
    gB (gFI a1 2 12) fun v113 =>
    gB (gPI a0 2 12 v113) fun _ =>
    gB (gFI a1 2 13) fun v114 =>
    gB (gPI a0 2 13 v114) fun _ =>
    gB (gFI a1 2 14) fun v115 =>
    gB (gPI a0 2 14 v115) fun _ =>
    gRet ()
set_option maxHeartbeats 4000000 in
set_option maxRecDepth 100000 in
theorem b_X3_be_62 {G : gG} {l : Launch} {p : Program} {e : Env} {s : State} {m : MethodId} {args : Array Value} {below : List Frame} {meth : Method} {c : Code} {h0 : g_H} {r : Unit} {h' : g_H} (X : gX G l yX3_be.cls cX3_be 3 none [] yX3_be.name p s m args meth c) : w_X3_be_62 G l p e s m args below meth c h0 r h' (f_X3_be_62) := by
  have hx := X.1
  have hb := X.2.1
  have hown := X.2.2.2.1
  have hts := X.2.2.2.2.1
  intro a0 a1 h H locs cells slots ls hf hI hl
  unfold f_X3_be_62 at hf
  refine lv_aload_n hx hb dX3_be_62 rfl (lv_at hl 1 rfl) ?_
  refine g_fr X hI hf fX3_2 q259 rfl rfl dX3_be_63 (fun v101 hf => ?_)
  refine lv_iconst (v := (0 : Int32)) hx hb dX3_be_66 (by decide) ?_
  refine lv_aload_n hx hb dX3_be_67 rfl (lv_at hl 0 rfl) ?_
  refine g_fr X hI hf fX3_2 q259 rfl rfl dX3_be_68 (fun v102 hf => ?_)
  refine lv_iconst (v := (0 : Int32)) hx hb dX3_be_71 (by decide) ?_
  refine lv_bipush (v := (12 : Int32)) hx hb dX3_be_72 (by decide) ?_
  refine g_cpQ X hI hf q684 hl.1 (Nat.le_of_ble_eq_true rfl) (Nat.le_trans g_nfw (Nat.le_of_ble_eq_true rfl)) (Nat.le_of_ble_eq_true rfl) dX3_be_74 (fun h H locs hf hI => ?_)
  refine lv_aload_n hx hb dX3_be_77 rfl (lv_at hl 1 rfl) ?_
  refine g_fr X hI hf fX3_3 q261 rfl rfl dX3_be_78 (fun v103 hf => ?_)
  refine lv_iconst (v := (0 : Int32)) hx hb dX3_be_81 (by decide) ?_
  refine lv_aload_n hx hb dX3_be_82 rfl (lv_at hl 0 rfl) ?_
  refine g_fr X hI hf fX3_3 q261 rfl rfl dX3_be_83 (fun v104 hf => ?_)
  refine lv_iconst (v := (0 : Int32)) hx hb dX3_be_86 (by decide) ?_
  refine lv_bipush (v := (10 : Int32)) hx hb dX3_be_87 (by decide) ?_
  refine g_cpI X hI hf q684 hl.1 (Nat.le_of_ble_eq_true rfl) (Nat.le_trans g_nfw (Nat.le_of_ble_eq_true rfl)) (Nat.le_of_ble_eq_true rfl) dX3_be_89 (fun h H locs hf hI => ?_)
  refine lv_aload_n hx hb dX3_be_92 rfl (lv_at hl 1 rfl) ?_
  refine g_fr X hI hf fX3_5 q266 rfl rfl dX3_be_93 (fun v105 hf => ?_)
  refine lv_iconst (v := (0 : Int32)) hx hb dX3_be_96 (by decide) ?_
  refine lv_aload_n hx hb dX3_be_97 rfl (lv_at hl 0 rfl) ?_
  refine g_fr X hI hf fX3_5 q266 rfl rfl dX3_be_98 (fun v106 hf => ?_)
  refine lv_iconst (v := (0 : Int32)) hx hb dX3_be_101 (by decide) ?_
  refine lv_sipush (v := (240 : Int32)) hx hb dX3_be_102 (by decide) ?_
  refine g_cpI X hI hf q684 hl.1 (Nat.le_of_ble_eq_true rfl) (Nat.le_trans g_nfw (Nat.le_of_ble_eq_true rfl)) (Nat.le_of_ble_eq_true rfl) dX3_be_105 (fun h H locs hf hI => ?_)
  refine lv_aload_n hx hb dX3_be_108 rfl (lv_at hl 0 rfl) ?_
  refine lv_aload_n hx hb dX3_be_109 rfl (lv_at hl 1 rfl) ?_
  refine g_fi X hI hf fX3_6 q267 rfl rfl dX3_be_110 (fun v107 hf => ?_)
  refine g_pi X hI hf fX3_6 q267 rfl dX3_be_113 (fun h H locs hf hI => ?_)
  refine lv_aload_n hx hb dX3_be_116 rfl (lv_at hl 0 rfl) ?_
  refine lv_aload_n hx hb dX3_be_117 rfl (lv_at hl 1 rfl) ?_
  refine g_fi X hI hf fX3_7 q270 rfl rfl dX3_be_118 (fun v108 hf => ?_)
  refine g_pi X hI hf fX3_7 q270 rfl dX3_be_121 (fun h H locs hf hI => ?_)
  refine lv_aload_n hx hb dX3_be_124 rfl (lv_at hl 0 rfl) ?_
  refine lv_aload_n hx hb dX3_be_125 rfl (lv_at hl 1 rfl) ?_
  refine g_fi X hI hf fX3_8 q273 rfl rfl dX3_be_126 (fun v109 hf => ?_)
  refine g_pi X hI hf fX3_8 q273 rfl dX3_be_129 (fun h H locs hf hI => ?_)
  refine lv_aload_n hx hb dX3_be_132 rfl (lv_at hl 0 rfl) ?_
  refine lv_aload_n hx hb dX3_be_133 rfl (lv_at hl 1 rfl) ?_
  refine g_fi X hI hf fX3_9 q275 rfl rfl dX3_be_134 (fun v110 hf => ?_)
  refine g_pi X hI hf fX3_9 q275 rfl dX3_be_137 (fun h H locs hf hI => ?_)
  refine lv_aload_n hx hb dX3_be_140 rfl (lv_at hl 0 rfl) ?_
  refine lv_aload_n hx hb dX3_be_141 rfl (lv_at hl 1 rfl) ?_
  refine g_fi X hI hf fX3_10 q277 rfl rfl dX3_be_142 (fun v111 hf => ?_)
  refine g_pi X hI hf fX3_10 q277 rfl dX3_be_145 (fun h H locs hf hI => ?_)
  refine lv_aload_n hx hb dX3_be_148 rfl (lv_at hl 0 rfl) ?_
  refine lv_aload_n hx hb dX3_be_149 rfl (lv_at hl 1 rfl) ?_
  refine g_fi X hI hf fX3_11 q280 rfl rfl dX3_be_150 (fun v112 hf => ?_)
  refine g_pi X hI hf fX3_11 q280 rfl dX3_be_153 (fun h H locs hf hI => ?_)
  refine lv_aload_n hx hb dX3_be_156 rfl (lv_at hl 0 rfl) ?_
  refine lv_aload_n hx hb dX3_be_157 rfl (lv_at hl 1 rfl) ?_
  refine g_fi X hI hf fX3_12 q283 rfl rfl dX3_be_158 (fun v113 hf => ?_)
  refine g_pi X hI hf fX3_12 q283 rfl dX3_be_161 (fun h H locs hf hI => ?_)
  refine lv_aload_n hx hb dX3_be_164 rfl (lv_at hl 0 rfl) ?_
  refine lv_aload_n hx hb dX3_be_165 rfl (lv_at hl 1 rfl) ?_
  refine g_fi X hI hf fX3_13 q286 rfl rfl dX3_be_166 (fun v114 hf => ?_)
  refine g_pi X hI hf fX3_13 q286 rfl dX3_be_169 (fun h H locs hf hI => ?_)
  refine lv_aload_n hx hb dX3_be_172 rfl (lv_at hl 0 rfl) ?_
  refine lv_aload_n hx hb dX3_be_173 rfl (lv_at hl 1 rfl) ?_
  refine g_fi X hI hf fX3_14 q288 rfl rfl dX3_be_174 (fun v115 hf => ?_)
  refine g_pi X hI hf fX3_14 q288 rfl dX3_be_177 (fun h H locs hf hI => ?_)
  cases gRet_e hf
  exact g_retU X hI rfl dX3_be_180
def f_X3_be_33 : Nat → Nat → Nat → Int32 → gM Unit
  | 0, _, _, _ => gFail
  | n + 1, a0, a1, x2 =>
    gB (gFI a1 2 7) fun v101 =>
    gIf (v101 ≤ x2)
    (f_X3_be_62 a0 a1)
    (gB (gFR a0 2 1) fun v102 =>
    gB (gAR v102 5 x2) fun v103 =>
    gB (gFR a1 2 1) fun v104 =>
    gB (gAR v104 5 x2) fun v105 =>
    gB (gCk v103 4) fun _ =>
    gB (f_X5_be v103 v105) fun _ =>
    f_X3_be_33 n a0 a1 (x2 + (1 : Int32)))
set_option maxHeartbeats 4000000 in
set_option maxRecDepth 100000 in
theorem b_X3_be_33 {G : gG} {l : Launch} {p : Program} {e : Env} {s : State} {m : MethodId} {args : Array Value} {below : List Frame} {meth : Method} {c : Code} {h0 : g_H} {r : Unit} {h' : g_H} (X : gX G l yX3_be.cls cX3_be 3 none [] yX3_be.name p s m args meth c) : ∀ n : Nat, w_X3_be_33 G l p e s m args below meth c h0 r h' (f_X3_be_33 n) := by
  have hx := X.1
  have hb := X.2.1
  have hown := X.2.2.2.1
  have hts := X.2.2.2.2.1
  intro n
  induction n with
  | zero =>
    intro a0 a1 x2 h H locs cells slots ls hf hI hl
    exact (gFail_f hf).elim
  | succ n ih =>
    intro a0 a1 x2 h H locs cells slots ls hf hI hl
    rw [f_X3_be_33] at hf
    refine lv_iload_n hx hb dX3_be_33 rfl (lv_at hl 2 rfl) ?_
    refine lv_aload_n hx hb dX3_be_34 rfl (lv_at hl 1 rfl) ?_
    refine g_fi X hI hf fX3_7 q270 rfl rfl dX3_be_35 (fun v101 hf => ?_)
    refine lv_icmp_ge (tgt := 62) hx hb dX3_be_38 (by decide) (fun c38 => ?_) (fun c38 => ?_)
    · have hf := g_t c38 hf
      exact b_X3_be_62 X _ _ _ _ _ _ _ _ hf hI (lv_sub hl [0, 1] rfl)
    · have hf := g_f c38 hf
      refine lv_aload_n hx hb dX3_be_41 rfl (lv_at hl 0 rfl) ?_
      refine g_fr X hI hf fX3_1 q256 rfl rfl dX3_be_42 (fun v102 hf => ?_)
      refine lv_iload_n hx hb dX3_be_45 rfl (lv_at hl 2 rfl) ?_
      refine g_ar5 X hI hf dX3_be_46 (fun v103 hf => ?_)
      refine lv_aload_n hx hb dX3_be_47 rfl (lv_at hl 1 rfl) ?_
      refine g_fr X hI hf fX3_1 q256 rfl rfl dX3_be_48 (fun v104 hf => ?_)
      refine lv_iload_n hx hb dX3_be_51 rfl (lv_at hl 2 rfl) ?_
      refine g_ar5 X hI hf dX3_be_52 (fun v105 hf => ?_)
      obtain ⟨hs, hf⟩ := gCk_b hf
      refine g_cBU hI hf (fun v9 h9 e9 l9 l9' => g_rV X hI l9 l9' ⟨Nat.le_refl _, Nat.le_refl _⟩ (As := [.ref v105]) (m_X5_be X.2.2.2.2.2.2.2.2.2.2.1 e9) ydX5_be hs rfl rfl q680 q681 q682 q125 q683 rfl (Nat.le_of_ble_eq_true rfl) (Nat.le_of_ble_eq_true rfl) hl.1 rfl (Nat.le_of_ble_eq_true rfl) dX3_be_53) (fun r106 h H locs cells slots hf hI => ?_)
      refine lv_iinc (v := (x2 + (1 : Int32))) (lv' := [(2, .int (x2 + (1 : Int32))), (0, .ref a0), (1, .ref a1)]) hx hb dX3_be_56 hl (k := 2) rfl rfl (by decide) rfl (fun ls hl => ?_)
      refine lv_goto (tgt := 33) hx hb dX3_be_59 (by decide) ?_
      exact ih _ _ _ _ _ _ _ _ _ hf hI (lv_sub hl [1, 2, 0] rfl)
def f_X3_be_31 (a0 : Nat) (a1 : Nat) : gM Unit :=
    f_X3_be_33 gN a0 a1 (0 : Int32)
set_option maxHeartbeats 4000000 in
set_option maxRecDepth 100000 in
theorem b_X3_be_31 {G : gG} {l : Launch} {p : Program} {e : Env} {s : State} {m : MethodId} {args : Array Value} {below : List Frame} {meth : Method} {c : Code} {h0 : g_H} {r : Unit} {h' : g_H} (X : gX G l yX3_be.cls cX3_be 3 none [] yX3_be.name p s m args meth c) : w_X3_be_31 G l p e s m args below meth c h0 r h' (f_X3_be_31) := by
  have hx := X.1
  have hb := X.2.1
  have hown := X.2.2.2.1
  have hts := X.2.2.2.2.1
  intro a0 a1 h H locs cells slots ls hf hI hl
  unfold f_X3_be_31 at hf
  refine lv_iconst (v := (0 : Int32)) hx hb dX3_be_31 (by decide) ?_
  refine lv_istore_n (lv' := [(2, .int (0 : Int32)), (0, .ref a0), (1, .ref a1)]) hx hb dX3_be_32 rfl hl (by decide) rfl (fun ls hl => ?_)
  exact b_X3_be_33 X gN _ _ _ _ _ _ _ _ _ hf hI (lv_sub hl [1, 2, 0] rfl)
def f_X3_be_2 : Nat → Nat → Nat → Int32 → gM Unit
  | 0, _, _, _ => gFail
  | n + 1, a0, a1, x2 =>
    gB (gFI a1 2 6) fun v101 =>
    gIf (v101 ≤ x2)
    (f_X3_be_31 a0 a1)
    (gB (gFR a0 2 0) fun v102 =>
    gB (gAR v102 4 x2) fun v103 =>
    gB (gFR a1 2 0) fun v104 =>
    gB (gAR v104 4 x2) fun v105 =>
    gB (gCk v103 3) fun _ =>
    gB (f_X4_be v103 v105) fun _ =>
    f_X3_be_2 n a0 a1 (x2 + (1 : Int32)))
set_option maxHeartbeats 4000000 in
set_option maxRecDepth 100000 in
theorem b_X3_be_2 {G : gG} {l : Launch} {p : Program} {e : Env} {s : State} {m : MethodId} {args : Array Value} {below : List Frame} {meth : Method} {c : Code} {h0 : g_H} {r : Unit} {h' : g_H} (X : gX G l yX3_be.cls cX3_be 3 none [] yX3_be.name p s m args meth c) : ∀ n : Nat, w_X3_be_2 G l p e s m args below meth c h0 r h' (f_X3_be_2 n) := by
  have hx := X.1
  have hb := X.2.1
  have hown := X.2.2.2.1
  have hts := X.2.2.2.2.1
  intro n
  induction n with
  | zero =>
    intro a0 a1 x2 h H locs cells slots ls hf hI hl
    exact (gFail_f hf).elim
  | succ n ih =>
    intro a0 a1 x2 h H locs cells slots ls hf hI hl
    rw [f_X3_be_2] at hf
    refine lv_iload_n hx hb dX3_be_2 rfl (lv_at hl 2 rfl) ?_
    refine lv_aload_n hx hb dX3_be_3 rfl (lv_at hl 1 rfl) ?_
    refine g_fi X hI hf fX3_6 q267 rfl rfl dX3_be_4 (fun v101 hf => ?_)
    refine lv_icmp_ge (tgt := 31) hx hb dX3_be_7 (by decide) (fun c7 => ?_) (fun c7 => ?_)
    · have hf := g_t c7 hf
      exact b_X3_be_31 X _ _ _ _ _ _ _ _ hf hI (lv_sub hl [0, 1] rfl)
    · have hf := g_f c7 hf
      refine lv_aload_n hx hb dX3_be_10 rfl (lv_at hl 0 rfl) ?_
      refine g_fr X hI hf fX3_0 q253 rfl rfl dX3_be_11 (fun v102 hf => ?_)
      refine lv_iload_n hx hb dX3_be_14 rfl (lv_at hl 2 rfl) ?_
      refine g_ar4 X hI hf dX3_be_15 (fun v103 hf => ?_)
      refine lv_aload_n hx hb dX3_be_16 rfl (lv_at hl 1 rfl) ?_
      refine g_fr X hI hf fX3_0 q253 rfl rfl dX3_be_17 (fun v104 hf => ?_)
      refine lv_iload_n hx hb dX3_be_20 rfl (lv_at hl 2 rfl) ?_
      refine g_ar4 X hI hf dX3_be_21 (fun v105 hf => ?_)
      obtain ⟨hs, hf⟩ := gCk_b hf
      refine g_cBU hI hf (fun v9 h9 e9 l9 l9' => g_rV X hI l9 l9' ⟨Nat.le_refl _, Nat.le_refl _⟩ (As := [.ref v105]) (m_X4_be X.2.2.2.2.2.2.2.2.2.2.1 e9) ydX4_be hs rfl rfl q676 q677 q678 q124 q679 rfl (Nat.le_of_ble_eq_true rfl) (Nat.le_of_ble_eq_true rfl) hl.1 rfl (Nat.le_of_ble_eq_true rfl) dX3_be_22) (fun r106 h H locs cells slots hf hI => ?_)
      refine lv_iinc (v := (x2 + (1 : Int32))) (lv' := [(2, .int (x2 + (1 : Int32))), (0, .ref a0), (1, .ref a1)]) hx hb dX3_be_25 hl (k := 2) rfl rfl (by decide) rfl (fun ls hl => ?_)
      refine lv_goto (tgt := 2) hx hb dX3_be_28 (by decide) ?_
      exact ih _ _ _ _ _ _ _ _ _ hf hI (lv_sub hl [1, 2, 0] rfl)
def f_X3_be (a0 : Nat) (a1 : Nat) : gM Unit :=
    f_X3_be_2 gN a0 a1 (0 : Int32)
set_option maxHeartbeats 4000000 in
set_option maxRecDepth 100000 in
theorem m_X3_be {G : gG} {l : Launch} (hfl : l.stackTraces = false) {a0 : Nat} {a1 : Nat} {h h' : g_H} {r : Unit} (hf : (f_X3_be a0 a1).1 h = some (r, h')) : gMet G l yX3_be (Cond.code yX3_be cX3_be 3 none) 2 79 [.ref a0, .ref a1] h (.inl (g_wU r)) h' := by
  refine g_head hfl ((f_X3_be a0 a1).2 h r h' hf) (plainFor_of_name (by decide)) (Nat.le_of_ble_eq_true rfl) (fun p e s m below meth c H locs cells slots ls X hI hl9 => ?_)
  have hl : lv_has ls 3 [(0, .ref a0), (1, .ref a1)] := hl9
  have hx := X.1
  have hb := X.2.1
  have hown := X.2.2.2.1
  have hts := X.2.2.2.2.1
  unfold f_X3_be at hf
  refine lv_iconst (v := (0 : Int32)) hx hb dX3_be_0 (by decide) ?_
  refine lv_istore_n (lv' := [(2, .int (0 : Int32)), (0, .ref a0), (1, .ref a1)]) hx hb dX3_be_1 rfl hl (by decide) rfl (fun ls hl => ?_)
  exact b_X3_be_2 X gN _ _ _ _ _ _ _ _ _ hf hI (lv_sub hl [1, 2, 0] rfl)
/-! X1_back -/
def f_X1_back (a0 : Nat) : gM Int32 :=
    gB (gFI a0 0 18) fun v1 =>
    gIf (v1 = 0)
    ((gRet (0 : Int32)))
    (gB (gFR a0 0 1) fun v2 =>
    gB (gFR a0 0 2) fun v3 =>
    gB (gCk v2 2) fun _ =>
    gB (f_X3_be v2 v3) fun _ =>
    gB (gPI a0 0 12 (0 : Int32)) fun _ =>
    (gRet (1 : Int32)))
set_option maxHeartbeats 4000000 in
set_option maxRecDepth 100000 in
theorem m_X1_back {G : gG} {l : Launch} (hfl : l.stackTraces = false) {a0 : Nat} {h h' : g_H} {r : Int32} (hf : (f_X1_back a0).1 h = some (r, h')) : gMet G l yX1_back (Cond.code yX1_back cX1_back 1 (some .boolean)) 3 101 [.ref a0] h (.inl (g_wI r)) h' := by
  refine g_head hfl ((f_X1_back a0).2 h r h' hf) (plainFor_of_name (by decide)) (Nat.le_of_ble_eq_true rfl) (fun p e s m below meth c H locs cells slots ls X hI hl9 => ?_)
  have hl : lv_has ls 1 [(0, .ref a0)] := hl9
  have hx := X.1
  have hb := X.2.1
  have hown := X.2.2.2.1
  have hts := X.2.2.2.2.1
  unfold f_X1_back at hf
  refine lv_aload_n hx hb dX1_back_0 rfl (lv_at hl 0 rfl) ?_
  refine g_fi X hI hf fX1_18 q479 rfl rfl dX1_back_1 (fun v1 hf => ?_)
  refine lv_if_ne (tgt := 9) hx hb dX1_back_4 (by decide) (fun c4 => ?_) (fun c4 => ?_)
  · have hf := g_f c4 hf
    refine lv_aload_n hx hb dX1_back_9 rfl (lv_at hl 0 rfl) ?_
    refine g_fr X hI hf fX1_1 q461 rfl rfl dX1_back_10 (fun v2 hf => ?_)
    refine lv_aload_n hx hb dX1_back_13 rfl (lv_at hl 0 rfl) ?_
    refine g_fr X hI hf fX1_2 q463 rfl rfl dX1_back_14 (fun v3 hf => ?_)
    obtain ⟨hs, hf⟩ := gCk_b hf
    refine g_cBU hI hf (fun v9 h9 e9 l9 l9' => g_rV X hI l9 l9' ⟨Nat.le_refl _, Nat.le_refl _⟩ (As := [.ref v3]) (m_X3_be X.2.2.2.2.2.2.2.2.2.2.1 e9) ydX3_be hs rfl rfl q672 q673 q674 q123 q675 rfl (Nat.le_of_ble_eq_true rfl) (Nat.le_of_ble_eq_true rfl) hl.1 rfl (Nat.le_of_ble_eq_true rfl) dX1_back_17) (fun r4 h H locs cells slots hf hI => ?_)
    refine lv_aload_n hx hb dX1_back_20 rfl (lv_at hl 0 rfl) ?_
    refine lv_iconst (v := (0 : Int32)) hx hb dX1_back_21 (by decide) ?_
    refine g_pi X hI hf fX1_12 q473 rfl dX1_back_22 (fun h H locs hf hI => ?_)
    refine lv_iconst (v := (1 : Int32)) hx hb dX1_back_25 (by decide) ?_
    cases gRet_e hf
    exact g_retZ X hI (Or.inr rfl) rfl dX1_back_26
  · have hf := g_t c4 hf
    refine lv_iconst (v := (0 : Int32)) hx hb dX1_back_7 (by decide) ?_
    cases gRet_e hf
    exact g_retZ X hI (Or.inl rfl) rfl dX1_back_8
/-! X8_back -/
abbrev w_X8_back_41 (G : gG) (l : Launch) (p : Program) (e : Env) (s : State) (m : MethodId) (args : Array Value) (below : List Frame) (meth : Method) (c : Code) (h0 : g_H) (r : Int32) (h' : g_H) (k : Nat → gM Int32) : Prop := ∀ (a0 : Nat) (h : g_H) (H : Heap) (locs : List Loc) (cells slots : Nat) (ls : Array Slot), (k a0).1 h = some (r, h') → gI G h0 h H locs cells slots → lv_has ls 2 [(0, .ref a0)] → W p l e (g_rm 1 20 h0 h') s m args below meth c H locs cells slots (gQ G below args s h0 h' (.inl (g_wI r))) (F0 m 41 ls [])
abbrev w_X8_back_16 (G : gG) (l : Launch) (p : Program) (e : Env) (s : State) (m : MethodId) (args : Array Value) (below : List Frame) (meth : Method) (c : Code) (h0 : g_H) (r : Int32) (h' : g_H) (k : Nat → Int32 → gM Int32) : Prop := ∀ (a0 : Nat) (x1 : Int32) (h : g_H) (H : Heap) (locs : List Loc) (cells slots : Nat) (ls : Array Slot), (k a0 x1).1 h = some (r, h') → gI G h0 h H locs cells slots → lv_has ls 2 [(0, .ref a0), (1, .int x1)] → W p l e (g_rm 1 20 h0 h') s m args below meth c H locs cells slots (gQ G below args s h0 h' (.inl (g_wI r))) (F0 m 16 ls [])
def f_X8_back_41 (a0 : Nat) : gM Int32 :=
    gB (gPI a0 7 7 (0 : Int32)) fun _ =>
    (gRet (1 : Int32))
set_option maxHeartbeats 4000000 in
set_option maxRecDepth 100000 in
theorem b_X8_back_41 {G : gG} {l : Launch} {p : Program} {e : Env} {s : State} {m : MethodId} {args : Array Value} {below : List Frame} {meth : Method} {c : Code} {h0 : g_H} {r : Int32} {h' : g_H} (X : gX G l yX8_back.cls cX8_back 2 (some .boolean) [] yX8_back.name p s m args meth c) : w_X8_back_41 G l p e s m args below meth c h0 r h' (f_X8_back_41) := by
  have hx := X.1
  have hb := X.2.1
  have hown := X.2.2.2.1
  have hts := X.2.2.2.2.1
  intro a0 h H locs cells slots ls hf hI hl
  unfold f_X8_back_41 at hf
  refine lv_aload_n hx hb dX8_back_41 rfl (lv_at hl 0 rfl) ?_
  refine lv_iconst (v := (0 : Int32)) hx hb dX8_back_42 (by decide) ?_
  refine g_pi X hI hf fX8_7 q1451 rfl dX8_back_43 (fun h H locs hf hI => ?_)
  refine lv_iconst (v := (1 : Int32)) hx hb dX8_back_46 (by decide) ?_
  cases gRet_e hf
  exact g_retZ X hI (Or.inr rfl) rfl dX8_back_47
def f_X8_back_16 : Nat → Nat → Int32 → gM Int32
  | 0, _, _ => gFail
  | n + 1, a0, x1 =>
    gIf ((1154 : Int32) ≤ x1)
    (f_X8_back_41 a0)
    (gB (gFR a0 7 1) fun v101 =>
    gB (gFR a0 7 2) fun v102 =>
    gB (gAI v102 0 x1) fun v103 =>
    gB (gSI v101 0 x1 v103) fun _ =>
    f_X8_back_16 n a0 (x1 + (1 : Int32)))
set_option maxHeartbeats 4000000 in
set_option maxRecDepth 100000 in
theorem b_X8_back_16 {G : gG} {l : Launch} {p : Program} {e : Env} {s : State} {m : MethodId} {args : Array Value} {below : List Frame} {meth : Method} {c : Code} {h0 : g_H} {r : Int32} {h' : g_H} (X : gX G l yX8_back.cls cX8_back 2 (some .boolean) [] yX8_back.name p s m args meth c) : ∀ n : Nat, w_X8_back_16 G l p e s m args below meth c h0 r h' (f_X8_back_16 n) := by
  have hx := X.1
  have hb := X.2.1
  have hown := X.2.2.2.1
  have hts := X.2.2.2.2.1
  intro n
  induction n with
  | zero =>
    intro a0 x1 h H locs cells slots ls hf hI hl
    exact (gFail_f hf).elim
  | succ n ih =>
    intro a0 x1 h H locs cells slots ls hf hI hl
    rw [f_X8_back_16] at hf
    refine lv_iload_n hx hb dX8_back_16 rfl (lv_at hl 1 rfl) ?_
    refine lv_sipush (v := (1154 : Int32)) hx hb dX8_back_17 (by decide) ?_
    refine lv_icmp_ge (tgt := 41) hx hb dX8_back_20 (by decide) (fun c20 => ?_) (fun c20 => ?_)
    · have hf := g_t c20 hf
      exact b_X8_back_41 X _ _ _ _ _ _ _ hf hI (lv_sub hl [0] rfl)
    · have hf := g_f c20 hf
      refine lv_aload_n hx hb dX8_back_23 rfl (lv_at hl 0 rfl) ?_
      refine g_fr X hI hf fX8_1 q1445 rfl rfl dX8_back_24 (fun v101 hf => ?_)
      refine lv_iload_n hx hb dX8_back_27 rfl (lv_at hl 1 rfl) ?_
      refine lv_aload_n hx hb dX8_back_28 rfl (lv_at hl 0 rfl) ?_
      refine g_fr X hI hf fX8_2 q1446 rfl rfl dX8_back_29 (fun v102 hf => ?_)
      refine lv_iload_n hx hb dX8_back_32 rfl (lv_at hl 1 rfl) ?_
      refine g_ai0 X hI hf dX8_back_33 (fun v103 hf => ?_)
      refine g_si0 X hI hf dX8_back_34 (fun h H locs hf hI => ?_)
      refine lv_iinc (v := (x1 + (1 : Int32))) (lv' := [(1, .int (x1 + (1 : Int32))), (0, .ref a0)]) hx hb dX8_back_35 hl (k := 1) rfl rfl (by decide) rfl (fun ls hl => ?_)
      refine lv_goto (tgt := 16) hx hb dX8_back_38 (by decide) ?_
      exact ih _ _ _ _ _ _ _ _ hf hI (lv_sub hl [1, 0] rfl)
def f_X8_back (a0 : Nat) : gM Int32 :=
    gB (gPI a0 7 0 (0 : Int32)) fun _ =>
    gB (gFI a0 7 6) fun v1 =>
    gIf (v1 = 0)
    ((gRet (0 : Int32)))
    (f_X8_back_16 gN a0 (0 : Int32))
set_option maxHeartbeats 4000000 in
set_option maxRecDepth 100000 in
theorem m_X8_back {G : gG} {l : Launch} (hfl : l.stackTraces = false) {a0 : Nat} {h h' : g_H} {r : Int32} (hf : (f_X8_back a0).1 h = some (r, h')) : gMet G l yX8_back (Cond.code yX8_back cX8_back 2 (some .boolean)) 1 20 [.ref a0] h (.inl (g_wI r)) h' := by
  refine g_head hfl ((f_X8_back a0).2 h r h' hf) (plainFor_of_name (by decide)) (Nat.le_of_ble_eq_true rfl) (fun p e s m below meth c H locs cells slots ls X hI hl9 => ?_)
  have hl : lv_has ls 2 [(0, .ref a0)] := hl9
  have hx := X.1
  have hb := X.2.1
  have hown := X.2.2.2.1
  have hts := X.2.2.2.2.1
  unfold f_X8_back at hf
  refine lv_aload_n hx hb dX8_back_0 rfl (lv_at hl 0 rfl) ?_
  refine lv_iconst (v := (0 : Int32)) hx hb dX8_back_1 (by decide) ?_
  refine g_pi X hI hf fX8_0 q1444 rfl dX8_back_2 (fun h H locs hf hI => ?_)
  refine lv_aload_n hx hb dX8_back_5 rfl (lv_at hl 0 rfl) ?_
  refine g_fi X hI hf fX8_6 q1450 rfl rfl dX8_back_6 (fun v1 hf => ?_)
  refine lv_if_ne (tgt := 14) hx hb dX8_back_9 (by decide) (fun c9 => ?_) (fun c9 => ?_)
  · have hf := g_f c9 hf
    refine lv_iconst (v := (0 : Int32)) hx hb dX8_back_14 (by decide) ?_
    refine lv_istore_n (lv' := [(1, .int (0 : Int32)), (0, .ref a0)]) hx hb dX8_back_15 rfl hl (by decide) rfl (fun ls hl => ?_)
    exact b_X8_back_16 X gN _ _ _ _ _ _ _ _ hf hI (lv_sub hl [1, 0] rfl)
  · have hf := g_t c9 hf
    refine lv_iconst (v := (0 : Int32)) hx hb dX8_back_12 (by decide) ?_
    cases gRet_e hf
    exact g_retZ X hI (Or.inl rfl) rfl dX8_back_13
/-! X1_image -/
def f_X1_image (a0 : Nat) : gM Unit :=
    gB (gFR a0 0 2) fun v1 =>
    gB (gFR a0 0 1) fun v2 =>
    gB (gCk v1 2) fun _ =>
    gB (f_X3_be v1 v2) fun _ =>
    gB (gPZ a0 0 18 (1 : Int32)) fun _ =>
    gRet ()
set_option maxHeartbeats 4000000 in
set_option maxRecDepth 100000 in
theorem m_X1_image {G : gG} {l : Launch} (hfl : l.stackTraces = false) {a0 : Nat} {h h' : g_H} {r : Unit} (hf : (f_X1_image a0).1 h = some (r, h')) : gMet G l yX1_image (Cond.code yX1_image cX1_image 1 none) 3 101 [.ref a0] h (.inl (g_wU r)) h' := by
  refine g_head hfl ((f_X1_image a0).2 h r h' hf) (plainFor_of_name (by decide)) (Nat.le_of_ble_eq_true rfl) (fun p e s m below meth c H locs cells slots ls X hI hl9 => ?_)
  have hl : lv_has ls 1 [(0, .ref a0)] := hl9
  have hx := X.1
  have hb := X.2.1
  have hown := X.2.2.2.1
  have hts := X.2.2.2.2.1
  unfold f_X1_image at hf
  refine lv_aload_n hx hb dX1_image_0 rfl (lv_at hl 0 rfl) ?_
  refine g_fr X hI hf fX1_2 q463 rfl rfl dX1_image_1 (fun v1 hf => ?_)
  refine lv_aload_n hx hb dX1_image_4 rfl (lv_at hl 0 rfl) ?_
  refine g_fr X hI hf fX1_1 q461 rfl rfl dX1_image_5 (fun v2 hf => ?_)
  obtain ⟨hs, hf⟩ := gCk_b hf
  refine g_cBU hI hf (fun v9 h9 e9 l9 l9' => g_rV X hI l9 l9' ⟨Nat.le_refl _, Nat.le_refl _⟩ (As := [.ref v2]) (m_X3_be X.2.2.2.2.2.2.2.2.2.2.1 e9) ydX3_be hs rfl rfl q672 q673 q674 q123 q675 rfl (Nat.le_of_ble_eq_true rfl) (Nat.le_of_ble_eq_true rfl) hl.1 rfl (Nat.le_of_ble_eq_true rfl) dX1_image_8) (fun r3 h H locs cells slots hf hI => ?_)
  refine lv_aload_n hx hb dX1_image_11 rfl (lv_at hl 0 rfl) ?_
  refine lv_iconst (v := (1 : Int32)) hx hb dX1_image_12 (by decide) ?_
  refine g_pz X hI hf fX1_18 q479 rfl dX1_image_13 (fun h H locs hf hI => ?_)
  cases gRet_e hf
  exact g_retU X hI rfl dX1_image_16
/-! X8_image -/
abbrev w_X8_image_32 (G : gG) (l : Launch) (p : Program) (e : Env) (s : State) (m : MethodId) (args : Array Value) (below : List Frame) (meth : Method) (c : Code) (h0 : g_H) (r : Unit) (h' : g_H) (k : Nat → gM Unit) : Prop := ∀ (a0 : Nat) (h : g_H) (H : Heap) (locs : List Loc) (cells slots : Nat) (ls : Array Slot), (k a0).1 h = some (r, h') → gI G h0 h H locs cells slots → lv_has ls 2 [(0, .ref a0)] → W p l e (g_rm 1 20 h0 h') s m args below meth c H locs cells slots (gQ G below args s h0 h' (.inl (g_wU r))) (F0 m 32 ls [])
abbrev w_X8_image_7 (G : gG) (l : Launch) (p : Program) (e : Env) (s : State) (m : MethodId) (args : Array Value) (below : List Frame) (meth : Method) (c : Code) (h0 : g_H) (r : Unit) (h' : g_H) (k : Nat → Int32 → gM Unit) : Prop := ∀ (a0 : Nat) (x1 : Int32) (h : g_H) (H : Heap) (locs : List Loc) (cells slots : Nat) (ls : Array Slot), (k a0 x1).1 h = some (r, h') → gI G h0 h H locs cells slots → lv_has ls 2 [(0, .ref a0), (1, .int x1)] → W p l e (g_rm 1 20 h0 h') s m args below meth c H locs cells slots (gQ G below args s h0 h' (.inl (g_wU r))) (F0 m 7 ls [])
def f_X8_image_32 (a0 : Nat) : gM Unit :=
    gB (gPZ a0 7 6 (1 : Int32)) fun _ =>
    gRet ()
set_option maxHeartbeats 4000000 in
set_option maxRecDepth 100000 in
theorem b_X8_image_32 {G : gG} {l : Launch} {p : Program} {e : Env} {s : State} {m : MethodId} {args : Array Value} {below : List Frame} {meth : Method} {c : Code} {h0 : g_H} {r : Unit} {h' : g_H} (X : gX G l yX8_image.cls cX8_image 2 none [] yX8_image.name p s m args meth c) : w_X8_image_32 G l p e s m args below meth c h0 r h' (f_X8_image_32) := by
  have hx := X.1
  have hb := X.2.1
  have hown := X.2.2.2.1
  have hts := X.2.2.2.2.1
  intro a0 h H locs cells slots ls hf hI hl
  unfold f_X8_image_32 at hf
  refine lv_aload_n hx hb dX8_image_32 rfl (lv_at hl 0 rfl) ?_
  refine lv_iconst (v := (1 : Int32)) hx hb dX8_image_33 (by decide) ?_
  refine g_pz X hI hf fX8_6 q1450 rfl dX8_image_34 (fun h H locs hf hI => ?_)
  cases gRet_e hf
  exact g_retU X hI rfl dX8_image_37
def f_X8_image_7 : Nat → Nat → Int32 → gM Unit
  | 0, _, _ => gFail
  | n + 1, a0, x1 =>
    gIf ((1154 : Int32) ≤ x1)
    (f_X8_image_32 a0)
    (gB (gFR a0 7 2) fun v101 =>
    gB (gFR a0 7 1) fun v102 =>
    gB (gAI v102 0 x1) fun v103 =>
    gB (gSI v101 0 x1 v103) fun _ =>
    f_X8_image_7 n a0 (x1 + (1 : Int32)))
set_option maxHeartbeats 4000000 in
set_option maxRecDepth 100000 in
theorem b_X8_image_7 {G : gG} {l : Launch} {p : Program} {e : Env} {s : State} {m : MethodId} {args : Array Value} {below : List Frame} {meth : Method} {c : Code} {h0 : g_H} {r : Unit} {h' : g_H} (X : gX G l yX8_image.cls cX8_image 2 none [] yX8_image.name p s m args meth c) : ∀ n : Nat, w_X8_image_7 G l p e s m args below meth c h0 r h' (f_X8_image_7 n) := by
  have hx := X.1
  have hb := X.2.1
  have hown := X.2.2.2.1
  have hts := X.2.2.2.2.1
  intro n
  induction n with
  | zero =>
    intro a0 x1 h H locs cells slots ls hf hI hl
    exact (gFail_f hf).elim
  | succ n ih =>
    intro a0 x1 h H locs cells slots ls hf hI hl
    rw [f_X8_image_7] at hf
    refine lv_iload_n hx hb dX8_image_7 rfl (lv_at hl 1 rfl) ?_
    refine lv_sipush (v := (1154 : Int32)) hx hb dX8_image_8 (by decide) ?_
    refine lv_icmp_ge (tgt := 32) hx hb dX8_image_11 (by decide) (fun c11 => ?_) (fun c11 => ?_)
    · have hf := g_t c11 hf
      exact b_X8_image_32 X _ _ _ _ _ _ _ hf hI (lv_sub hl [0] rfl)
    · have hf := g_f c11 hf
      refine lv_aload_n hx hb dX8_image_14 rfl (lv_at hl 0 rfl) ?_
      refine g_fr X hI hf fX8_2 q1446 rfl rfl dX8_image_15 (fun v101 hf => ?_)
      refine lv_iload_n hx hb dX8_image_18 rfl (lv_at hl 1 rfl) ?_
      refine lv_aload_n hx hb dX8_image_19 rfl (lv_at hl 0 rfl) ?_
      refine g_fr X hI hf fX8_1 q1445 rfl rfl dX8_image_20 (fun v102 hf => ?_)
      refine lv_iload_n hx hb dX8_image_23 rfl (lv_at hl 1 rfl) ?_
      refine g_ai0 X hI hf dX8_image_24 (fun v103 hf => ?_)
      refine g_si0 X hI hf dX8_image_25 (fun h H locs hf hI => ?_)
      refine lv_iinc (v := (x1 + (1 : Int32))) (lv' := [(1, .int (x1 + (1 : Int32))), (0, .ref a0)]) hx hb dX8_image_26 hl (k := 1) rfl rfl (by decide) rfl (fun ls hl => ?_)
      refine lv_goto (tgt := 7) hx hb dX8_image_29 (by decide) ?_
      exact ih _ _ _ _ _ _ _ _ hf hI (lv_sub hl [1, 0] rfl)
def f_X8_image (a0 : Nat) : gM Unit :=
    gB (gPI a0 7 0 (0 : Int32)) fun _ =>
    f_X8_image_7 gN a0 (0 : Int32)
set_option maxHeartbeats 4000000 in
set_option maxRecDepth 100000 in
theorem m_X8_image {G : gG} {l : Launch} (hfl : l.stackTraces = false) {a0 : Nat} {h h' : g_H} {r : Unit} (hf : (f_X8_image a0).1 h = some (r, h')) : gMet G l yX8_image (Cond.code yX8_image cX8_image 2 none) 1 20 [.ref a0] h (.inl (g_wU r)) h' := by
  refine g_head hfl ((f_X8_image a0).2 h r h' hf) (plainFor_of_name (by decide)) (Nat.le_of_ble_eq_true rfl) (fun p e s m below meth c H locs cells slots ls X hI hl9 => ?_)
  have hl : lv_has ls 2 [(0, .ref a0)] := hl9
  have hx := X.1
  have hb := X.2.1
  have hown := X.2.2.2.1
  have hts := X.2.2.2.2.1
  unfold f_X8_image at hf
  refine lv_aload_n hx hb dX8_image_0 rfl (lv_at hl 0 rfl) ?_
  refine lv_iconst (v := (0 : Int32)) hx hb dX8_image_1 (by decide) ?_
  refine g_pi X hI hf fX8_0 q1444 rfl dX8_image_2 (fun h H locs hf hI => ?_)
  refine lv_iconst (v := (0 : Int32)) hx hb dX8_image_5 (by decide) ?_
  refine lv_istore_n (lv' := [(1, .int (0 : Int32)), (0, .ref a0)]) hx hb dX8_image_6 rfl hl (by decide) rfl (fun ls hl => ?_)
  exact b_X8_image_7 X gN _ _ _ _ _ _ _ _ hf hI (lv_sub hl [1, 0] rfl)
/-! X1_undo -/
def f_X1_undo (a0 : Nat) : gM Int32 :=
    gB (gFI a0 0 12) fun v1 =>
    gIf (v1 = 0)
    ((gRet (0 : Int32)))
    (gB (gFI a0 0 12) fun v2 =>
    gB (gPI a0 0 12 (v2 - (1 : Int32))) fun _ =>
    gB (gFI a0 0 13) fun v3 =>
    gB (gPI a0 0 13 (((v3 + (12 : Int32)) - (1 : Int32)) - ((v3 + (12 : Int32)) - (1 : Int32)) / (12 : Int32) * (12 : Int32))) fun _ =>
    gB (gFR a0 0 1) fun v4 =>
    gB (gFR a0 0 4) fun v5 =>
    gB (gFI a0 0 13) fun v6 =>
    gB (gAR v5 7 v6) fun v7 =>
    gB (gCk v4 2) fun _ =>
    gB (f_X3_be v4 v7) fun _ =>
    (gRet (1 : Int32)))
set_option maxHeartbeats 4000000 in
set_option maxRecDepth 100000 in
theorem m_X1_undo {G : gG} {l : Launch} (hfl : l.stackTraces = false) {a0 : Nat} {h h' : g_H} {r : Int32} (hf : (f_X1_undo a0).1 h = some (r, h')) : gMet G l yX1_undo (Cond.code yX1_undo cX1_undo 1 (some .boolean)) 3 101 [.ref a0] h (.inl (g_wI r)) h' := by
  refine g_head hfl ((f_X1_undo a0).2 h r h' hf) (plainFor_of_name (by decide)) (Nat.le_of_ble_eq_true rfl) (fun p e s m below meth c H locs cells slots ls X hI hl9 => ?_)
  have hl : lv_has ls 1 [(0, .ref a0)] := hl9
  have hx := X.1
  have hb := X.2.1
  have hown := X.2.2.2.1
  have hts := X.2.2.2.2.1
  unfold f_X1_undo at hf
  refine lv_aload_n hx hb dX1_undo_0 rfl (lv_at hl 0 rfl) ?_
  refine g_fi X hI hf fX1_12 q473 rfl rfl dX1_undo_1 (fun v1 hf => ?_)
  refine lv_if_ne (tgt := 9) hx hb dX1_undo_4 (by decide) (fun c4 => ?_) (fun c4 => ?_)
  · have hf := g_f c4 hf
    refine lv_aload_n hx hb dX1_undo_9 rfl (lv_at hl 0 rfl) ?_
    refine lv_dup hx hb dX1_undo_10 rfl ?_
    refine g_fi X hI hf fX1_12 q473 rfl rfl dX1_undo_11 (fun v2 hf => ?_)
    refine lv_iconst (v := (1 : Int32)) hx hb dX1_undo_14 (by decide) ?_
    refine lv_isub hx hb dX1_undo_15 ?_
    refine g_pi X hI hf fX1_12 q473 rfl dX1_undo_16 (fun h H locs hf hI => ?_)
    refine lv_aload_n hx hb dX1_undo_19 rfl (lv_at hl 0 rfl) ?_
    refine lv_aload_n hx hb dX1_undo_20 rfl (lv_at hl 0 rfl) ?_
    refine g_fi X hI hf fX1_13 q474 rfl rfl dX1_undo_21 (fun v3 hf => ?_)
    refine lv_bipush (v := (12 : Int32)) hx hb dX1_undo_24 (by decide) ?_
    refine lv_iadd hx hb dX1_undo_26 ?_
    refine lv_iconst (v := (1 : Int32)) hx hb dX1_undo_27 (by decide) ?_
    refine lv_isub hx hb dX1_undo_28 ?_
    refine lv_bipush (v := (12 : Int32)) hx hb dX1_undo_29 (by decide) ?_
    refine lv_irem hx hb dX1_undo_31 (by decide) ?_
    refine g_pi X hI hf fX1_13 q474 rfl dX1_undo_32 (fun h H locs hf hI => ?_)
    refine lv_aload_n hx hb dX1_undo_35 rfl (lv_at hl 0 rfl) ?_
    refine g_fr X hI hf fX1_1 q461 rfl rfl dX1_undo_36 (fun v4 hf => ?_)
    refine lv_aload_n hx hb dX1_undo_39 rfl (lv_at hl 0 rfl) ?_
    refine g_fr X hI hf fX1_4 q465 rfl rfl dX1_undo_40 (fun v5 hf => ?_)
    refine lv_aload_n hx hb dX1_undo_43 rfl (lv_at hl 0 rfl) ?_
    refine g_fi X hI hf fX1_13 q474 rfl rfl dX1_undo_44 (fun v6 hf => ?_)
    refine g_ar7 X hI hf dX1_undo_47 (fun v7 hf => ?_)
    obtain ⟨hs, hf⟩ := gCk_b hf
    refine g_cBU hI hf (fun v9 h9 e9 l9 l9' => g_rV X hI l9 l9' ⟨Nat.le_refl _, Nat.le_refl _⟩ (As := [.ref v7]) (m_X3_be X.2.2.2.2.2.2.2.2.2.2.1 e9) ydX3_be hs rfl rfl q672 q673 q674 q123 q675 rfl (Nat.le_of_ble_eq_true rfl) (Nat.le_of_ble_eq_true rfl) hl.1 rfl (Nat.le_of_ble_eq_true rfl) dX1_undo_48) (fun r8 h H locs cells slots hf hI => ?_)
    refine lv_iconst (v := (1 : Int32)) hx hb dX1_undo_51 (by decide) ?_
    cases gRet_e hf
    exact g_retZ X hI (Or.inr rfl) rfl dX1_undo_52
  · have hf := g_t c4 hf
    refine lv_iconst (v := (0 : Int32)) hx hb dX1_undo_7 (by decide) ?_
    cases gRet_e hf
    exact g_retZ X hI (Or.inl rfl) rfl dX1_undo_8
/-! X8_undo -/
abbrev w_X8_undo_60 (G : gG) (l : Launch) (p : Program) (e : Env) (s : State) (m : MethodId) (args : Array Value) (below : List Frame) (meth : Method) (c : Code) (h0 : g_H) (r : Int32) (h' : g_H) (k : gM Int32) : Prop := ∀ (h : g_H) (H : Heap) (locs : List Loc) (cells slots : Nat) (ls : Array Slot), (k).1 h = some (r, h') → gI G h0 h H locs cells slots → lv_has ls 2 [] → W p l e (g_rm 1 20 h0 h') s m args below meth c H locs cells slots (gQ G below args s h0 h' (.inl (g_wI r))) (F0 m 60 ls [])
abbrev w_X8_undo_26 (G : gG) (l : Launch) (p : Program) (e : Env) (s : State) (m : MethodId) (args : Array Value) (below : List Frame) (meth : Method) (c : Code) (h0 : g_H) (r : Int32) (h' : g_H) (k : Nat → Int32 → gM Int32) : Prop := ∀ (a0 : Nat) (x1 : Int32) (h : g_H) (H : Heap) (locs : List Loc) (cells slots : Nat) (ls : Array Slot), (k a0 x1).1 h = some (r, h') → gI G h0 h H locs cells slots → lv_has ls 2 [(0, .ref a0), (1, .int x1)] → W p l e (g_rm 1 20 h0 h') s m args below meth c H locs cells slots (gQ G below args s h0 h' (.inl (g_wI r))) (F0 m 26 ls [])
def f_X8_undo_60 : gM Int32 :=
    (gRet (1 : Int32))
set_option maxHeartbeats 4000000 in
set_option maxRecDepth 100000 in
theorem b_X8_undo_60 {G : gG} {l : Launch} {p : Program} {e : Env} {s : State} {m : MethodId} {args : Array Value} {below : List Frame} {meth : Method} {c : Code} {h0 : g_H} {r : Int32} {h' : g_H} (X : gX G l yX8_undo.cls cX8_undo 2 (some .boolean) [] yX8_undo.name p s m args meth c) : w_X8_undo_60 G l p e s m args below meth c h0 r h' (f_X8_undo_60) := by
  have hx := X.1
  have hb := X.2.1
  have hown := X.2.2.2.1
  have hts := X.2.2.2.2.1
  intro h H locs cells slots ls hf hI hl
  unfold f_X8_undo_60 at hf
  refine lv_iconst (v := (1 : Int32)) hx hb dX8_undo_60 (by decide) ?_
  cases gRet_e hf
  exact g_retZ X hI (Or.inr rfl) rfl dX8_undo_61
def f_X8_undo_26 : Nat → Nat → Int32 → gM Int32
  | 0, _, _ => gFail
  | n + 1, a0, x1 =>
    gIf ((305 : Int32) ≤ x1)
    (f_X8_undo_60)
    (gB (gFR a0 7 1) fun v101 =>
    gB (gFR a0 7 5) fun v102 =>
    gB (gFI a0 7 7) fun v103 =>
    gB (gAI v102 0 (((305 : Int32) * v103) + x1)) fun v104 =>
    gB (gSI v101 0 x1 v104) fun _ =>
    f_X8_undo_26 n a0 (x1 + (1 : Int32)))
set_option maxHeartbeats 4000000 in
set_option maxRecDepth 100000 in
theorem b_X8_undo_26 {G : gG} {l : Launch} {p : Program} {e : Env} {s : State} {m : MethodId} {args : Array Value} {below : List Frame} {meth : Method} {c : Code} {h0 : g_H} {r : Int32} {h' : g_H} (X : gX G l yX8_undo.cls cX8_undo 2 (some .boolean) [] yX8_undo.name p s m args meth c) : ∀ n : Nat, w_X8_undo_26 G l p e s m args below meth c h0 r h' (f_X8_undo_26 n) := by
  have hx := X.1
  have hb := X.2.1
  have hown := X.2.2.2.1
  have hts := X.2.2.2.2.1
  intro n
  induction n with
  | zero =>
    intro a0 x1 h H locs cells slots ls hf hI hl
    exact (gFail_f hf).elim
  | succ n ih =>
    intro a0 x1 h H locs cells slots ls hf hI hl
    rw [f_X8_undo_26] at hf
    refine lv_iload_n hx hb dX8_undo_26 rfl (lv_at hl 1 rfl) ?_
    refine lv_sipush (v := (305 : Int32)) hx hb dX8_undo_27 (by decide) ?_
    refine lv_icmp_ge (tgt := 60) hx hb dX8_undo_30 (by decide) (fun c30 => ?_) (fun c30 => ?_)
    · have hf := g_t c30 hf
      exact b_X8_undo_60 X _ _ _ _ _ _ hf hI (lv_sub hl [] rfl)
    · have hf := g_f c30 hf
      refine lv_aload_n hx hb dX8_undo_33 rfl (lv_at hl 0 rfl) ?_
      refine g_fr X hI hf fX8_1 q1445 rfl rfl dX8_undo_34 (fun v101 hf => ?_)
      refine lv_iload_n hx hb dX8_undo_37 rfl (lv_at hl 1 rfl) ?_
      refine lv_aload_n hx hb dX8_undo_38 rfl (lv_at hl 0 rfl) ?_
      refine g_fr X hI hf fX8_5 q1449 rfl rfl dX8_undo_39 (fun v102 hf => ?_)
      refine lv_sipush (v := (305 : Int32)) hx hb dX8_undo_42 (by decide) ?_
      refine lv_aload_n hx hb dX8_undo_45 rfl (lv_at hl 0 rfl) ?_
      refine g_fi X hI hf fX8_7 q1451 rfl rfl dX8_undo_46 (fun v103 hf => ?_)
      refine lv_imul hx hb dX8_undo_49 ?_
      refine lv_iload_n hx hb dX8_undo_50 rfl (lv_at hl 1 rfl) ?_
      refine lv_iadd hx hb dX8_undo_51 ?_
      refine g_ai0 X hI hf dX8_undo_52 (fun v104 hf => ?_)
      refine g_si0 X hI hf dX8_undo_53 (fun h H locs hf hI => ?_)
      refine lv_iinc (v := (x1 + (1 : Int32))) (lv' := [(1, .int (x1 + (1 : Int32))), (0, .ref a0)]) hx hb dX8_undo_54 hl (k := 1) rfl rfl (by decide) rfl (fun ls hl => ?_)
      refine lv_goto (tgt := 26) hx hb dX8_undo_57 (by decide) ?_
      exact ih _ _ _ _ _ _ _ _ hf hI (lv_sub hl [1, 0] rfl)
def f_X8_undo (a0 : Nat) : gM Int32 :=
    gB (gPI a0 7 0 (0 : Int32)) fun _ =>
    gB (gFI a0 7 7) fun v1 =>
    gIf (v1 = 0)
    ((gRet (0 : Int32)))
    (gB (gFI a0 7 7) fun v2 =>
    gB (gPI a0 7 7 (v2 - (1 : Int32))) fun _ =>
    f_X8_undo_26 gN a0 (0 : Int32))
set_option maxHeartbeats 4000000 in
set_option maxRecDepth 100000 in
theorem m_X8_undo {G : gG} {l : Launch} (hfl : l.stackTraces = false) {a0 : Nat} {h h' : g_H} {r : Int32} (hf : (f_X8_undo a0).1 h = some (r, h')) : gMet G l yX8_undo (Cond.code yX8_undo cX8_undo 2 (some .boolean)) 1 20 [.ref a0] h (.inl (g_wI r)) h' := by
  refine g_head hfl ((f_X8_undo a0).2 h r h' hf) (plainFor_of_name (by decide)) (Nat.le_of_ble_eq_true rfl) (fun p e s m below meth c H locs cells slots ls X hI hl9 => ?_)
  have hl : lv_has ls 2 [(0, .ref a0)] := hl9
  have hx := X.1
  have hb := X.2.1
  have hown := X.2.2.2.1
  have hts := X.2.2.2.2.1
  unfold f_X8_undo at hf
  refine lv_aload_n hx hb dX8_undo_0 rfl (lv_at hl 0 rfl) ?_
  refine lv_iconst (v := (0 : Int32)) hx hb dX8_undo_1 (by decide) ?_
  refine g_pi X hI hf fX8_0 q1444 rfl dX8_undo_2 (fun h H locs hf hI => ?_)
  refine lv_aload_n hx hb dX8_undo_5 rfl (lv_at hl 0 rfl) ?_
  refine g_fi X hI hf fX8_7 q1451 rfl rfl dX8_undo_6 (fun v1 hf => ?_)
  refine lv_if_ne (tgt := 14) hx hb dX8_undo_9 (by decide) (fun c9 => ?_) (fun c9 => ?_)
  · have hf := g_f c9 hf
    refine lv_aload_n hx hb dX8_undo_14 rfl (lv_at hl 0 rfl) ?_
    refine lv_dup hx hb dX8_undo_15 rfl ?_
    refine g_fi X hI hf fX8_7 q1451 rfl rfl dX8_undo_16 (fun v2 hf => ?_)
    refine lv_iconst (v := (1 : Int32)) hx hb dX8_undo_19 (by decide) ?_
    refine lv_isub hx hb dX8_undo_20 ?_
    refine g_pi X hI hf fX8_7 q1451 rfl dX8_undo_21 (fun h H locs hf hI => ?_)
    refine lv_iconst (v := (0 : Int32)) hx hb dX8_undo_24 (by decide) ?_
    refine lv_istore_n (lv' := [(1, .int (0 : Int32)), (0, .ref a0)]) hx hb dX8_undo_25 rfl hl (by decide) rfl (fun ls hl => ?_)
    exact b_X8_undo_26 X gN _ _ _ _ _ _ _ _ hf hI (lv_sub hl [1, 0] rfl)
  · have hf := g_t c9 hf
    refine lv_iconst (v := (0 : Int32)) hx hb dX8_undo_12 (by decide) ?_
    cases gRet_e hf
    exact g_retZ X hI (Or.inl rfl) rfl dX8_undo_13
/-! X1_seed -/
def f_X1_seed (a0 : Nat) (x1 : Int32) : gM Int32 :=
    gB (gFR a0 0 1) fun v1 =>
    gB (gFI v1 2 13) fun v2 =>
    gB (gFR a0 0 1) fun v3 =>
    gB (gPI v3 2 13 x1) fun _ =>
    (gRet v2)
set_option maxHeartbeats 4000000 in
set_option maxRecDepth 100000 in
theorem m_X1_seed {G : gG} {l : Launch} (hfl : l.stackTraces = false) {a0 : Nat} {x1 : Int32} {h h' : g_H} {r : Int32} (hf : (f_X1_seed a0 x1).1 h = some (r, h')) : gMet G l yX1_seed (Cond.code yX1_seed cX1_seed 3 (some .int)) 1 20 [.ref a0, .int x1] h (.inl (g_wI r)) h' := by
  refine g_head hfl ((f_X1_seed a0 x1).2 h r h' hf) (plainFor_of_name (by decide)) (Nat.le_of_ble_eq_true rfl) (fun p e s m below meth c H locs cells slots ls X hI hl9 => ?_)
  have hl : lv_has ls 3 [(0, .ref a0), (1, .int x1)] := hl9
  have hx := X.1
  have hb := X.2.1
  have hown := X.2.2.2.1
  have hts := X.2.2.2.2.1
  unfold f_X1_seed at hf
  refine lv_aload_n hx hb dX1_seed_0 rfl (lv_at hl 0 rfl) ?_
  refine g_fr X hI hf fX1_1 q461 rfl rfl dX1_seed_1 (fun v1 hf => ?_)
  refine g_fiN X hI hf fX3_13 q287 rfl rfl dX1_seed_4 (fun v2 hf => ?_)
  refine lv_istore_n (lv' := [(2, .int v2), (0, .ref a0), (1, .int x1)]) hx hb dX1_seed_7 rfl hl (by decide) rfl (fun ls hl => ?_)
  refine lv_aload_n hx hb dX1_seed_8 rfl (lv_at hl 1 rfl) ?_
  refine g_fr X hI hf fX1_1 q461 rfl rfl dX1_seed_9 (fun v3 hf => ?_)
  refine lv_iload_n hx hb dX1_seed_12 rfl (lv_at hl 2 rfl) ?_
  refine g_piN X hI hf fX3_13 q287 rfl dX1_seed_13 (fun h H locs hf hI => ?_)
  refine lv_iload_n hx hb dX1_seed_16 rfl (lv_at hl 0 rfl) ?_
  cases gRet_e hf
  exact g_retI X hI rfl dX1_seed_17
/-! X8_seed -/
def f_X8_seed (a0 : Nat) (x1 : Int32) : gM Int32 :=
    gB (gPI a0 7 0 (0 : Int32)) fun _ =>
    gB (gFR a0 7 1) fun v1 =>
    gB (gAI v1 0 (8 : Int32)) fun v2 =>
    gB (gFR a0 7 1) fun v3 =>
    gB (gSI v3 0 (8 : Int32) x1) fun _ =>
    (gRet v2)
set_option maxHeartbeats 4000000 in
set_option maxRecDepth 100000 in
theorem m_X8_seed {G : gG} {l : Launch} (hfl : l.stackTraces = false) {a0 : Nat} {x1 : Int32} {h h' : g_H} {r : Int32} (hf : (f_X8_seed a0 x1).1 h = some (r, h')) : gMet G l yX8_seed (Cond.code yX8_seed cX8_seed 3 (some .int)) 1 20 [.ref a0, .int x1] h (.inl (g_wI r)) h' := by
  refine g_head hfl ((f_X8_seed a0 x1).2 h r h' hf) (plainFor_of_name (by decide)) (Nat.le_of_ble_eq_true rfl) (fun p e s m below meth c H locs cells slots ls X hI hl9 => ?_)
  have hl : lv_has ls 3 [(0, .ref a0), (1, .int x1)] := hl9
  have hx := X.1
  have hb := X.2.1
  have hown := X.2.2.2.1
  have hts := X.2.2.2.2.1
  unfold f_X8_seed at hf
  refine lv_aload_n hx hb dX8_seed_0 rfl (lv_at hl 0 rfl) ?_
  refine lv_iconst (v := (0 : Int32)) hx hb dX8_seed_1 (by decide) ?_
  refine g_pi X hI hf fX8_0 q1444 rfl dX8_seed_2 (fun h H locs hf hI => ?_)
  refine lv_aload_n hx hb dX8_seed_5 rfl (lv_at hl 0 rfl) ?_
  refine g_fr X hI hf fX8_1 q1445 rfl rfl dX8_seed_6 (fun v1 hf => ?_)
  refine lv_bipush (v := (8 : Int32)) hx hb dX8_seed_9 (by decide) ?_
  refine g_ai0 X hI hf dX8_seed_11 (fun v2 hf => ?_)
  refine lv_istore_n (lv' := [(2, .int v2), (0, .ref a0), (1, .int x1)]) hx hb dX8_seed_12 rfl hl (by decide) rfl (fun ls hl => ?_)
  refine lv_aload_n hx hb dX8_seed_13 rfl (lv_at hl 1 rfl) ?_
  refine g_fr X hI hf fX8_1 q1445 rfl rfl dX8_seed_14 (fun v3 hf => ?_)
  refine lv_bipush (v := (8 : Int32)) hx hb dX8_seed_17 (by decide) ?_
  refine lv_iload_n hx hb dX8_seed_19 rfl (lv_at hl 2 rfl) ?_
  refine g_si0 X hI hf dX8_seed_20 (fun h H locs hf hI => ?_)
  refine lv_iload_n hx hb dX8_seed_21 rfl (lv_at hl 0 rfl) ?_
  cases gRet_e hf
  exact g_retI X hI rfl dX8_seed_22
/-! X1_isIn -/
abbrev w_X1_isIn_15 (G : gG) (l : Launch) (p : Program) (e : Env) (s : State) (m : MethodId) (args : Array Value) (below : List Frame) (meth : Method) (c : Code) (h0 : g_H) (r : Int32) (h' : g_H) (k : Int32 → gM Int32) : Prop := ∀ (u0 : Int32) (h : g_H) (H : Heap) (locs : List Loc) (cells slots : Nat) (ls : Array Slot), (k u0).1 h = some (r, h') → gI G h0 h H locs cells slots → lv_has ls 3 [] → W p l e (g_rm 1 20 h0 h') s m args below meth c H locs cells slots (gQ G below args s h0 h' (.inl (g_wI r))) (F0 m 15 ls [.int u0])
abbrev w_X1_isIn_14 (G : gG) (l : Launch) (p : Program) (e : Env) (s : State) (m : MethodId) (args : Array Value) (below : List Frame) (meth : Method) (c : Code) (h0 : g_H) (r : Int32) (h' : g_H) (k : gM Int32) : Prop := ∀ (h : g_H) (H : Heap) (locs : List Loc) (cells slots : Nat) (ls : Array Slot), (k).1 h = some (r, h') → gI G h0 h H locs cells slots → lv_has ls 3 [] → W p l e (g_rm 1 20 h0 h') s m args below meth c H locs cells slots (gQ G below args s h0 h' (.inl (g_wI r))) (F0 m 14 ls [])
def f_X1_isIn_15 (u0 : Int32) : gM Int32 :=
    gB (gGd (u0 = 0 ∨ u0 = 1)) fun _ =>
    (gRet u0)
set_option maxHeartbeats 4000000 in
set_option maxRecDepth 100000 in
theorem b_X1_isIn_15 {G : gG} {l : Launch} {p : Program} {e : Env} {s : State} {m : MethodId} {args : Array Value} {below : List Frame} {meth : Method} {c : Code} {h0 : g_H} {r : Int32} {h' : g_H} (X : gX G l yX1_isIn.cls cX1_isIn 3 (some .boolean) [] yX1_isIn.name p s m args meth c) : w_X1_isIn_15 G l p e s m args below meth c h0 r h' (f_X1_isIn_15) := by
  have hx := X.1
  have hb := X.2.1
  have hown := X.2.2.2.1
  have hts := X.2.2.2.2.1
  intro u0 h H locs cells slots ls hf hI hl
  unfold f_X1_isIn_15 at hf
  obtain ⟨hz, hf⟩ := gB_gd hf
  cases gRet_e hf
  exact g_retZ X hI hz rfl dX1_isIn_15
def f_X1_isIn_14 : gM Int32 :=
    f_X1_isIn_15 (0 : Int32)
set_option maxHeartbeats 4000000 in
set_option maxRecDepth 100000 in
theorem b_X1_isIn_14 {G : gG} {l : Launch} {p : Program} {e : Env} {s : State} {m : MethodId} {args : Array Value} {below : List Frame} {meth : Method} {c : Code} {h0 : g_H} {r : Int32} {h' : g_H} (X : gX G l yX1_isIn.cls cX1_isIn 3 (some .boolean) [] yX1_isIn.name p s m args meth c) : w_X1_isIn_14 G l p e s m args below meth c h0 r h' (f_X1_isIn_14) := by
  have hx := X.1
  have hb := X.2.1
  have hown := X.2.2.2.1
  have hts := X.2.2.2.2.1
  intro h H locs cells slots ls hf hI hl
  unfold f_X1_isIn_14 at hf
  refine lv_iconst (v := (0 : Int32)) hx hb dX1_isIn_14 (by decide) ?_
  exact b_X1_isIn_15 X _ _ _ _ _ _ _ hf hI (lv_sub hl [] rfl)
def f_X1_isIn (x0 : Int32) (x1 : Int32) (x2 : Int32) : gM Int32 :=
    gIf (x0 < x1)
    (f_X1_isIn_14)
    (gIf (x2 < x0)
    (f_X1_isIn_14)
    (f_X1_isIn_15 (1 : Int32)))
set_option maxHeartbeats 4000000 in
set_option maxRecDepth 100000 in
theorem m_X1_isIn {G : gG} {l : Launch} (hfl : l.stackTraces = false) {x0 : Int32} {x1 : Int32} {x2 : Int32} {h h' : g_H} {r : Int32} (hf : (f_X1_isIn x0 x1 x2).1 h = some (r, h')) : gMet G l yX1_isIn (Cond.code yX1_isIn cX1_isIn 3 (some .boolean)) 1 20 [.int x0, .int x1, .int x2] h (.inl (g_wI r)) h' := by
  refine g_head hfl ((f_X1_isIn x0 x1 x2).2 h r h' hf) (plainFor_of_name (by decide)) (Nat.le_of_ble_eq_true rfl) (fun p e s m below meth c H locs cells slots ls X hI hl9 => ?_)
  have hl : lv_has ls 3 [(0, .int x0), (1, .int x1), (2, .int x2)] := hl9
  have hx := X.1
  have hb := X.2.1
  have hown := X.2.2.2.1
  have hts := X.2.2.2.2.1
  unfold f_X1_isIn at hf
  refine lv_iload_n hx hb dX1_isIn_0 rfl (lv_at hl 0 rfl) ?_
  refine lv_iload_n hx hb dX1_isIn_1 rfl (lv_at hl 1 rfl) ?_
  refine lv_icmp_lt (tgt := 14) hx hb dX1_isIn_2 (by decide) (fun c2 => ?_) (fun c2 => ?_)
  · have hf := g_t c2 hf
    exact b_X1_isIn_14 X _ _ _ _ _ _ hf hI (lv_sub hl [] rfl)
  · have hf := g_f c2 hf
    refine lv_iload_n hx hb dX1_isIn_5 rfl (lv_at hl 0 rfl) ?_
    refine lv_iload_n hx hb dX1_isIn_6 rfl (lv_at hl 2 rfl) ?_
    refine lv_icmp_gt (tgt := 14) hx hb dX1_isIn_7 (by decide) (fun c7 => ?_) (fun c7 => ?_)
    · have hf := g_t c7 hf
      exact b_X1_isIn_14 X _ _ _ _ _ _ hf hI (lv_sub hl [] rfl)
    · have hf := g_f c7 hf
      refine lv_iconst (v := (1 : Int32)) hx hb dX1_isIn_10 (by decide) ?_
      refine lv_goto (tgt := 15) hx hb dX1_isIn_11 (by decide) ?_
      exact b_X1_isIn_15 X _ _ _ _ _ _ _ hf hI (lv_sub hl [] rfl)
/-! X1_thereIs -/
def f_X1_thereIs (x0 : Int32) : gM (Unit ⊕ gE) :=
    gIf (x0 = 0)
    (gB (gNew 20 6) fun a1 =>
    gB (gCk a1 20) fun _ =>
    gRet (.inr (20, a1)))
    (gRet (.inl ()))
set_option maxHeartbeats 4000000 in
set_option maxRecDepth 100000 in
theorem m_X1_thereIs {G : gG} {l : Launch} (hfl : l.stackTraces = false) {x0 : Int32} {h h' : g_H} {r : (Unit ⊕ gE)} (hf : (f_X1_thereIs x0).1 h = some (r, h')) : gMet G l yX1_thereIs (Cond.code yX1_thereIs cX1_thereIs 1 none) 6 89 [.int x0] h (g_w g_wU r) h' := by
  refine g_head hfl ((f_X1_thereIs x0).2 h r h' hf) (plainFor_of_name (by decide)) (Nat.le_of_ble_eq_true rfl) (fun p e s m below meth c H locs cells slots ls X hI hl9 => ?_)
  have hl : lv_has ls 1 [(0, .int x0)] := hl9
  have hx := X.1
  have hb := X.2.1
  have hown := X.2.2.2.1
  have hts := X.2.2.2.2.1
  unfold f_X1_thereIs at hf
  refine lv_iload_n hx hb dX1_thereIs_0 rfl (lv_at hl 0 rfl) ?_
  refine lv_if_ne (tgt := 12) hx hb dX1_thereIs_1 (by decide) (fun c1 => ?_) (fun c1 => ?_)
  · have hf := g_f c1 hf
    cases gRet_e hf
    exact g_retU X hI rfl dX1_thereIs_12
  · have hf := g_t c1 hf
    refine g_make (names := ["java/lang/RuntimeException", "java/lang/Exception"]) (ik := 79) (ic := 81) (cls := "java/util/NoSuchElementException") X hI hf ⟨Nat.le_refl _, Nat.le_refl _⟩ rfl rfl rfl rfl (by decide) (by decide) q1157 q150 (g_hat X x20_1 x20_2) (List.all_eq_true.mp x20_3) hl.1 dX1_thereIs_4 dX1_thereIs_7 dX1_thereIs_8 (Nat.lt_of_lt_of_le (show 2 + 3 < 6 by decide) (Nat.le_of_ble_eq_true rfl)) (Nat.le_of_ble_eq_true rfl) (Nat.le_of_ble_eq_true rfl) (fun a1 h H cells slots hf hI => ?_)
    obtain ⟨hs, hf⟩ := gCk_b hf
    cases gRet_e hf
    exact g_athrow X hI (by decide) hs rfl rfl dX1_thereIs_11
/-! X3_isKept -/
abbrev w_X3_isKept_22 (G : gG) (l : Launch) (p : Program) (e : Env) (s : State) (m : MethodId) (args : Array Value) (below : List Frame) (meth : Method) (c : Code) (h0 : g_H) (r : Int32) (h' : g_H) (k : Int32 → gM Int32) : Prop := ∀ (u0 : Int32) (h : g_H) (H : Heap) (locs : List Loc) (cells slots : Nat) (ls : Array Slot), (k u0).1 h = some (r, h') → gI G h0 h H locs cells slots → lv_has ls 2 [] → W p l e (g_rm 2 41 h0 h') s m args below meth c H locs cells slots (gQ G below args s h0 h' (.inl (g_wI r))) (F0 m 22 ls [.int u0])
abbrev w_X3_isKept_21 (G : gG) (l : Launch) (p : Program) (e : Env) (s : State) (m : MethodId) (args : Array Value) (below : List Frame) (meth : Method) (c : Code) (h0 : g_H) (r : Int32) (h' : g_H) (k : gM Int32) : Prop := ∀ (h : g_H) (H : Heap) (locs : List Loc) (cells slots : Nat) (ls : Array Slot), (k).1 h = some (r, h') → gI G h0 h H locs cells slots → lv_has ls 2 [] → W p l e (g_rm 2 41 h0 h') s m args below meth c H locs cells slots (gQ G below args s h0 h' (.inl (g_wI r))) (F0 m 21 ls [])
def f_X3_isKept_22 (u0 : Int32) : gM Int32 :=
    gB (gGd (u0 = 0 ∨ u0 = 1)) fun _ =>
    (gRet u0)
set_option maxHeartbeats 4000000 in
set_option maxRecDepth 100000 in
theorem b_X3_isKept_22 {G : gG} {l : Launch} {p : Program} {e : Env} {s : State} {m : MethodId} {args : Array Value} {below : List Frame} {meth : Method} {c : Code} {h0 : g_H} {r : Int32} {h' : g_H} (X : gX G l yX3_isKept.cls cX3_isKept 2 (some .boolean) [] yX3_isKept.name p s m args meth c) : w_X3_isKept_22 G l p e s m args below meth c h0 r h' (f_X3_isKept_22) := by
  have hx := X.1
  have hb := X.2.1
  have hown := X.2.2.2.1
  have hts := X.2.2.2.2.1
  intro u0 h H locs cells slots ls hf hI hl
  unfold f_X3_isKept_22 at hf
  obtain ⟨hz, hf⟩ := gB_gd hf
  cases gRet_e hf
  exact g_retZ X hI hz rfl dX3_isKept_22
def f_X3_isKept_21 : gM Int32 :=
    f_X3_isKept_22 (0 : Int32)
set_option maxHeartbeats 4000000 in
set_option maxRecDepth 100000 in
theorem b_X3_isKept_21 {G : gG} {l : Launch} {p : Program} {e : Env} {s : State} {m : MethodId} {args : Array Value} {below : List Frame} {meth : Method} {c : Code} {h0 : g_H} {r : Int32} {h' : g_H} (X : gX G l yX3_isKept.cls cX3_isKept 2 (some .boolean) [] yX3_isKept.name p s m args meth c) : w_X3_isKept_21 G l p e s m args below meth c h0 r h' (f_X3_isKept_21) := by
  have hx := X.1
  have hb := X.2.1
  have hown := X.2.2.2.1
  have hts := X.2.2.2.2.1
  intro h H locs cells slots ls hf hI hl
  unfold f_X3_isKept_21 at hf
  refine lv_iconst (v := (0 : Int32)) hx hb dX3_isKept_21 (by decide) ?_
  exact b_X3_isKept_22 X _ _ _ _ _ _ _ hf hI (lv_sub hl [] rfl)
def f_X3_isKept (a0 : Nat) (x1 : Int32) : gM Int32 :=
    gIf (x1 < 0)
    (f_X3_isKept_21)
    (gB (gFI a0 2 14) fun v1 =>
    gB (f_J13_min (60 : Int32) v1) fun r2 =>
    gIf (r2 ≤ x1)
    (f_X3_isKept_21)
    (f_X3_isKept_22 (1 : Int32)))
set_option maxHeartbeats 4000000 in
set_option maxRecDepth 100000 in
theorem m_X3_isKept {G : gG} {l : Launch} (hfl : l.stackTraces = false) {a0 : Nat} {x1 : Int32} {h h' : g_H} {r : Int32} (hf : (f_X3_isKept a0 x1).1 h = some (r, h')) : gMet G l yX3_isKept (Cond.code yX3_isKept cX3_isKept 2 (some .boolean)) 2 41 [.ref a0, .int x1] h (.inl (g_wI r)) h' := by
  refine g_head hfl ((f_X3_isKept a0 x1).2 h r h' hf) (plainFor_of_name (by decide)) (Nat.le_of_ble_eq_true rfl) (fun p e s m below meth c H locs cells slots ls X hI hl9 => ?_)
  have hl : lv_has ls 2 [(0, .ref a0), (1, .int x1)] := hl9
  have hx := X.1
  have hb := X.2.1
  have hown := X.2.2.2.1
  have hts := X.2.2.2.2.1
  unfold f_X3_isKept at hf
  refine lv_iload_n hx hb dX3_isKept_0 rfl (lv_at hl 1 rfl) ?_
  refine lv_if_lt (tgt := 21) hx hb dX3_isKept_1 (by decide) (fun c1 => ?_) (fun c1 => ?_)
  · have hf := g_t c1 hf
    exact b_X3_isKept_21 X _ _ _ _ _ _ hf hI (lv_sub hl [] rfl)
  · have hf := g_f c1 hf
    refine lv_iload_n hx hb dX3_isKept_4 rfl (lv_at hl 1 rfl) ?_
    refine lv_bipush (v := (60 : Int32)) hx hb dX3_isKept_5 (by decide) ?_
    refine lv_aload_n hx hb dX3_isKept_7 rfl (lv_at hl 0 rfl) ?_
    refine g_fi X hI hf fX3_14 q288 rfl rfl dX3_isKept_8 (fun v1 hf => ?_)
    refine g_cBI hI hf (fun v9 h9 e9 l9 l9' => g_rS (b := 0) X hI l9 l9' ⟨Nat.le_refl _, Nat.le_refl _⟩ (As := [.int (60 : Int32), .int v1]) (m_J13_min X.2.2.2.2.2.2.2.2.2.2.1 e9) ydJ13_min q1418 q740 q151 q741 rfl (Nat.le_of_ble_eq_true rfl) (Nat.le_of_ble_eq_true rfl) hl.1 rfl (Nat.le_of_ble_eq_true rfl) dX3_isKept_11) (fun r2 h H locs cells slots hf hI => ?_)
    refine lv_icmp_ge (tgt := 21) hx hb dX3_isKept_14 (by decide) (fun c14 => ?_) (fun c14 => ?_)
    · have hf := g_t c14 hf
      exact b_X3_isKept_21 X _ _ _ _ _ _ hf hI (lv_sub hl [] rfl)
    · have hf := g_f c14 hf
      refine lv_iconst (v := (1 : Int32)) hx hb dX3_isKept_17 (by decide) ?_
      refine lv_goto (tgt := 22) hx hb dX3_isKept_18 (by decide) ?_
      exact b_X3_isKept_22 X _ _ _ _ _ _ _ hf hI (lv_sub hl [] rfl)
/-! X3_row -/
abbrev w_X3_row_32 (G : gG) (l : Launch) (p : Program) (e : Env) (s : State) (m : MethodId) (args : Array Value) (below : List Frame) (meth : Method) (c : Code) (h0 : g_H) (r : Int32) (h' : g_H) (k : Int32 → gM Int32) : Prop := ∀ (u0 : Int32) (h : g_H) (H : Heap) (locs : List Loc) (cells slots : Nat) (ls : Array Slot), (k u0).1 h = some (r, h') → gI G h0 h H locs cells slots → lv_has ls 3 [] → W p l e (g_rm 3 62 h0 h') s m args below meth c H locs cells slots (gQ G below args s h0 h' (.inl (g_wI r))) (F0 m 32 ls [.int u0])
def f_X3_row_32 (u0 : Int32) : gM Int32 :=
    (gRet u0)
set_option maxHeartbeats 4000000 in
set_option maxRecDepth 100000 in
theorem b_X3_row_32 {G : gG} {l : Launch} {p : Program} {e : Env} {s : State} {m : MethodId} {args : Array Value} {below : List Frame} {meth : Method} {c : Code} {h0 : g_H} {r : Int32} {h' : g_H} (X : gX G l yX3_row.cls cX3_row 3 (some .int) [] yX3_row.name p s m args meth c) : w_X3_row_32 G l p e s m args below meth c h0 r h' (f_X3_row_32) := by
  have hx := X.1
  have hb := X.2.1
  have hown := X.2.2.2.1
  have hts := X.2.2.2.2.1
  intro u0 h H locs cells slots ls hf hI hl
  unfold f_X3_row_32 at hf
  cases gRet_e hf
  exact g_retI X hI rfl dX3_row_32
def f_X3_row (a0 : Nat) (x1 : Int32) (x2 : Int32) : gM Int32 :=
    gB (gCk a0 2) fun _ =>
    gB (f_X3_isKept a0 x1) fun r1 =>
    gIf (r1 = 0)
    (f_X3_row_32 (-1 : Int32))
    (gB (gFR a0 2 5) fun v2 =>
    gB (gFI a0 2 14) fun v3 =>
    gB (gAI v2 0 (((((v3 - (1 : Int32)) - x1) - ((v3 - (1 : Int32)) - x1) / (60 : Int32) * (60 : Int32)) * (4 : Int32)) + x2)) fun v4 =>
    f_X3_row_32 v4)
set_option maxHeartbeats 4000000 in
set_option maxRecDepth 100000 in
theorem m_X3_row {G : gG} {l : Launch} (hfl : l.stackTraces = false) {a0 : Nat} {x1 : Int32} {x2 : Int32} {h h' : g_H} {r : Int32} (hf : (f_X3_row a0 x1 x2).1 h = some (r, h')) : gMet G l yX3_row (Cond.code yX3_row cX3_row 3 (some .int)) 3 62 [.ref a0, .int x1, .int x2] h (.inl (g_wI r)) h' := by
  refine g_head hfl ((f_X3_row a0 x1 x2).2 h r h' hf) (plainFor_of_name (by decide)) (Nat.le_of_ble_eq_true rfl) (fun p e s m below meth c H locs cells slots ls X hI hl9 => ?_)
  have hl : lv_has ls 3 [(0, .ref a0), (1, .int x1), (2, .int x2)] := hl9
  have hx := X.1
  have hb := X.2.1
  have hown := X.2.2.2.1
  have hts := X.2.2.2.2.1
  unfold f_X3_row at hf
  refine lv_aload_n hx hb dX3_row_0 rfl (lv_at hl 0 rfl) ?_
  refine lv_iload_n hx hb dX3_row_1 rfl (lv_at hl 1 rfl) ?_
  obtain ⟨hs, hf⟩ := gCk_b hf
  refine g_cBI hI hf (fun v9 h9 e9 l9 l9' => g_rV X hI l9 l9' ⟨Nat.le_refl _, Nat.le_refl _⟩ (As := [.int x1]) (m_X3_isKept X.2.2.2.2.2.2.2.2.2.2.1 e9) ydX3_isKept hs rfl rfl q1423 q1415 q1416 q123 q1417 rfl (Nat.le_of_ble_eq_true rfl) (Nat.le_of_ble_eq_true rfl) hl.1 rfl (Nat.le_of_ble_eq_true rfl) dX3_row_2) (fun r1 h H locs cells slots hf hI => ?_)
  refine lv_if_eq (tgt := 31) hx hb dX3_row_5 (by decide) (fun c5 => ?_) (fun c5 => ?_)
  · have hf := g_t c5 hf
    refine lv_iconst (v := (-1 : Int32)) hx hb dX3_row_31 (by decide) ?_
    exact b_X3_row_32 X _ _ _ _ _ _ _ hf hI (lv_sub hl [] rfl)
  · have hf := g_f c5 hf
    refine lv_aload_n hx hb dX3_row_8 rfl (lv_at hl 0 rfl) ?_
    refine g_fr X hI hf fX3_5 q266 rfl rfl dX3_row_9 (fun v2 hf => ?_)
    refine lv_aload_n hx hb dX3_row_12 rfl (lv_at hl 0 rfl) ?_
    refine g_fi X hI hf fX3_14 q288 rfl rfl dX3_row_13 (fun v3 hf => ?_)
    refine lv_iconst (v := (1 : Int32)) hx hb dX3_row_16 (by decide) ?_
    refine lv_isub hx hb dX3_row_17 ?_
    refine lv_iload_n hx hb dX3_row_18 rfl (lv_at hl 1 rfl) ?_
    refine lv_isub hx hb dX3_row_19 ?_
    refine lv_bipush (v := (60 : Int32)) hx hb dX3_row_20 (by decide) ?_
    refine lv_irem hx hb dX3_row_22 (by decide) ?_
    refine lv_iconst (v := (4 : Int32)) hx hb dX3_row_23 (by decide) ?_
    refine lv_imul hx hb dX3_row_24 ?_
    refine lv_iload_n hx hb dX3_row_25 rfl (lv_at hl 2 rfl) ?_
    refine lv_iadd hx hb dX3_row_26 ?_
    refine g_ai0 X hI hf dX3_row_27 (fun v4 hf => ?_)
    refine lv_goto (tgt := 32) hx hb dX3_row_28 (by decide) ?_
    exact b_X3_row_32 X _ _ _ _ _ _ _ hf hI (lv_sub hl [] rfl)
/-! X1_log -/
def f_X1_log (a0 : Nat) (x1 : Int32) (x2 : Int32) : gM (Int32 ⊕ gE) :=
    gB (f_X1_isIn x2 (0 : Int32) (3 : Int32)) fun r1 =>
    gT (f_X1_thereIs r1) fun _ =>
    gB (gFR a0 0 1) fun v3 =>
    gB (gCk v3 2) fun _ =>
    gB (f_X3_row v3 x1 x2) fun r4 =>
    (gRet (.inl r4))
set_option maxHeartbeats 4000000 in
set_option maxRecDepth 100000 in
theorem m_X1_log {G : gG} {l : Launch} (hfl : l.stackTraces = false) {a0 : Nat} {x1 : Int32} {x2 : Int32} {h h' : g_H} {r : (Int32 ⊕ gE)} (hf : (f_X1_log a0 x1 x2).1 h = some (r, h')) : gMet G l yX1_log (Cond.code yX1_log cX1_log 3 (some .int)) 7 109 [.ref a0, .int x1, .int x2] h (g_w g_wI r) h' := by
  refine g_head hfl ((f_X1_log a0 x1 x2).2 h r h' hf) (plainFor_of_name (by decide)) (Nat.le_of_ble_eq_true rfl) (fun p e s m below meth c H locs cells slots ls X hI hl9 => ?_)
  have hl : lv_has ls 3 [(0, .ref a0), (1, .int x1), (2, .int x2)] := hl9
  have hx := X.1
  have hb := X.2.1
  have hown := X.2.2.2.1
  have hts := X.2.2.2.2.1
  unfold f_X1_log at hf
  refine lv_iload_n hx hb dX1_log_0 rfl (lv_at hl 2 rfl) ?_
  refine lv_iconst (v := (0 : Int32)) hx hb dX1_log_1 (by decide) ?_
  refine lv_iconst (v := (3 : Int32)) hx hb dX1_log_2 (by decide) ?_
  refine g_cBI hI hf (fun v9 h9 e9 l9 l9' => g_rS (b := 0) X hI l9 l9' ⟨Nat.le_refl _, Nat.le_refl _⟩ (As := [.int x2, .int (0 : Int32), .int (3 : Int32)]) (m_X1_isIn X.2.2.2.2.2.2.2.2.2.2.1 e9) ydX1_isIn q532 q533 q121 q534 rfl (Nat.le_of_ble_eq_true rfl) (Nat.le_of_ble_eq_true rfl) hl.1 rfl (Nat.le_of_ble_eq_true rfl) dX1_log_3) (fun r1 h H locs cells slots hf hI => ?_)
  refine g_cTU X hI (by decide) hf (fun v9 h9 e9 l9 l9' => g_rS (b := 0) X hI l9 l9' ⟨Nat.le_refl _, Nat.le_refl _⟩ (As := [.int r1]) (m_X1_thereIs X.2.2.2.2.2.2.2.2.2.2.1 e9) ydX1_thereIs q1431 q1432 q121 q1433 rfl (Nat.le_of_ble_eq_true rfl) (Nat.le_of_ble_eq_true rfl) hl.1 rfl (Nat.le_of_ble_eq_true rfl) dX1_log_6) (fun r2 h H locs cells slots hf hI => ?_)
  refine lv_aload_n hx hb dX1_log_9 rfl (lv_at hl 0 rfl) ?_
  refine g_fr X hI hf fX1_1 q461 rfl rfl dX1_log_10 (fun v3 hf => ?_)
  refine lv_iload_n hx hb dX1_log_13 rfl (lv_at hl 1 rfl) ?_
  refine lv_iload_n hx hb dX1_log_14 rfl (lv_at hl 2 rfl) ?_
  obtain ⟨hs, hf⟩ := gCk_b hf
  refine g_cBI hI hf (fun v9 h9 e9 l9 l9' => g_rV X hI l9 l9' ⟨Nat.le_refl _, Nat.le_refl _⟩ (As := [.int x1, .int x2]) (m_X3_row X.2.2.2.2.2.2.2.2.2.2.1 e9) ydX3_row hs rfl rfl q1419 q1420 q1421 q123 q1422 rfl (Nat.le_of_ble_eq_true rfl) (Nat.le_of_ble_eq_true rfl) hl.1 rfl (Nat.le_of_ble_eq_true rfl) dX1_log_15) (fun r4 h H locs cells slots hf hI => ?_)
  cases gRet_e hf
  exact g_retI X hI rfl dX1_log_18
/-! X0_log -/
def f_X0_log (a0 : Nat) (x1 : Int32) (x2 : Int32) (a3 : Nat) : gM Int32 :=
    gB (gCk a0 0) fun _ =>
    gB (f_X1_log a0 x1 x2) fun r9 => match r9 with
    | .inl r1 => (gB (gSI a3 2 (0 : Int32) (r1)) fun _ =>
    (gRet (0 : Int32)))
    | .inr x9 => (gIf (x9.1 = 20)
    ((gRet (1 : Int32)))
    (gFail))
set_option maxHeartbeats 4000000 in
set_option maxRecDepth 100000 in
theorem m_X0_log {G : gG} {l : Launch} (hfl : l.stackTraces = false) {a0 : Nat} {x1 : Int32} {x2 : Int32} {a3 : Nat} {h h' : g_H} {r : Int32} (hf : (f_X0_log a0 x1 x2 a3).1 h = some (r, h')) : gMet G l yX0_log (Cond.codeWith yX0_log cX0_log 5 (some .int) [(0, 10, 13, 26)]) 8 131 [.ref a0, .int x1, .int x2, .ref a3] h (.inl (g_wI r)) h' := by
  refine g_headW hfl ((f_X0_log a0 x1 x2 a3).2 h r h' hf) (plainFor_of_name (by decide)) (Nat.le_of_ble_eq_true rfl) (fun p e s m below meth c H locs cells slots ls X hI hl9 => ?_)
  have hl : lv_has ls 5 [(0, .ref a0), (1, .int x1), (2, .int x2), (3, .ref a3)] := hl9
  have hx := X.1
  have hb := X.2.1
  have hown := X.2.2.2.1
  have hts := X.2.2.2.2.1
  unfold f_X0_log at hf
  refine lv_aload_n hx hb dX0_log_0 rfl (lv_at hl 3 rfl) ?_
  refine lv_iconst (v := (0 : Int32)) hx hb dX0_log_1 (by decide) ?_
  refine lv_aload_n hx hb dX0_log_2 rfl (lv_at hl 0 rfl) ?_
  refine lv_iload_n hx hb dX0_log_3 rfl (lv_at hl 1 rfl) ?_
  refine lv_iload_n hx hb dX0_log_4 rfl (lv_at hl 2 rfl) ?_
  obtain ⟨hs, hf⟩ := gCk_b hf
  refine g_cHI hI hf (fun v9 h9 e9 l9 l9' => g_rV X hI l9 l9' ⟨Nat.le_refl _, Nat.le_refl _⟩ (As := [.int x1, .int x2]) (m_X1_log X.2.2.2.2.2.2.2.2.2.2.1 e9) ydX1_log hs rfl rfl q1427 q1428 q1429 q121 q1430 rfl (Nat.le_of_ble_eq_true rfl) (Nat.le_of_ble_eq_true rfl) hl.1 rfl (Nat.le_of_ble_eq_true rfl) dX0_log_5) (fun r1 h H locs cells slots hf hI => ?_) ?_
  · refine lv_i2l hx hb dX0_log_8 rfl ?_
    refine g_si2 X hI hf dX0_log_9 (fun h H locs hf hI => ?_)
    refine lv_goto (tgt := 17) hx hb dX0_log_10 (by decide) ?_
    refine lv_iconst (v := (0 : Int32)) hx hb dX0_log_17 (by decide) ?_
    cases gRet_e hf
    exact g_retI X hI rfl dX0_log_18
  · intro ci9 x9 h H locs cells slots r9 ce9 hf hr9 hI hce hcv hcl
    by_cases k0 : ci9 = 20
    · subst k0
      cases hr9
      have hf := g_t rfl hf
      refine g_catch0 X hI (name := "java/util/NoSuchElementException") rfl (by rfl) (by decide) (by decide) q1130 q1159 hce hcv hcl ?_
      refine lv_astore (lv' := [(4, .ref x9), (0, .ref a0), (1, .int x1), (2, .int x2), (3, .ref a3)]) hx hb dX0_log_13 hl (by decide) rfl (fun ls hl => ?_)
      refine lv_iconst (v := (1 : Int32)) hx hb dX0_log_15 (by decide) ?_
      cases gRet_e hf
      exact g_retI X hI rfl dX0_log_16
    have hf := g_f k0 hf
    exact (gFail_f hf).elim
/-! X8_throwsIf -/
abbrev w_X8_throwsIf_9 (G : gG) (l : Launch) (p : Program) (e : Env) (s : State) (m : MethodId) (args : Array Value) (below : List Frame) (meth : Method) (c : Code) (h0 : g_H) (r : Int32) (h' : g_H) (k : Int32 → gM Int32) : Prop := ∀ (x1 : Int32) (h : g_H) (H : Heap) (locs : List Loc) (cells slots : Nat) (ls : Array Slot), (k x1).1 h = some (r, h') → gI G h0 h H locs cells slots → lv_has ls 3 [(1, .int x1)] → W p l e (g_rm 1 20 h0 h') s m args below meth c H locs cells slots (gQ G below args s h0 h' (.inl (g_wI r))) (F0 m 9 ls [])
def f_X8_throwsIf_9 (x1 : Int32) : gM Int32 :=
    gB (gGd (x1 = 0 ∨ x1 = 1)) fun _ =>
    (gRet x1)
set_option maxHeartbeats 4000000 in
set_option maxRecDepth 100000 in
theorem b_X8_throwsIf_9 {G : gG} {l : Launch} {p : Program} {e : Env} {s : State} {m : MethodId} {args : Array Value} {below : List Frame} {meth : Method} {c : Code} {h0 : g_H} {r : Int32} {h' : g_H} (X : gX G l yX8_throwsIf.cls cX8_throwsIf 3 (some .boolean) [] yX8_throwsIf.name p s m args meth c) : w_X8_throwsIf_9 G l p e s m args below meth c h0 r h' (f_X8_throwsIf_9) := by
  have hx := X.1
  have hb := X.2.1
  have hown := X.2.2.2.1
  have hts := X.2.2.2.2.1
  intro x1 h H locs cells slots ls hf hI hl
  unfold f_X8_throwsIf_9 at hf
  refine lv_iload_n hx hb dX8_throwsIf_9 rfl (lv_at hl 0 rfl) ?_
  obtain ⟨hz, hf⟩ := gB_gd hf
  cases gRet_e hf
  exact g_retZ X hI hz rfl dX8_throwsIf_10
def f_X8_throwsIf (a0 : Nat) (x1 : Int32) (x2 : Int32) : gM Int32 :=
    gIf (x1 = 0)
    (f_X8_throwsIf_9 x1)
    (gB (gPI a0 7 0 x2) fun _ =>
    f_X8_throwsIf_9 x1)
set_option maxHeartbeats 4000000 in
set_option maxRecDepth 100000 in
theorem m_X8_throwsIf {G : gG} {l : Launch} (hfl : l.stackTraces = false) {a0 : Nat} {x1 : Int32} {x2 : Int32} {h h' : g_H} {r : Int32} (hf : (f_X8_throwsIf a0 x1 x2).1 h = some (r, h')) : gMet G l yX8_throwsIf (Cond.code yX8_throwsIf cX8_throwsIf 3 (some .boolean)) 1 20 [.ref a0, .int x1, .int x2] h (.inl (g_wI r)) h' := by
  refine g_head hfl ((f_X8_throwsIf a0 x1 x2).2 h r h' hf) (plainFor_of_name (by decide)) (Nat.le_of_ble_eq_true rfl) (fun p e s m below meth c H locs cells slots ls X hI hl9 => ?_)
  have hl : lv_has ls 3 [(0, .ref a0), (1, .int x1), (2, .int x2)] := hl9
  have hx := X.1
  have hb := X.2.1
  have hown := X.2.2.2.1
  have hts := X.2.2.2.2.1
  unfold f_X8_throwsIf at hf
  refine lv_iload_n hx hb dX8_throwsIf_0 rfl (lv_at hl 1 rfl) ?_
  refine lv_if_eq (tgt := 9) hx hb dX8_throwsIf_1 (by decide) (fun c1 => ?_) (fun c1 => ?_)
  · have hf := g_t c1 hf
    exact b_X8_throwsIf_9 X _ _ _ _ _ _ _ hf hI (lv_sub hl [1] rfl)
  · have hf := g_f c1 hf
    refine lv_aload_n hx hb dX8_throwsIf_4 rfl (lv_at hl 0 rfl) ?_
    refine lv_iload_n hx hb dX8_throwsIf_5 rfl (lv_at hl 2 rfl) ?_
    refine g_pi X hI hf fX8_0 q1444 rfl dX8_throwsIf_6 (fun h H locs hf hI => ?_)
    exact b_X8_throwsIf_9 X _ _ _ _ _ _ _ hf hI (lv_sub hl [1] rfl)
/-! X8_ofLog -/
def f_X8_ofLog (a0 : Nat) (x1 : Int32) (x2 : Int32) : gM Int32 :=
    gB (gFR a0 7 1) fun v1 =>
    gB (gAI v1 0 (((65 : Int32) + ((4 : Int32) * x1)) + x2)) fun v2 =>
    (gRet v2)
set_option maxHeartbeats 4000000 in
set_option maxRecDepth 100000 in
theorem m_X8_ofLog {G : gG} {l : Launch} (hfl : l.stackTraces = false) {a0 : Nat} {x1 : Int32} {x2 : Int32} {h h' : g_H} {r : Int32} (hf : (f_X8_ofLog a0 x1 x2).1 h = some (r, h')) : gMet G l yX8_ofLog (Cond.code yX8_ofLog cX8_ofLog 3 (some .int)) 1 20 [.ref a0, .int x1, .int x2] h (.inl (g_wI r)) h' := by
  refine g_head hfl ((f_X8_ofLog a0 x1 x2).2 h r h' hf) (plainFor_of_name (by decide)) (Nat.le_of_ble_eq_true rfl) (fun p e s m below meth c H locs cells slots ls X hI hl9 => ?_)
  have hl : lv_has ls 3 [(0, .ref a0), (1, .int x1), (2, .int x2)] := hl9
  have hx := X.1
  have hb := X.2.1
  have hown := X.2.2.2.1
  have hts := X.2.2.2.2.1
  unfold f_X8_ofLog at hf
  refine lv_aload_n hx hb dX8_ofLog_0 rfl (lv_at hl 0 rfl) ?_
  refine g_fr X hI hf fX8_1 q1445 rfl rfl dX8_ofLog_1 (fun v1 hf => ?_)
  refine lv_bipush (v := (65 : Int32)) hx hb dX8_ofLog_4 (by decide) ?_
  refine lv_iconst (v := (4 : Int32)) hx hb dX8_ofLog_6 (by decide) ?_
  refine lv_iload_n hx hb dX8_ofLog_7 rfl (lv_at hl 1 rfl) ?_
  refine lv_imul hx hb dX8_ofLog_8 ?_
  refine lv_iadd hx hb dX8_ofLog_9 ?_
  refine lv_iload_n hx hb dX8_ofLog_10 rfl (lv_at hl 2 rfl) ?_
  refine lv_iadd hx hb dX8_ofLog_11 ?_
  refine g_ai0 X hI hf dX8_ofLog_12 (fun v2 hf => ?_)
  cases gRet_e hf
  exact g_retI X hI rfl dX8_ofLog_13
/-! X8_log -/
abbrev w_X8_log_56 (G : gG) (l : Launch) (p : Program) (e : Env) (s : State) (m : MethodId) (args : Array Value) (below : List Frame) (meth : Method) (c : Code) (h0 : g_H) (r : Int32) (h' : g_H) (k : Int32 → gM Int32) : Prop := ∀ (u0 : Int32) (h : g_H) (H : Heap) (locs : List Loc) (cells slots : Nat) (ls : Array Slot), (k u0).1 h = some (r, h') → gI G h0 h H locs cells slots → lv_has ls 3 [] → W p l e (g_rm 2 42 h0 h') s m args below meth c H locs cells slots (gQ G below args s h0 h' (.inl (g_wI r))) (F0 m 56 ls [.int u0])
abbrev w_X8_log_20 (G : gG) (l : Launch) (p : Program) (e : Env) (s : State) (m : MethodId) (args : Array Value) (below : List Frame) (meth : Method) (c : Code) (h0 : g_H) (r : Int32) (h' : g_H) (k : Nat → Int32 → Int32 → Nat → Int32 → gM Int32) : Prop := ∀ (a0 : Nat) (x1 : Int32) (x2 : Int32) (b0 : Nat) (u1 : Int32) (h : g_H) (H : Heap) (locs : List Loc) (cells slots : Nat) (ls : Array Slot), (k a0 x1 x2 b0 u1).1 h = some (r, h') → gI G h0 h H locs cells slots → lv_has ls 3 [(0, .ref a0), (1, .int x1), (2, .int x2)] → W p l e (g_rm 2 42 h0 h') s m args below meth c H locs cells slots (gQ G below args s h0 h' (.inl (g_wI r))) (F0 m 20 ls [.int u1, .ref b0])
def f_X8_log_56 (u0 : Int32) : gM Int32 :=
    (gRet u0)
set_option maxHeartbeats 4000000 in
set_option maxRecDepth 100000 in
theorem b_X8_log_56 {G : gG} {l : Launch} {p : Program} {e : Env} {s : State} {m : MethodId} {args : Array Value} {below : List Frame} {meth : Method} {c : Code} {h0 : g_H} {r : Int32} {h' : g_H} (X : gX G l yX8_log.cls cX8_log 3 (some .int) [] yX8_log.name p s m args meth c) : w_X8_log_56 G l p e s m args below meth c h0 r h' (f_X8_log_56) := by
  have hx := X.1
  have hb := X.2.1
  have hown := X.2.2.2.1
  have hts := X.2.2.2.2.1
  intro u0 h H locs cells slots ls hf hI hl
  unfold f_X8_log_56 at hf
  cases gRet_e hf
  exact g_retI X hI rfl dX8_log_56
def f_X8_log_20 (a0 : Nat) (x1 : Int32) (x2 : Int32) (b0 : Nat) (u1 : Int32) : gM Int32 :=
    gB (gCk b0 7) fun _ =>
    gB (f_X8_throwsIf b0 u1 (1 : Int32)) fun r101 =>
    gIf (r101 = 0)
    (gB (gFR a0 7 1) fun v102 =>
    gB (gAI v102 0 (7 : Int32)) fun v103 =>
    gB (f_X8_in x1 (0 : Int32) (v103 - (1 : Int32))) fun r104 =>
    gIf (r104 = 0)
    (f_X8_log_56 (-1 : Int32))
    (gB (gCk a0 7) fun _ =>
    gB (f_X8_ofLog a0 x1 x2) fun r105 =>
    f_X8_log_56 r105))
    ((gRet (0 : Int32)))
set_option maxHeartbeats 4000000 in
set_option maxRecDepth 100000 in
theorem b_X8_log_20 {G : gG} {l : Launch} {p : Program} {e : Env} {s : State} {m : MethodId} {args : Array Value} {below : List Frame} {meth : Method} {c : Code} {h0 : g_H} {r : Int32} {h' : g_H} (X : gX G l yX8_log.cls cX8_log 3 (some .int) [] yX8_log.name p s m args meth c) : w_X8_log_20 G l p e s m args below meth c h0 r h' (f_X8_log_20) := by
  have hx := X.1
  have hb := X.2.1
  have hown := X.2.2.2.1
  have hts := X.2.2.2.2.1
  intro a0 x1 x2 b0 u1 h H locs cells slots ls hf hI hl
  unfold f_X8_log_20 at hf
  refine lv_iconst (v := (1 : Int32)) hx hb dX8_log_20 (by decide) ?_
  obtain ⟨hs, hf⟩ := gCk_b hf
  refine g_cBI hI hf (fun v9 h9 e9 l9 l9' => g_rV X hI l9 l9' ⟨Nat.le_refl _, Nat.le_refl _⟩ (As := [.int u1, .int (1 : Int32)]) (m_X8_throwsIf X.2.2.2.2.2.2.2.2.2.2.1 e9) ydX8_throwsIf hs rfl rfl q1736 q1738 qs72 q131 q1739 rfl (Nat.le_of_ble_eq_true rfl) (Nat.le_of_ble_eq_true rfl) hl.1 rfl (Nat.le_of_ble_eq_true rfl) dX8_log_21) (fun r101 h H locs cells slots hf hI => ?_)
  refine lv_if_eq (tgt := 29) hx hb dX8_log_24 (by decide) (fun c24 => ?_) (fun c24 => ?_)
  · have hf := g_t c24 hf
    refine lv_iload_n hx hb dX8_log_29 rfl (lv_at hl 1 rfl) ?_
    refine lv_iconst (v := (0 : Int32)) hx hb dX8_log_30 (by decide) ?_
    refine lv_aload_n hx hb dX8_log_31 rfl (lv_at hl 0 rfl) ?_
    refine g_fr X hI hf fX8_1 q1445 rfl rfl dX8_log_32 (fun v102 hf => ?_)
    refine lv_bipush (v := (7 : Int32)) hx hb dX8_log_35 (by decide) ?_
    refine g_ai0 X hI hf dX8_log_37 (fun v103 hf => ?_)
    refine lv_iconst (v := (1 : Int32)) hx hb dX8_log_38 (by decide) ?_
    refine lv_isub hx hb dX8_log_39 ?_
    refine g_cBI hI hf (fun v9 h9 e9 l9 l9' => g_rS (b := 0) X hI l9 l9' ⟨Nat.le_refl _, Nat.le_refl _⟩ (As := [.int x1, .int (0 : Int32), .int (v103 - (1 : Int32))]) (m_X8_in X.2.2.2.2.2.2.2.2.2.2.1 e9) ydX8_in q1634 q1635 q131 q1636 rfl (Nat.le_of_ble_eq_true rfl) (Nat.le_of_ble_eq_true rfl) hl.1 rfl (Nat.le_of_ble_eq_true rfl) dX8_log_40) (fun r104 h H locs cells slots hf hI => ?_)
    refine lv_if_eq (tgt := 55) hx hb dX8_log_43 (by decide) (fun c43 => ?_) (fun c43 => ?_)
    · have hf := g_t c43 hf
      refine lv_iconst (v := (-1 : Int32)) hx hb dX8_log_55 (by decide) ?_
      exact b_X8_log_56 X _ _ _ _ _ _ _ hf hI (lv_sub hl [] rfl)
    · have hf := g_f c43 hf
      refine lv_aload_n hx hb dX8_log_46 rfl (lv_at hl 0 rfl) ?_
      refine lv_iload_n hx hb dX8_log_47 rfl (lv_at hl 1 rfl) ?_
      refine lv_iload_n hx hb dX8_log_48 rfl (lv_at hl 2 rfl) ?_
      obtain ⟨hs, hf⟩ := gCk_b hf
      refine g_cBI hI hf (fun v9 h9 e9 l9 l9' => g_rV X hI l9 l9' ⟨Nat.le_refl _, Nat.le_refl _⟩ (As := [.int x1, .int x2]) (m_X8_ofLog X.2.2.2.2.2.2.2.2.2.2.1 e9) ydX8_ofLog hs rfl rfl q2077 q2079 qs117 q131 q2080 rfl (Nat.le_of_ble_eq_true rfl) (Nat.le_of_ble_eq_true rfl) hl.1 rfl (Nat.le_of_ble_eq_true rfl) dX8_log_49) (fun r105 h H locs cells slots hf hI => ?_)
      refine lv_goto (tgt := 56) hx hb dX8_log_52 (by decide) ?_
      exact b_X8_log_56 X _ _ _ _ _ _ _ hf hI (lv_sub hl [] rfl)
  · have hf := g_f c24 hf
    refine lv_iconst (v := (0 : Int32)) hx hb dX8_log_27 (by decide) ?_
    cases gRet_e hf
    exact g_retI X hI rfl dX8_log_28
def f_X8_log (a0 : Nat) (x1 : Int32) (x2 : Int32) : gM Int32 :=
    gB (gPI a0 7 0 (0 : Int32)) fun _ =>
    gB (f_X8_in x2 (0 : Int32) (3 : Int32)) fun r1 =>
    gIf (r1 = 0)
    (f_X8_log_20 a0 x1 x2 a0 (1 : Int32))
    (f_X8_log_20 a0 x1 x2 a0 (0 : Int32))
set_option maxHeartbeats 4000000 in
set_option maxRecDepth 100000 in
theorem m_X8_log {G : gG} {l : Launch} (hfl : l.stackTraces = false) {a0 : Nat} {x1 : Int32} {x2 : Int32} {h h' : g_H} {r : Int32} (hf : (f_X8_log a0 x1 x2).1 h = some (r, h')) : gMet G l yX8_log (Cond.code yX8_log cX8_log 3 (some .int)) 2 42 [.ref a0, .int x1, .int x2] h (.inl (g_wI r)) h' := by
  refine g_head hfl ((f_X8_log a0 x1 x2).2 h r h' hf) (plainFor_of_name (by decide)) (Nat.le_of_ble_eq_true rfl) (fun p e s m below meth c H locs cells slots ls X hI hl9 => ?_)
  have hl : lv_has ls 3 [(0, .ref a0), (1, .int x1), (2, .int x2)] := hl9
  have hx := X.1
  have hb := X.2.1
  have hown := X.2.2.2.1
  have hts := X.2.2.2.2.1
  unfold f_X8_log at hf
  refine lv_aload_n hx hb dX8_log_0 rfl (lv_at hl 0 rfl) ?_
  refine lv_iconst (v := (0 : Int32)) hx hb dX8_log_1 (by decide) ?_
  refine g_pi X hI hf fX8_0 q1444 rfl dX8_log_2 (fun h H locs hf hI => ?_)
  refine lv_aload_n hx hb dX8_log_5 rfl (lv_at hl 0 rfl) ?_
  refine lv_iload_n hx hb dX8_log_6 rfl (lv_at hl 2 rfl) ?_
  refine lv_iconst (v := (0 : Int32)) hx hb dX8_log_7 (by decide) ?_
  refine lv_iconst (v := (3 : Int32)) hx hb dX8_log_8 (by decide) ?_
  refine g_cBI hI hf (fun v9 h9 e9 l9 l9' => g_rS (b := 0) X hI l9 l9' ⟨Nat.le_refl _, Nat.le_refl _⟩ (As := [.int x2, .int (0 : Int32), .int (3 : Int32)]) (m_X8_in X.2.2.2.2.2.2.2.2.2.2.1 e9) ydX8_in q1634 q1635 q131 q1636 rfl (Nat.le_of_ble_eq_true rfl) (Nat.le_of_ble_eq_true rfl) hl.1 rfl (Nat.le_of_ble_eq_true rfl) dX8_log_9) (fun r1 h H locs cells slots hf hI => ?_)
  refine lv_if_ne (tgt := 19) hx hb dX8_log_12 (by decide) (fun c12 => ?_) (fun c12 => ?_)
  · have hf := g_f c12 hf
    refine lv_iconst (v := (0 : Int32)) hx hb dX8_log_19 (by decide) ?_
    exact b_X8_log_20 X _ _ _ _ _ _ _ _ _ _ _ hf hI (lv_sub hl [0, 1, 2] rfl)
  · have hf := g_t c12 hf
    refine lv_iconst (v := (1 : Int32)) hx hb dX8_log_15 (by decide) ?_
    refine lv_goto (tgt := 20) hx hb dX8_log_16 (by decide) ?_
    exact b_X8_log_20 X _ _ _ _ _ _ _ _ _ _ _ hf hI (lv_sub hl [0, 1, 2] rfl)
/-! X8_thrown -/
def f_X8_thrown (a0 : Nat) : gM Int32 :=
    gB (gFI a0 7 0) fun v1 =>
    (gRet v1)
set_option maxHeartbeats 4000000 in
set_option maxRecDepth 100000 in
theorem m_X8_thrown {G : gG} {l : Launch} (hfl : l.stackTraces = false) {a0 : Nat} {h h' : g_H} {r : Int32} (hf : (f_X8_thrown a0).1 h = some (r, h')) : gMet G l yX8_thrown (Cond.code yX8_thrown cX8_thrown 1 (some .int)) 1 20 [.ref a0] h (.inl (g_wI r)) h' := by
  refine g_head hfl ((f_X8_thrown a0).2 h r h' hf) (plainFor_of_name (by decide)) (Nat.le_of_ble_eq_true rfl) (fun p e s m below meth c H locs cells slots ls X hI hl9 => ?_)
  have hl : lv_has ls 1 [(0, .ref a0)] := hl9
  have hx := X.1
  have hb := X.2.1
  have hown := X.2.2.2.1
  have hts := X.2.2.2.2.1
  unfold f_X8_thrown at hf
  refine lv_aload_n hx hb dX8_thrown_0 rfl (lv_at hl 0 rfl) ?_
  refine g_fi X hI hf fX8_0 q1444 rfl rfl dX8_thrown_1 (fun v1 hf => ?_)
  cases gRet_e hf
  exact g_retI X hI rfl dX8_thrown_4
/-! X1_mustBe -/
def f_X1_mustBe (x0 : Int32) : gM (Unit ⊕ gE) :=
    gIf (x0 = 0)
    (gB (gNew 19 6) fun a1 =>
    gB (gCk a1 19) fun _ =>
    gRet (.inr (19, a1)))
    (gRet (.inl ()))
set_option maxHeartbeats 4000000 in
set_option maxRecDepth 100000 in
theorem m_X1_mustBe {G : gG} {l : Launch} (hfl : l.stackTraces = false) {x0 : Int32} {h h' : g_H} {r : (Unit ⊕ gE)} (hf : (f_X1_mustBe x0).1 h = some (r, h')) : gMet G l yX1_mustBe (Cond.code yX1_mustBe cX1_mustBe 1 none) 6 89 [.int x0] h (g_w g_wU r) h' := by
  refine g_head hfl ((f_X1_mustBe x0).2 h r h' hf) (plainFor_of_name (by decide)) (Nat.le_of_ble_eq_true rfl) (fun p e s m below meth c H locs cells slots ls X hI hl9 => ?_)
  have hl : lv_has ls 1 [(0, .int x0)] := hl9
  have hx := X.1
  have hb := X.2.1
  have hown := X.2.2.2.1
  have hts := X.2.2.2.2.1
  unfold f_X1_mustBe at hf
  refine lv_iload_n hx hb dX1_mustBe_0 rfl (lv_at hl 0 rfl) ?_
  refine lv_if_ne (tgt := 12) hx hb dX1_mustBe_1 (by decide) (fun c1 => ?_) (fun c1 => ?_)
  · have hf := g_f c1 hf
    cases gRet_e hf
    exact g_retU X hI rfl dX1_mustBe_12
  · have hf := g_t c1 hf
    refine g_make (names := ["java/lang/RuntimeException", "java/lang/Exception"]) (ik := 76) (ic := 78) (cls := "java/lang/IndexOutOfBoundsException") X hI hf ⟨Nat.le_refl _, Nat.le_refl _⟩ rfl rfl rfl rfl (by decide) (by decide) q1142 q148 (g_hat X x19_1 x19_2) (List.all_eq_true.mp x19_3) hl.1 dX1_mustBe_4 dX1_mustBe_7 dX1_mustBe_8 (Nat.lt_of_lt_of_le (show 2 + 3 < 6 by decide) (Nat.le_of_ble_eq_true rfl)) (Nat.le_of_ble_eq_true rfl) (Nat.le_of_ble_eq_true rfl) (fun a1 h H cells slots hf hI => ?_)
    obtain ⟨hs, hf⟩ := gCk_b hf
    cases gRet_e hf
    exact g_athrow X hI (by decide) hs rfl rfl dX1_mustBe_11
/-! X1_oneAt -/
def f_X1_oneAt (a0 : Nat) (x1 : Int32) : gM (Nat ⊕ gE) :=
    gB (gFR a0 0 1) fun v1 =>
    gB (gFI v1 2 7) fun v2 =>
    gB (f_X1_isIn x1 (0 : Int32) (v2 - (1 : Int32))) fun r3 =>
    gT (f_X1_mustBe r3) fun _ =>
    gB (gFR a0 0 1) fun v5 =>
    gB (gFR v5 2 1) fun v6 =>
    gB (gAR v6 5 x1) fun v7 =>
    gRet (.inl v7)
set_option maxHeartbeats 4000000 in
set_option maxRecDepth 100000 in
theorem m_X1_oneAt {G : gG} {l : Launch} (hfl : l.stackTraces = false) {a0 : Nat} {x1 : Int32} {h h' : g_H} {r : (Nat ⊕ gE)} (hf : (f_X1_oneAt a0 x1).1 h = some (r, h')) : gMet G l yX1_oneAt (Cond.code yX1_oneAt cX1_oneAt 2 (some (.object "GhostAssize$One"))) 7 109 [.ref a0, .int x1] h (g_w g_wR r) h' := by
  refine g_head hfl ((f_X1_oneAt a0 x1).2 h r h' hf) (plainFor_of_name (by decide)) (Nat.le_of_ble_eq_true rfl) (fun p e s m below meth c H locs cells slots ls X hI hl9 => ?_)
  have hl : lv_has ls 2 [(0, .ref a0), (1, .int x1)] := hl9
  have hx := X.1
  have hb := X.2.1
  have hown := X.2.2.2.1
  have hts := X.2.2.2.2.1
  unfold f_X1_oneAt at hf
  refine lv_iload_n hx hb dX1_oneAt_0 rfl (lv_at hl 1 rfl) ?_
  refine lv_iconst (v := (0 : Int32)) hx hb dX1_oneAt_1 (by decide) ?_
  refine lv_aload_n hx hb dX1_oneAt_2 rfl (lv_at hl 0 rfl) ?_
  refine g_fr X hI hf fX1_1 q461 rfl rfl dX1_oneAt_3 (fun v1 hf => ?_)
  refine g_fiN X hI hf fX3_7 q271 rfl rfl dX1_oneAt_6 (fun v2 hf => ?_)
  refine lv_iconst (v := (1 : Int32)) hx hb dX1_oneAt_9 (by decide) ?_
  refine lv_isub hx hb dX1_oneAt_10 ?_
  refine g_cBI hI hf (fun v9 h9 e9 l9 l9' => g_rS (b := 0) X hI l9 l9' ⟨Nat.le_refl _, Nat.le_refl _⟩ (As := [.int x1, .int (0 : Int32), .int (v2 - (1 : Int32))]) (m_X1_isIn X.2.2.2.2.2.2.2.2.2.2.1 e9) ydX1_isIn q532 q533 q121 q534 rfl (Nat.le_of_ble_eq_true rfl) (Nat.le_of_ble_eq_true rfl) hl.1 rfl (Nat.le_of_ble_eq_true rfl) dX1_oneAt_11) (fun r3 h H locs cells slots hf hI => ?_)
  refine g_cTU X hI (by decide) hf (fun v9 h9 e9 l9 l9' => g_rS (b := 0) X hI l9 l9' ⟨Nat.le_refl _, Nat.le_refl _⟩ (As := [.int r3]) (m_X1_mustBe X.2.2.2.2.2.2.2.2.2.2.1 e9) ydX1_mustBe q1139 q1140 q121 q1141 rfl (Nat.le_of_ble_eq_true rfl) (Nat.le_of_ble_eq_true rfl) hl.1 rfl (Nat.le_of_ble_eq_true rfl) dX1_oneAt_14) (fun r4 h H locs cells slots hf hI => ?_)
  refine lv_aload_n hx hb dX1_oneAt_17 rfl (lv_at hl 0 rfl) ?_
  refine g_fr X hI hf fX1_1 q461 rfl rfl dX1_oneAt_18 (fun v5 hf => ?_)
  refine g_frN X hI hf fX3_1 q257 rfl rfl dX1_oneAt_21 (fun v6 hf => ?_)
  refine lv_iload_n hx hb dX1_oneAt_24 rfl (lv_at hl 1 rfl) ?_
  refine g_ar5 X hI hf dX1_oneAt_25 (fun v7 hf => ?_)
  cases gRet_e hf
  exact g_retR X hI (Or.inl ⟨_, rfl⟩) rfl dX1_oneAt_26
/-! X1_led -/
abbrev w_X1_led_62 (G : gG) (l : Launch) (p : Program) (e : Env) (s : State) (m : MethodId) (args : Array Value) (below : List Frame) (meth : Method) (c : Code) (h0 : g_H) (r : (Int32 ⊕ gE)) (h' : g_H) (k : Nat → Int32 → Int32 → Int32 → Int32 → Int32 → gM (Int32 ⊕ gE)) : Prop := ∀ (a0 : Nat) (x1 : Int32) (x2 : Int32) (x4 : Int32) (u0 : Int32) (u1 : Int32) (h : g_H) (H : Heap) (locs : List Loc) (cells slots : Nat) (ls : Array Slot), (k a0 x1 x2 x4 u0 u1).1 h = some (r, h') → gI G h0 h H locs cells slots → lv_has ls 5 [(0, .ref a0), (1, .int x1), (2, .int x2), (4, .int x4)] → W p l e (g_rm 8 130 h0 h') s m args below meth c H locs cells slots (gQ G below args s h0 h' (g_w g_wI r)) (F0 m 62 ls [.int u1, .int u0])
abbrev w_X1_led_57 (G : gG) (l : Launch) (p : Program) (e : Env) (s : State) (m : MethodId) (args : Array Value) (below : List Frame) (meth : Method) (c : Code) (h0 : g_H) (r : (Int32 ⊕ gE)) (h' : g_H) (k : Nat → Int32 → Int32 → Int32 → Int32 → gM (Int32 ⊕ gE)) : Prop := ∀ (a0 : Nat) (x1 : Int32) (x2 : Int32) (x4 : Int32) (u0 : Int32) (h : g_H) (H : Heap) (locs : List Loc) (cells slots : Nat) (ls : Array Slot), (k a0 x1 x2 x4 u0).1 h = some (r, h') → gI G h0 h H locs cells slots → lv_has ls 5 [(0, .ref a0), (1, .int x1), (2, .int x2), (4, .int x4)] → W p l e (g_rm 8 130 h0 h') s m args below meth c H locs cells slots (gQ G below args s h0 h' (g_w g_wI r)) (F0 m 57 ls [.int u0])
abbrev w_X1_led_61 (G : gG) (l : Launch) (p : Program) (e : Env) (s : State) (m : MethodId) (args : Array Value) (below : List Frame) (meth : Method) (c : Code) (h0 : g_H) (r : (Int32 ⊕ gE)) (h' : g_H) (k : Nat → Int32 → Int32 → Int32 → Int32 → gM (Int32 ⊕ gE)) : Prop := ∀ (a0 : Nat) (x1 : Int32) (x2 : Int32) (x4 : Int32) (u0 : Int32) (h : g_H) (H : Heap) (locs : List Loc) (cells slots : Nat) (ls : Array Slot), (k a0 x1 x2 x4 u0).1 h = some (r, h') → gI G h0 h H locs cells slots → lv_has ls 5 [(0, .ref a0), (1, .int x1), (2, .int x2), (4, .int x4)] → W p l e (g_rm 8 130 h0 h') s m args below meth c H locs cells slots (gQ G below args s h0 h' (g_w g_wI r)) (F0 m 61 ls [.int u0])
abbrev w_X1_led_70 (G : gG) (l : Launch) (p : Program) (e : Env) (s : State) (m : MethodId) (args : Array Value) (below : List Frame) (meth : Method) (c : Code) (h0 : g_H) (r : (Int32 ⊕ gE)) (h' : g_H) (k : Int32 → gM (Int32 ⊕ gE)) : Prop := ∀ (x3 : Int32) (h : g_H) (H : Heap) (locs : List Loc) (cells slots : Nat) (ls : Array Slot), (k x3).1 h = some (r, h') → gI G h0 h H locs cells slots → lv_has ls 5 [(3, .int x3)] → W p l e (g_rm 8 130 h0 h') s m args below meth c H locs cells slots (gQ G below args s h0 h' (g_w g_wI r)) (F0 m 70 ls [])
abbrev w_X1_led_11 (G : gG) (l : Launch) (p : Program) (e : Env) (s : State) (m : MethodId) (args : Array Value) (below : List Frame) (meth : Method) (c : Code) (h0 : g_H) (r : (Int32 ⊕ gE)) (h' : g_H) (k : Nat → Int32 → Int32 → Int32 → Int32 → gM (Int32 ⊕ gE)) : Prop := ∀ (a0 : Nat) (x1 : Int32) (x2 : Int32) (x3 : Int32) (x4 : Int32) (h : g_H) (H : Heap) (locs : List Loc) (cells slots : Nat) (ls : Array Slot), (k a0 x1 x2 x3 x4).1 h = some (r, h') → gI G h0 h H locs cells slots → lv_has ls 5 [(0, .ref a0), (1, .int x1), (2, .int x2), (3, .int x3), (4, .int x4)] → W p l e (g_rm 8 130 h0 h') s m args below meth c H locs cells slots (gQ G below args s h0 h' (g_w g_wI r)) (F0 m 11 ls [])
def f_X1_led_62 (k11 : Nat → Int32 → Int32 → Int32 → Int32 → gM (Int32 ⊕ gE)) (a0 : Nat) (x1 : Int32) (x2 : Int32) (x4 : Int32) (u0 : Int32) (u1 : Int32) : gM (Int32 ⊕ gE) :=
    k11 a0 x1 x2 (u0 + u1) (x4 + (1 : Int32))
set_option maxHeartbeats 4000000 in
set_option maxRecDepth 100000 in
theorem b_X1_led_62 {G : gG} {l : Launch} {p : Program} {e : Env} {s : State} {m : MethodId} {args : Array Value} {below : List Frame} {meth : Method} {c : Code} {h0 : g_H} {r : (Int32 ⊕ gE)} {h' : g_H} (X : gX G l yX1_led.cls cX1_led 5 (some .int) [] yX1_led.name p s m args meth c) {k11 : Nat → Int32 → Int32 → Int32 → Int32 → gM (Int32 ⊕ gE)} (K11 : w_X1_led_11 G l p e s m args below meth c h0 r h' k11) : w_X1_led_62 G l p e s m args below meth c h0 r h' (f_X1_led_62 k11) := by
  have hx := X.1
  have hb := X.2.1
  have hown := X.2.2.2.1
  have hts := X.2.2.2.2.1
  intro a0 x1 x2 x4 u0 u1 h H locs cells slots ls hf hI hl
  unfold f_X1_led_62 at hf
  refine lv_iadd hx hb dX1_led_62 ?_
  refine lv_istore_n (lv' := [(3, .int (u0 + u1)), (0, .ref a0), (1, .int x1), (2, .int x2), (4, .int x4)]) hx hb dX1_led_63 rfl hl (by decide) rfl (fun ls hl => ?_)
  refine lv_iinc (v := (x4 + (1 : Int32))) (lv' := [(4, .int (x4 + (1 : Int32))), (3, .int (u0 + u1)), (0, .ref a0), (1, .int x1), (2, .int x2)]) hx hb dX1_led_64 hl (k := 4) rfl rfl (by decide) rfl (fun ls hl => ?_)
  refine lv_goto (tgt := 11) hx hb dX1_led_67 (by decide) ?_
  exact K11 _ _ _ _ _ _ _ _ _ _ _ hf hI (lv_sub hl [2, 3, 4, 1, 0] rfl)
def f_X1_led_57 (k11 : Nat → Int32 → Int32 → Int32 → Int32 → gM (Int32 ⊕ gE)) (a0 : Nat) (x1 : Int32) (x2 : Int32) (x4 : Int32) (u0 : Int32) : gM (Int32 ⊕ gE) :=
    f_X1_led_62 k11 a0 x1 x2 x4 u0 (1 : Int32)
set_option maxHeartbeats 4000000 in
set_option maxRecDepth 100000 in
theorem b_X1_led_57 {G : gG} {l : Launch} {p : Program} {e : Env} {s : State} {m : MethodId} {args : Array Value} {below : List Frame} {meth : Method} {c : Code} {h0 : g_H} {r : (Int32 ⊕ gE)} {h' : g_H} (X : gX G l yX1_led.cls cX1_led 5 (some .int) [] yX1_led.name p s m args meth c) {k11 : Nat → Int32 → Int32 → Int32 → Int32 → gM (Int32 ⊕ gE)} (K11 : w_X1_led_11 G l p e s m args below meth c h0 r h' k11) : w_X1_led_57 G l p e s m args below meth c h0 r h' (f_X1_led_57 k11) := by
  have hx := X.1
  have hb := X.2.1
  have hown := X.2.2.2.1
  have hts := X.2.2.2.2.1
  intro a0 x1 x2 x4 u0 h H locs cells slots ls hf hI hl
  unfold f_X1_led_57 at hf
  refine lv_iconst (v := (1 : Int32)) hx hb dX1_led_57 (by decide) ?_
  refine lv_goto (tgt := 62) hx hb dX1_led_58 (by decide) ?_
  exact b_X1_led_62 X K11 _ _ _ _ _ _ _ _ _ _ _ _ hf hI (lv_sub hl [0, 1, 2, 3] rfl)
def f_X1_led_61 (k11 : Nat → Int32 → Int32 → Int32 → Int32 → gM (Int32 ⊕ gE)) (a0 : Nat) (x1 : Int32) (x2 : Int32) (x4 : Int32) (u0 : Int32) : gM (Int32 ⊕ gE) :=
    f_X1_led_62 k11 a0 x1 x2 x4 u0 (0 : Int32)
set_option maxHeartbeats 4000000 in
set_option maxRecDepth 100000 in
theorem b_X1_led_61 {G : gG} {l : Launch} {p : Program} {e : Env} {s : State} {m : MethodId} {args : Array Value} {below : List Frame} {meth : Method} {c : Code} {h0 : g_H} {r : (Int32 ⊕ gE)} {h' : g_H} (X : gX G l yX1_led.cls cX1_led 5 (some .int) [] yX1_led.name p s m args meth c) {k11 : Nat → Int32 → Int32 → Int32 → Int32 → gM (Int32 ⊕ gE)} (K11 : w_X1_led_11 G l p e s m args below meth c h0 r h' k11) : w_X1_led_61 G l p e s m args below meth c h0 r h' (f_X1_led_61 k11) := by
  have hx := X.1
  have hb := X.2.1
  have hown := X.2.2.2.1
  have hts := X.2.2.2.2.1
  intro a0 x1 x2 x4 u0 h H locs cells slots ls hf hI hl
  unfold f_X1_led_61 at hf
  refine lv_iconst (v := (0 : Int32)) hx hb dX1_led_61 (by decide) ?_
  exact b_X1_led_62 X K11 _ _ _ _ _ _ _ _ _ _ _ _ hf hI (lv_sub hl [0, 1, 2, 3] rfl)
def f_X1_led_70 (x3 : Int32) : gM (Int32 ⊕ gE) :=
    (gRet (.inl x3))
set_option maxHeartbeats 4000000 in
set_option maxRecDepth 100000 in
theorem b_X1_led_70 {G : gG} {l : Launch} {p : Program} {e : Env} {s : State} {m : MethodId} {args : Array Value} {below : List Frame} {meth : Method} {c : Code} {h0 : g_H} {r : (Int32 ⊕ gE)} {h' : g_H} (X : gX G l yX1_led.cls cX1_led 5 (some .int) [] yX1_led.name p s m args meth c) : w_X1_led_70 G l p e s m args below meth c h0 r h' (f_X1_led_70) := by
  have hx := X.1
  have hb := X.2.1
  have hown := X.2.2.2.1
  have hts := X.2.2.2.2.1
  intro x3 h H locs cells slots ls hf hI hl
  unfold f_X1_led_70 at hf
  refine lv_iload_n hx hb dX1_led_70 rfl (lv_at hl 0 rfl) ?_
  cases gRet_e hf
  exact g_retI X hI rfl dX1_led_71
def f_X1_led_11 : Nat → Nat → Int32 → Int32 → Int32 → Int32 → gM (Int32 ⊕ gE)
  | 0, _, _, _, _, _ => gFail
  | n + 1, a0, x1, x2, x3, x4 =>
    gB (gFR a0 0 1) fun v101 =>
    gB (gCk v101 2) fun _ =>
    gB (f_X3_isKept v101 x4) fun r102 =>
    gIf (r102 = 0)
    (f_X1_led_70 x3)
    (gB (gFR a0 0 1) fun v103 =>
    gB (gCk v103 2) fun _ =>
    gB (f_X3_row v103 x4 (1 : Int32)) fun r104 =>
    gIf (r104 = x1)
    (gIf (x2 = 0)
    (f_X1_led_57 (f_X1_led_11 n) a0 x1 x2 x4 x3)
    (gB (gFR a0 0 1) fun v105 =>
    gB (gCk v105 2) fun _ =>
    gB (f_X3_row v105 x4 (2 : Int32)) fun r106 =>
    gIf ((10 : Int32) ≤ r106)
    (f_X1_led_61 (f_X1_led_11 n) a0 x1 x2 x4 x3)
    (f_X1_led_57 (f_X1_led_11 n) a0 x1 x2 x4 x3)))
    (f_X1_led_61 (f_X1_led_11 n) a0 x1 x2 x4 x3))
set_option maxHeartbeats 4000000 in
set_option maxRecDepth 100000 in
theorem b_X1_led_11 {G : gG} {l : Launch} {p : Program} {e : Env} {s : State} {m : MethodId} {args : Array Value} {below : List Frame} {meth : Method} {c : Code} {h0 : g_H} {r : (Int32 ⊕ gE)} {h' : g_H} (X : gX G l yX1_led.cls cX1_led 5 (some .int) [] yX1_led.name p s m args meth c) : ∀ n : Nat, w_X1_led_11 G l p e s m args below meth c h0 r h' (f_X1_led_11 n) := by
  have hx := X.1
  have hb := X.2.1
  have hown := X.2.2.2.1
  have hts := X.2.2.2.2.1
  intro n
  induction n with
  | zero =>
    intro a0 x1 x2 x3 x4 h H locs cells slots ls hf hI hl
    exact (gFail_f hf).elim
  | succ n ih =>
    intro a0 x1 x2 x3 x4 h H locs cells slots ls hf hI hl
    rw [f_X1_led_11] at hf
    refine lv_aload_n hx hb dX1_led_11 rfl (lv_at hl 0 rfl) ?_
    refine g_fr X hI hf fX1_1 q461 rfl rfl dX1_led_12 (fun v101 hf => ?_)
    refine lv_iload hx hb dX1_led_15 (lv_at hl 4 rfl) ?_
    obtain ⟨hs, hf⟩ := gCk_b hf
    refine g_cBI hI hf (fun v9 h9 e9 l9 l9' => g_rV X hI l9 l9' ⟨Nat.le_refl _, Nat.le_refl _⟩ (As := [.int x4]) (m_X3_isKept X.2.2.2.2.2.2.2.2.2.2.1 e9) ydX3_isKept hs rfl rfl q1414 q1415 q1416 q123 q1417 rfl (Nat.le_of_ble_eq_true rfl) (Nat.le_of_ble_eq_true rfl) hl.1 rfl (Nat.le_of_ble_eq_true rfl) dX1_led_17) (fun r102 h H locs cells slots hf hI => ?_)
    refine lv_if_eq (tgt := 70) hx hb dX1_led_20 (by decide) (fun c20 => ?_) (fun c20 => ?_)
    · have hf := g_t c20 hf
      exact b_X1_led_70 X _ _ _ _ _ _ _ hf hI (lv_sub hl [3] rfl)
    · have hf := g_f c20 hf
      refine lv_iload_n hx hb dX1_led_23 rfl (lv_at hl 3 rfl) ?_
      refine lv_aload_n hx hb dX1_led_24 rfl (lv_at hl 0 rfl) ?_
      refine g_fr X hI hf fX1_1 q461 rfl rfl dX1_led_25 (fun v103 hf => ?_)
      refine lv_iload hx hb dX1_led_28 (lv_at hl 4 rfl) ?_
      refine lv_iconst (v := (1 : Int32)) hx hb dX1_led_30 (by decide) ?_
      obtain ⟨hs, hf⟩ := gCk_b hf
      refine g_cBI hI hf (fun v9 h9 e9 l9 l9' => g_rV X hI l9 l9' ⟨Nat.le_refl _, Nat.le_refl _⟩ (As := [.int x4, .int (1 : Int32)]) (m_X3_row X.2.2.2.2.2.2.2.2.2.2.1 e9) ydX3_row hs rfl rfl q1419 q1420 q1421 q123 q1422 rfl (Nat.le_of_ble_eq_true rfl) (Nat.le_of_ble_eq_true rfl) hl.1 rfl (Nat.le_of_ble_eq_true rfl) dX1_led_31) (fun r104 h H locs cells slots hf hI => ?_)
      refine lv_iload_n hx hb dX1_led_34 rfl (lv_at hl 1 rfl) ?_
      refine lv_icmp_ne (tgt := 61) hx hb dX1_led_35 (by decide) (fun c35 => ?_) (fun c35 => ?_)
      · have hf := g_f c35 hf
        exact b_X1_led_61 X ih _ _ _ _ _ _ _ _ _ _ _ hf hI (lv_sub hl [0, 1, 2, 4] rfl)
      · have hf := g_t c35 hf
        refine lv_iload_n hx hb dX1_led_38 rfl (lv_at hl 2 rfl) ?_
        refine lv_if_eq (tgt := 57) hx hb dX1_led_39 (by decide) (fun c39 => ?_) (fun c39 => ?_)
        · have hf := g_t c39 hf
          exact b_X1_led_57 X ih _ _ _ _ _ _ _ _ _ _ _ hf hI (lv_sub hl [0, 1, 2, 4] rfl)
        · have hf := g_f c39 hf
          refine lv_aload_n hx hb dX1_led_42 rfl (lv_at hl 0 rfl) ?_
          refine g_fr X hI hf fX1_1 q461 rfl rfl dX1_led_43 (fun v105 hf => ?_)
          refine lv_iload hx hb dX1_led_46 (lv_at hl 4 rfl) ?_
          refine lv_iconst (v := (2 : Int32)) hx hb dX1_led_48 (by decide) ?_
          obtain ⟨hs, hf⟩ := gCk_b hf
          refine g_cBI hI hf (fun v9 h9 e9 l9 l9' => g_rV X hI l9 l9' ⟨Nat.le_refl _, Nat.le_refl _⟩ (As := [.int x4, .int (2 : Int32)]) (m_X3_row X.2.2.2.2.2.2.2.2.2.2.1 e9) ydX3_row hs rfl rfl q1419 q1420 q1421 q123 q1422 rfl (Nat.le_of_ble_eq_true rfl) (Nat.le_of_ble_eq_true rfl) hl.1 rfl (Nat.le_of_ble_eq_true rfl) dX1_led_49) (fun r106 h H locs cells slots hf hI => ?_)
          refine lv_bipush (v := (10 : Int32)) hx hb dX1_led_52 (by decide) ?_
          refine lv_icmp_ge (tgt := 61) hx hb dX1_led_54 (by decide) (fun c54 => ?_) (fun c54 => ?_)
          · have hf := g_t c54 hf
            exact b_X1_led_61 X ih _ _ _ _ _ _ _ _ _ _ _ hf hI (lv_sub hl [0, 1, 2, 4] rfl)
          · have hf := g_f c54 hf
            exact b_X1_led_57 X ih _ _ _ _ _ _ _ _ _ _ _ hf hI (lv_sub hl [0, 1, 2, 4] rfl)
def f_X1_led (a0 : Nat) (x1 : Int32) (x2 : Int32) : gM (Int32 ⊕ gE) :=
    gB (gCk a0 0) fun _ =>
    gT (f_X1_oneAt a0 x1) fun r1 =>
    f_X1_led_11 gN a0 x1 x2 (0 : Int32) (0 : Int32)
set_option maxHeartbeats 4000000 in
set_option maxRecDepth 100000 in
theorem m_X1_led {G : gG} {l : Launch} (hfl : l.stackTraces = false) {a0 : Nat} {x1 : Int32} {x2 : Int32} {h h' : g_H} {r : (Int32 ⊕ gE)} (hf : (f_X1_led a0 x1 x2).1 h = some (r, h')) : gMet G l yX1_led (Cond.code yX1_led cX1_led 5 (some .int)) 8 130 [.ref a0, .int x1, .int x2] h (g_w g_wI r) h' := by
  refine g_head hfl ((f_X1_led a0 x1 x2).2 h r h' hf) (plainFor_of_name (by decide)) (Nat.le_of_ble_eq_true rfl) (fun p e s m below meth c H locs cells slots ls X hI hl9 => ?_)
  have hl : lv_has ls 5 [(0, .ref a0), (1, .int x1), (2, .int x2)] := hl9
  have hx := X.1
  have hb := X.2.1
  have hown := X.2.2.2.1
  have hts := X.2.2.2.2.1
  unfold f_X1_led at hf
  refine lv_aload_n hx hb dX1_led_0 rfl (lv_at hl 0 rfl) ?_
  refine lv_iload_n hx hb dX1_led_1 rfl (lv_at hl 1 rfl) ?_
  obtain ⟨hs, hf⟩ := gCk_b hf
  refine g_cTR X hI (by decide) hf (fun v9 h9 e9 l9 l9' => g_rV X hI l9 l9' ⟨Nat.le_refl _, Nat.le_refl _⟩ (As := [.int x1]) (m_X1_oneAt X.2.2.2.2.2.2.2.2.2.2.1 e9) ydX1_oneAt hs rfl rfl q1189 q1191 qs37 q121 q1192 rfl (Nat.le_of_ble_eq_true rfl) (Nat.le_of_ble_eq_true rfl) hl.1 rfl (Nat.le_of_ble_eq_true rfl) dX1_led_2) (fun r1 h H locs cells slots hf hI => ?_)
  refine lv_pop hx hb dX1_led_5 rfl ?_
  refine lv_iconst (v := (0 : Int32)) hx hb dX1_led_6 (by decide) ?_
  refine lv_istore_n (lv' := [(3, .int (0 : Int32)), (0, .ref a0), (1, .int x1), (2, .int x2)]) hx hb dX1_led_7 rfl hl (by decide) rfl (fun ls hl => ?_)
  refine lv_iconst (v := (0 : Int32)) hx hb dX1_led_8 (by decide) ?_
  refine lv_istore (lv' := [(4, .int (0 : Int32)), (3, .int (0 : Int32)), (0, .ref a0), (1, .int x1), (2, .int x2)]) hx hb dX1_led_9 hl (by decide) rfl (fun ls hl => ?_)
  exact b_X1_led_11 X gN _ _ _ _ _ _ _ _ _ _ _ hf hI (lv_sub hl [2, 3, 4, 1, 0] rfl)
/-! X0_led -/
def f_X0_led (a0 : Nat) (x1 : Int32) (x2 : Int32) (a3 : Nat) : gM Int32 :=
    gB (gCk a0 0) fun _ =>
    gB (f_X1_led a0 x1 x2) fun r9 => match r9 with
    | .inl r1 => (gB (gSI a3 2 (0 : Int32) (r1)) fun _ =>
    (gRet (0 : Int32)))
    | .inr x9 => (gIf (x9.1 = 19)
    ((gRet (1 : Int32)))
    (gFail))
set_option maxHeartbeats 4000000 in
set_option maxRecDepth 100000 in
theorem m_X0_led {G : gG} {l : Launch} (hfl : l.stackTraces = false) {a0 : Nat} {x1 : Int32} {x2 : Int32} {a3 : Nat} {h h' : g_H} {r : Int32} (hf : (f_X0_led a0 x1 x2 a3).1 h = some (r, h')) : gMet G l yX0_led (Cond.codeWith yX0_led cX0_led 5 (some .int) [(0, 10, 13, 24)]) 9 154 [.ref a0, .int x1, .int x2, .ref a3] h (.inl (g_wI r)) h' := by
  refine g_headW hfl ((f_X0_led a0 x1 x2 a3).2 h r h' hf) (plainFor_of_name (by decide)) (Nat.le_of_ble_eq_true rfl) (fun p e s m below meth c H locs cells slots ls X hI hl9 => ?_)
  have hl : lv_has ls 5 [(0, .ref a0), (1, .int x1), (2, .int x2), (3, .ref a3)] := hl9
  have hx := X.1
  have hb := X.2.1
  have hown := X.2.2.2.1
  have hts := X.2.2.2.2.1
  unfold f_X0_led at hf
  refine lv_aload_n hx hb dX0_led_0 rfl (lv_at hl 3 rfl) ?_
  refine lv_iconst (v := (0 : Int32)) hx hb dX0_led_1 (by decide) ?_
  refine lv_aload_n hx hb dX0_led_2 rfl (lv_at hl 0 rfl) ?_
  refine lv_iload_n hx hb dX0_led_3 rfl (lv_at hl 1 rfl) ?_
  refine lv_iload_n hx hb dX0_led_4 rfl (lv_at hl 2 rfl) ?_
  obtain ⟨hs, hf⟩ := gCk_b hf
  refine g_cHI hI hf (fun v9 h9 e9 l9 l9' => g_rV X hI l9 l9' ⟨Nat.le_refl _, Nat.le_refl _⟩ (As := [.int x1, .int x2]) (m_X1_led X.2.2.2.2.2.2.2.2.2.2.1 e9) ydX1_led hs rfl rfl q1410 q1411 q1412 q121 q1413 rfl (Nat.le_of_ble_eq_true rfl) (Nat.le_of_ble_eq_true rfl) hl.1 rfl (Nat.le_of_ble_eq_true rfl) dX0_led_5) (fun r1 h H locs cells slots hf hI => ?_) ?_
  · refine lv_i2l hx hb dX0_led_8 rfl ?_
    refine g_si2 X hI hf dX0_led_9 (fun h H locs hf hI => ?_)
    refine lv_goto (tgt := 17) hx hb dX0_led_10 (by decide) ?_
    refine lv_iconst (v := (0 : Int32)) hx hb dX0_led_17 (by decide) ?_
    cases gRet_e hf
    exact g_retI X hI rfl dX0_led_18
  · intro ci9 x9 h H locs cells slots r9 ce9 hf hr9 hI hce hcv hcl
    by_cases k0 : ci9 = 19
    · subst k0
      cases hr9
      have hf := g_t rfl hf
      refine g_catch0 X hI (name := "java/lang/IndexOutOfBoundsException") rfl (by rfl) (by decide) (by decide) q1098 q1144 hce hcv hcl ?_
      refine lv_astore (lv' := [(4, .ref x9), (0, .ref a0), (1, .int x1), (2, .int x2), (3, .ref a3)]) hx hb dX0_led_13 hl (by decide) rfl (fun ls hl => ?_)
      refine lv_iconst (v := (1 : Int32)) hx hb dX0_led_15 (by decide) ?_
      cases gRet_e hf
      exact g_retI X hI rfl dX0_led_16
    have hf := g_f k0 hf
    exact (gFail_f hf).elim
/-! X8_noOne -/
abbrev w_X8_noOne_19 (G : gG) (l : Launch) (p : Program) (e : Env) (s : State) (m : MethodId) (args : Array Value) (below : List Frame) (meth : Method) (c : Code) (h0 : g_H) (r : Int32) (h' : g_H) (k : Int32 → gM Int32) : Prop := ∀ (u0 : Int32) (h : g_H) (H : Heap) (locs : List Loc) (cells slots : Nat) (ls : Array Slot), (k u0).1 h = some (r, h') → gI G h0 h H locs cells slots → lv_has ls 2 [] → W p l e (g_rm 2 42 h0 h') s m args below meth c H locs cells slots (gQ G below args s h0 h' (.inl (g_wI r))) (F0 m 19 ls [.int u0])
def f_X8_noOne_19 (u0 : Int32) : gM Int32 :=
    gB (gGd (u0 = 0 ∨ u0 = 1)) fun _ =>
    (gRet u0)
set_option maxHeartbeats 4000000 in
set_option maxRecDepth 100000 in
theorem b_X8_noOne_19 {G : gG} {l : Launch} {p : Program} {e : Env} {s : State} {m : MethodId} {args : Array Value} {below : List Frame} {meth : Method} {c : Code} {h0 : g_H} {r : Int32} {h' : g_H} (X : gX G l yX8_noOne.cls cX8_noOne 2 (some .boolean) [] yX8_noOne.name p s m args meth c) : w_X8_noOne_19 G l p e s m args below meth c h0 r h' (f_X8_noOne_19) := by
  have hx := X.1
  have hb := X.2.1
  have hown := X.2.2.2.1
  have hts := X.2.2.2.2.1
  intro u0 h H locs cells slots ls hf hI hl
  unfold f_X8_noOne_19 at hf
  obtain ⟨hz, hf⟩ := gB_gd hf
  cases gRet_e hf
  exact g_retZ X hI hz rfl dX8_noOne_19
def f_X8_noOne (a0 : Nat) (x1 : Int32) : gM Int32 :=
    gB (gCk a0 7) fun _ =>
    gB (f_X8_oneCount a0) fun r1 =>
    gB (f_X8_in x1 (0 : Int32) (r1 - (1 : Int32))) fun r2 =>
    gIf (r2 = 0)
    (f_X8_noOne_19 (1 : Int32))
    (f_X8_noOne_19 (0 : Int32))
set_option maxHeartbeats 4000000 in
set_option maxRecDepth 100000 in
theorem m_X8_noOne {G : gG} {l : Launch} (hfl : l.stackTraces = false) {a0 : Nat} {x1 : Int32} {h h' : g_H} {r : Int32} (hf : (f_X8_noOne a0 x1).1 h = some (r, h')) : gMet G l yX8_noOne (Cond.code yX8_noOne cX8_noOne 2 (some .boolean)) 2 42 [.ref a0, .int x1] h (.inl (g_wI r)) h' := by
  refine g_head hfl ((f_X8_noOne a0 x1).2 h r h' hf) (plainFor_of_name (by decide)) (Nat.le_of_ble_eq_true rfl) (fun p e s m below meth c H locs cells slots ls X hI hl9 => ?_)
  have hl : lv_has ls 2 [(0, .ref a0), (1, .int x1)] := hl9
  have hx := X.1
  have hb := X.2.1
  have hown := X.2.2.2.1
  have hts := X.2.2.2.2.1
  unfold f_X8_noOne at hf
  refine lv_iload_n hx hb dX8_noOne_0 rfl (lv_at hl 1 rfl) ?_
  refine lv_iconst (v := (0 : Int32)) hx hb dX8_noOne_1 (by decide) ?_
  refine lv_aload_n hx hb dX8_noOne_2 rfl (lv_at hl 0 rfl) ?_
  obtain ⟨hs, hf⟩ := gCk_b hf
  refine g_cBI hI hf (fun v9 h9 e9 l9 l9' => g_rV X hI l9 l9' ⟨Nat.le_refl _, Nat.le_refl _⟩ (As := []) (m_X8_oneCount X.2.2.2.2.2.2.2.2.2.2.1 e9) ydX8_oneCount hs rfl rfl q1673 q1675 qs61 q131 q1676 rfl (Nat.le_of_ble_eq_true rfl) (Nat.le_of_ble_eq_true rfl) hl.1 rfl (Nat.le_of_ble_eq_true rfl) dX8_noOne_3) (fun r1 h H locs cells slots hf hI => ?_)
  refine lv_iconst (v := (1 : Int32)) hx hb dX8_noOne_6 (by decide) ?_
  refine lv_isub hx hb dX8_noOne_7 ?_
  refine g_cBI hI hf (fun v9 h9 e9 l9 l9' => g_rS (b := 0) X hI l9 l9' ⟨Nat.le_refl _, Nat.le_refl _⟩ (As := [.int x1, .int (0 : Int32), .int (r1 - (1 : Int32))]) (m_X8_in X.2.2.2.2.2.2.2.2.2.2.1 e9) ydX8_in q1634 q1635 q131 q1636 rfl (Nat.le_of_ble_eq_true rfl) (Nat.le_of_ble_eq_true rfl) hl.1 rfl (Nat.le_of_ble_eq_true rfl) dX8_noOne_8) (fun r2 h H locs cells slots hf hI => ?_)
  refine lv_if_ne (tgt := 18) hx hb dX8_noOne_11 (by decide) (fun c11 => ?_) (fun c11 => ?_)
  · have hf := g_f c11 hf
    refine lv_iconst (v := (0 : Int32)) hx hb dX8_noOne_18 (by decide) ?_
    exact b_X8_noOne_19 X _ _ _ _ _ _ _ hf hI (lv_sub hl [] rfl)
  · have hf := g_t c11 hf
    refine lv_iconst (v := (1 : Int32)) hx hb dX8_noOne_14 (by decide) ?_
    refine lv_goto (tgt := 19) hx hb dX8_noOne_15 (by decide) ?_
    exact b_X8_noOne_19 X _ _ _ _ _ _ _ hf hI (lv_sub hl [] rfl)
/-! X8_led -/
abbrev w_X8_led_70 (G : gG) (l : Launch) (p : Program) (e : Env) (s : State) (m : MethodId) (args : Array Value) (below : List Frame) (meth : Method) (c : Code) (h0 : g_H) (r : Int32) (h' : g_H) (k : Nat → Int32 → Int32 → Int32 → Int32 → Int32 → gM Int32) : Prop := ∀ (a0 : Nat) (x1 : Int32) (x2 : Int32) (x4 : Int32) (u0 : Int32) (u1 : Int32) (h : g_H) (H : Heap) (locs : List Loc) (cells slots : Nat) (ls : Array Slot), (k a0 x1 x2 x4 u0 u1).1 h = some (r, h') → gI G h0 h H locs cells slots → lv_has ls 5 [(0, .ref a0), (1, .int x1), (2, .int x2), (4, .int x4)] → W p l e (g_rm 3 63 h0 h') s m args below meth c H locs cells slots (gQ G below args s h0 h' (.inl (g_wI r))) (F0 m 70 ls [.int u1, .int u0])
abbrev w_X8_led_65 (G : gG) (l : Launch) (p : Program) (e : Env) (s : State) (m : MethodId) (args : Array Value) (below : List Frame) (meth : Method) (c : Code) (h0 : g_H) (r : Int32) (h' : g_H) (k : Nat → Int32 → Int32 → Int32 → Int32 → gM Int32) : Prop := ∀ (a0 : Nat) (x1 : Int32) (x2 : Int32) (x4 : Int32) (u0 : Int32) (h : g_H) (H : Heap) (locs : List Loc) (cells slots : Nat) (ls : Array Slot), (k a0 x1 x2 x4 u0).1 h = some (r, h') → gI G h0 h H locs cells slots → lv_has ls 5 [(0, .ref a0), (1, .int x1), (2, .int x2), (4, .int x4)] → W p l e (g_rm 3 63 h0 h') s m args below meth c H locs cells slots (gQ G below args s h0 h' (.inl (g_wI r))) (F0 m 65 ls [.int u0])
abbrev w_X8_led_69 (G : gG) (l : Launch) (p : Program) (e : Env) (s : State) (m : MethodId) (args : Array Value) (below : List Frame) (meth : Method) (c : Code) (h0 : g_H) (r : Int32) (h' : g_H) (k : Nat → Int32 → Int32 → Int32 → Int32 → gM Int32) : Prop := ∀ (a0 : Nat) (x1 : Int32) (x2 : Int32) (x4 : Int32) (u0 : Int32) (h : g_H) (H : Heap) (locs : List Loc) (cells slots : Nat) (ls : Array Slot), (k a0 x1 x2 x4 u0).1 h = some (r, h') → gI G h0 h H locs cells slots → lv_has ls 5 [(0, .ref a0), (1, .int x1), (2, .int x2), (4, .int x4)] → W p l e (g_rm 3 63 h0 h') s m args below meth c H locs cells slots (gQ G below args s h0 h' (.inl (g_wI r))) (F0 m 69 ls [.int u0])
abbrev w_X8_led_78 (G : gG) (l : Launch) (p : Program) (e : Env) (s : State) (m : MethodId) (args : Array Value) (below : List Frame) (meth : Method) (c : Code) (h0 : g_H) (r : Int32) (h' : g_H) (k : Int32 → gM Int32) : Prop := ∀ (x3 : Int32) (h : g_H) (H : Heap) (locs : List Loc) (cells slots : Nat) (ls : Array Slot), (k x3).1 h = some (r, h') → gI G h0 h H locs cells slots → lv_has ls 5 [(3, .int x3)] → W p l e (g_rm 3 63 h0 h') s m args below meth c H locs cells slots (gQ G below args s h0 h' (.inl (g_wI r))) (F0 m 78 ls [])
abbrev w_X8_led_25 (G : gG) (l : Launch) (p : Program) (e : Env) (s : State) (m : MethodId) (args : Array Value) (below : List Frame) (meth : Method) (c : Code) (h0 : g_H) (r : Int32) (h' : g_H) (k : Nat → Int32 → Int32 → Int32 → Int32 → gM Int32) : Prop := ∀ (a0 : Nat) (x1 : Int32) (x2 : Int32) (x3 : Int32) (x4 : Int32) (h : g_H) (H : Heap) (locs : List Loc) (cells slots : Nat) (ls : Array Slot), (k a0 x1 x2 x3 x4).1 h = some (r, h') → gI G h0 h H locs cells slots → lv_has ls 5 [(0, .ref a0), (1, .int x1), (2, .int x2), (3, .int x3), (4, .int x4)] → W p l e (g_rm 3 63 h0 h') s m args below meth c H locs cells slots (gQ G below args s h0 h' (.inl (g_wI r))) (F0 m 25 ls [])
def f_X8_led_70 (k25 : Nat → Int32 → Int32 → Int32 → Int32 → gM Int32) (a0 : Nat) (x1 : Int32) (x2 : Int32) (x4 : Int32) (u0 : Int32) (u1 : Int32) : gM Int32 :=
    k25 a0 x1 x2 (u0 + u1) (x4 + (1 : Int32))
set_option maxHeartbeats 4000000 in
set_option maxRecDepth 100000 in
theorem b_X8_led_70 {G : gG} {l : Launch} {p : Program} {e : Env} {s : State} {m : MethodId} {args : Array Value} {below : List Frame} {meth : Method} {c : Code} {h0 : g_H} {r : Int32} {h' : g_H} (X : gX G l yX8_led.cls cX8_led 5 (some .int) [] yX8_led.name p s m args meth c) {k25 : Nat → Int32 → Int32 → Int32 → Int32 → gM Int32} (K25 : w_X8_led_25 G l p e s m args below meth c h0 r h' k25) : w_X8_led_70 G l p e s m args below meth c h0 r h' (f_X8_led_70 k25) := by
  have hx := X.1
  have hb := X.2.1
  have hown := X.2.2.2.1
  have hts := X.2.2.2.2.1
  intro a0 x1 x2 x4 u0 u1 h H locs cells slots ls hf hI hl
  unfold f_X8_led_70 at hf
  refine lv_iadd hx hb dX8_led_70 ?_
  refine lv_istore_n (lv' := [(3, .int (u0 + u1)), (0, .ref a0), (1, .int x1), (2, .int x2), (4, .int x4)]) hx hb dX8_led_71 rfl hl (by decide) rfl (fun ls hl => ?_)
  refine lv_iinc (v := (x4 + (1 : Int32))) (lv' := [(4, .int (x4 + (1 : Int32))), (3, .int (u0 + u1)), (0, .ref a0), (1, .int x1), (2, .int x2)]) hx hb dX8_led_72 hl (k := 4) rfl rfl (by decide) rfl (fun ls hl => ?_)
  refine lv_goto (tgt := 25) hx hb dX8_led_75 (by decide) ?_
  exact K25 _ _ _ _ _ _ _ _ _ _ _ hf hI (lv_sub hl [2, 3, 4, 1, 0] rfl)
def f_X8_led_65 (k25 : Nat → Int32 → Int32 → Int32 → Int32 → gM Int32) (a0 : Nat) (x1 : Int32) (x2 : Int32) (x4 : Int32) (u0 : Int32) : gM Int32 :=
    f_X8_led_70 k25 a0 x1 x2 x4 u0 (1 : Int32)
set_option maxHeartbeats 4000000 in
set_option maxRecDepth 100000 in
theorem b_X8_led_65 {G : gG} {l : Launch} {p : Program} {e : Env} {s : State} {m : MethodId} {args : Array Value} {below : List Frame} {meth : Method} {c : Code} {h0 : g_H} {r : Int32} {h' : g_H} (X : gX G l yX8_led.cls cX8_led 5 (some .int) [] yX8_led.name p s m args meth c) {k25 : Nat → Int32 → Int32 → Int32 → Int32 → gM Int32} (K25 : w_X8_led_25 G l p e s m args below meth c h0 r h' k25) : w_X8_led_65 G l p e s m args below meth c h0 r h' (f_X8_led_65 k25) := by
  have hx := X.1
  have hb := X.2.1
  have hown := X.2.2.2.1
  have hts := X.2.2.2.2.1
  intro a0 x1 x2 x4 u0 h H locs cells slots ls hf hI hl
  unfold f_X8_led_65 at hf
  refine lv_iconst (v := (1 : Int32)) hx hb dX8_led_65 (by decide) ?_
  refine lv_goto (tgt := 70) hx hb dX8_led_66 (by decide) ?_
  exact b_X8_led_70 X K25 _ _ _ _ _ _ _ _ _ _ _ _ hf hI (lv_sub hl [0, 1, 2, 3] rfl)
def f_X8_led_69 (k25 : Nat → Int32 → Int32 → Int32 → Int32 → gM Int32) (a0 : Nat) (x1 : Int32) (x2 : Int32) (x4 : Int32) (u0 : Int32) : gM Int32 :=
    f_X8_led_70 k25 a0 x1 x2 x4 u0 (0 : Int32)
set_option maxHeartbeats 4000000 in
set_option maxRecDepth 100000 in
theorem b_X8_led_69 {G : gG} {l : Launch} {p : Program} {e : Env} {s : State} {m : MethodId} {args : Array Value} {below : List Frame} {meth : Method} {c : Code} {h0 : g_H} {r : Int32} {h' : g_H} (X : gX G l yX8_led.cls cX8_led 5 (some .int) [] yX8_led.name p s m args meth c) {k25 : Nat → Int32 → Int32 → Int32 → Int32 → gM Int32} (K25 : w_X8_led_25 G l p e s m args below meth c h0 r h' k25) : w_X8_led_69 G l p e s m args below meth c h0 r h' (f_X8_led_69 k25) := by
  have hx := X.1
  have hb := X.2.1
  have hown := X.2.2.2.1
  have hts := X.2.2.2.2.1
  intro a0 x1 x2 x4 u0 h H locs cells slots ls hf hI hl
  unfold f_X8_led_69 at hf
  refine lv_iconst (v := (0 : Int32)) hx hb dX8_led_69 (by decide) ?_
  exact b_X8_led_70 X K25 _ _ _ _ _ _ _ _ _ _ _ _ hf hI (lv_sub hl [0, 1, 2, 3] rfl)
def f_X8_led_78 (x3 : Int32) : gM Int32 :=
    (gRet x3)
set_option maxHeartbeats 4000000 in
set_option maxRecDepth 100000 in
theorem b_X8_led_78 {G : gG} {l : Launch} {p : Program} {e : Env} {s : State} {m : MethodId} {args : Array Value} {below : List Frame} {meth : Method} {c : Code} {h0 : g_H} {r : Int32} {h' : g_H} (X : gX G l yX8_led.cls cX8_led 5 (some .int) [] yX8_led.name p s m args meth c) : w_X8_led_78 G l p e s m args below meth c h0 r h' (f_X8_led_78) := by
  have hx := X.1
  have hb := X.2.1
  have hown := X.2.2.2.1
  have hts := X.2.2.2.2.1
  intro x3 h H locs cells slots ls hf hI hl
  unfold f_X8_led_78 at hf
  refine lv_iload_n hx hb dX8_led_78 rfl (lv_at hl 0 rfl) ?_
  cases gRet_e hf
  exact g_retI X hI rfl dX8_led_79
def f_X8_led_25 : Nat → Nat → Int32 → Int32 → Int32 → Int32 → gM Int32
  | 0, _, _, _, _, _ => gFail
  | n + 1, a0, x1, x2, x3, x4 =>
    gB (gFR a0 7 1) fun v101 =>
    gB (gAI v101 0 (7 : Int32)) fun v102 =>
    gIf (v102 ≤ x4)
    (f_X8_led_78 x3)
    (gB (gCk a0 7) fun _ =>
    gB (f_X8_ofLog a0 x4 (1 : Int32)) fun r103 =>
    gIf (r103 = x1)
    (gIf (x2 = 0)
    (f_X8_led_65 (f_X8_led_25 n) a0 x1 x2 x4 x3)
    (gB (gCk a0 7) fun _ =>
    gB (f_X8_ofLog a0 x4 (2 : Int32)) fun r104 =>
    gIf ((10 : Int32) ≤ r104)
    (f_X8_led_69 (f_X8_led_25 n) a0 x1 x2 x4 x3)
    (f_X8_led_65 (f_X8_led_25 n) a0 x1 x2 x4 x3)))
    (f_X8_led_69 (f_X8_led_25 n) a0 x1 x2 x4 x3))
set_option maxHeartbeats 4000000 in
set_option maxRecDepth 100000 in
theorem b_X8_led_25 {G : gG} {l : Launch} {p : Program} {e : Env} {s : State} {m : MethodId} {args : Array Value} {below : List Frame} {meth : Method} {c : Code} {h0 : g_H} {r : Int32} {h' : g_H} (X : gX G l yX8_led.cls cX8_led 5 (some .int) [] yX8_led.name p s m args meth c) : ∀ n : Nat, w_X8_led_25 G l p e s m args below meth c h0 r h' (f_X8_led_25 n) := by
  have hx := X.1
  have hb := X.2.1
  have hown := X.2.2.2.1
  have hts := X.2.2.2.2.1
  intro n
  induction n with
  | zero =>
    intro a0 x1 x2 x3 x4 h H locs cells slots ls hf hI hl
    exact (gFail_f hf).elim
  | succ n ih =>
    intro a0 x1 x2 x3 x4 h H locs cells slots ls hf hI hl
    rw [f_X8_led_25] at hf
    refine lv_iload hx hb dX8_led_25 (lv_at hl 4 rfl) ?_
    refine lv_aload_n hx hb dX8_led_27 rfl (lv_at hl 0 rfl) ?_
    refine g_fr X hI hf fX8_1 q1445 rfl rfl dX8_led_28 (fun v101 hf => ?_)
    refine lv_bipush (v := (7 : Int32)) hx hb dX8_led_31 (by decide) ?_
    refine g_ai0 X hI hf dX8_led_33 (fun v102 hf => ?_)
    refine lv_icmp_ge (tgt := 78) hx hb dX8_led_34 (by decide) (fun c34 => ?_) (fun c34 => ?_)
    · have hf := g_t c34 hf
      exact b_X8_led_78 X _ _ _ _ _ _ _ hf hI (lv_sub hl [3] rfl)
    · have hf := g_f c34 hf
      refine lv_iload_n hx hb dX8_led_37 rfl (lv_at hl 3 rfl) ?_
      refine lv_aload_n hx hb dX8_led_38 rfl (lv_at hl 0 rfl) ?_
      refine lv_iload hx hb dX8_led_39 (lv_at hl 4 rfl) ?_
      refine lv_iconst (v := (1 : Int32)) hx hb dX8_led_41 (by decide) ?_
      obtain ⟨hs, hf⟩ := gCk_b hf
      refine g_cBI hI hf (fun v9 h9 e9 l9 l9' => g_rV X hI l9 l9' ⟨Nat.le_refl _, Nat.le_refl _⟩ (As := [.int x4, .int (1 : Int32)]) (m_X8_ofLog X.2.2.2.2.2.2.2.2.2.2.1 e9) ydX8_ofLog hs rfl rfl q2077 q2079 qs117 q131 q2080 rfl (Nat.le_of_ble_eq_true rfl) (Nat.le_of_ble_eq_true rfl) hl.1 rfl (Nat.le_of_ble_eq_true rfl) dX8_led_42) (fun r103 h H locs cells slots hf hI => ?_)
      refine lv_iload_n hx hb dX8_led_45 rfl (lv_at hl 1 rfl) ?_
      refine lv_icmp_ne (tgt := 69) hx hb dX8_led_46 (by decide) (fun c46 => ?_) (fun c46 => ?_)
      · have hf := g_f c46 hf
        exact b_X8_led_69 X ih _ _ _ _ _ _ _ _ _ _ _ hf hI (lv_sub hl [0, 1, 2, 4] rfl)
      · have hf := g_t c46 hf
        refine lv_iload_n hx hb dX8_led_49 rfl (lv_at hl 2 rfl) ?_
        refine lv_if_eq (tgt := 65) hx hb dX8_led_50 (by decide) (fun c50 => ?_) (fun c50 => ?_)
        · have hf := g_t c50 hf
          exact b_X8_led_65 X ih _ _ _ _ _ _ _ _ _ _ _ hf hI (lv_sub hl [0, 1, 2, 4] rfl)
        · have hf := g_f c50 hf
          refine lv_aload_n hx hb dX8_led_53 rfl (lv_at hl 0 rfl) ?_
          refine lv_iload hx hb dX8_led_54 (lv_at hl 4 rfl) ?_
          refine lv_iconst (v := (2 : Int32)) hx hb dX8_led_56 (by decide) ?_
          obtain ⟨hs, hf⟩ := gCk_b hf
          refine g_cBI hI hf (fun v9 h9 e9 l9 l9' => g_rV X hI l9 l9' ⟨Nat.le_refl _, Nat.le_refl _⟩ (As := [.int x4, .int (2 : Int32)]) (m_X8_ofLog X.2.2.2.2.2.2.2.2.2.2.1 e9) ydX8_ofLog hs rfl rfl q2077 q2079 qs117 q131 q2080 rfl (Nat.le_of_ble_eq_true rfl) (Nat.le_of_ble_eq_true rfl) hl.1 rfl (Nat.le_of_ble_eq_true rfl) dX8_led_57) (fun r104 h H locs cells slots hf hI => ?_)
          refine lv_bipush (v := (10 : Int32)) hx hb dX8_led_60 (by decide) ?_
          refine lv_icmp_ge (tgt := 69) hx hb dX8_led_62 (by decide) (fun c62 => ?_) (fun c62 => ?_)
          · have hf := g_t c62 hf
            exact b_X8_led_69 X ih _ _ _ _ _ _ _ _ _ _ _ hf hI (lv_sub hl [0, 1, 2, 4] rfl)
          · have hf := g_f c62 hf
            exact b_X8_led_65 X ih _ _ _ _ _ _ _ _ _ _ _ hf hI (lv_sub hl [0, 1, 2, 4] rfl)
def f_X8_led (a0 : Nat) (x1 : Int32) (x2 : Int32) : gM Int32 :=
    gB (gPI a0 7 0 (0 : Int32)) fun _ =>
    gB (gCk a0 7) fun _ =>
    gB (f_X8_noOne a0 x1) fun r1 =>
    gB (gCk a0 7) fun _ =>
    gB (f_X8_throwsIf a0 r1 (1 : Int32)) fun r2 =>
    gIf (r2 = 0)
    (f_X8_led_25 gN a0 x1 x2 (0 : Int32) (0 : Int32))
    ((gRet (0 : Int32)))
set_option maxHeartbeats 4000000 in
set_option maxRecDepth 100000 in
theorem m_X8_led {G : gG} {l : Launch} (hfl : l.stackTraces = false) {a0 : Nat} {x1 : Int32} {x2 : Int32} {h h' : g_H} {r : Int32} (hf : (f_X8_led a0 x1 x2).1 h = some (r, h')) : gMet G l yX8_led (Cond.code yX8_led cX8_led 5 (some .int)) 3 63 [.ref a0, .int x1, .int x2] h (.inl (g_wI r)) h' := by
  refine g_head hfl ((f_X8_led a0 x1 x2).2 h r h' hf) (plainFor_of_name (by decide)) (Nat.le_of_ble_eq_true rfl) (fun p e s m below meth c H locs cells slots ls X hI hl9 => ?_)
  have hl : lv_has ls 5 [(0, .ref a0), (1, .int x1), (2, .int x2)] := hl9
  have hx := X.1
  have hb := X.2.1
  have hown := X.2.2.2.1
  have hts := X.2.2.2.2.1
  unfold f_X8_led at hf
  refine lv_aload_n hx hb dX8_led_0 rfl (lv_at hl 0 rfl) ?_
  refine lv_iconst (v := (0 : Int32)) hx hb dX8_led_1 (by decide) ?_
  refine g_pi X hI hf fX8_0 q1444 rfl dX8_led_2 (fun h H locs hf hI => ?_)
  refine lv_aload_n hx hb dX8_led_5 rfl (lv_at hl 0 rfl) ?_
  refine lv_aload_n hx hb dX8_led_6 rfl (lv_at hl 0 rfl) ?_
  refine lv_iload_n hx hb dX8_led_7 rfl (lv_at hl 1 rfl) ?_
  obtain ⟨hs, hf⟩ := gCk_b hf
  refine g_cBI hI hf (fun v9 h9 e9 l9 l9' => g_rV X hI l9 l9' ⟨Nat.le_refl _, Nat.le_refl _⟩ (As := [.int x1]) (m_X8_noOne X.2.2.2.2.2.2.2.2.2.2.1 e9) ydX8_noOne hs rfl rfl q1763 q1765 qs74 q131 q1766 rfl (Nat.le_of_ble_eq_true rfl) (Nat.le_of_ble_eq_true rfl) hl.1 rfl (Nat.le_of_ble_eq_true rfl) dX8_led_8) (fun r1 h H locs cells slots hf hI => ?_)
  refine lv_iconst (v := (1 : Int32)) hx hb dX8_led_11 (by decide) ?_
  obtain ⟨hs, hf⟩ := gCk_b hf
  refine g_cBI hI hf (fun v9 h9 e9 l9 l9' => g_rV X hI l9 l9' ⟨Nat.le_refl _, Nat.le_refl _⟩ (As := [.int r1, .int (1 : Int32)]) (m_X8_throwsIf X.2.2.2.2.2.2.2.2.2.2.1 e9) ydX8_throwsIf hs rfl rfl q1736 q1738 qs72 q131 q1739 rfl (Nat.le_of_ble_eq_true rfl) (Nat.le_of_ble_eq_true rfl) hl.1 rfl (Nat.le_of_ble_eq_true rfl) dX8_led_12) (fun r2 h H locs cells slots hf hI => ?_)
  refine lv_if_eq (tgt := 20) hx hb dX8_led_15 (by decide) (fun c15 => ?_) (fun c15 => ?_)
  · have hf := g_t c15 hf
    refine lv_iconst (v := (0 : Int32)) hx hb dX8_led_20 (by decide) ?_
    refine lv_istore_n (lv' := [(3, .int (0 : Int32)), (0, .ref a0), (1, .int x1), (2, .int x2)]) hx hb dX8_led_21 rfl hl (by decide) rfl (fun ls hl => ?_)
    refine lv_iconst (v := (0 : Int32)) hx hb dX8_led_22 (by decide) ?_
    refine lv_istore (lv' := [(4, .int (0 : Int32)), (3, .int (0 : Int32)), (0, .ref a0), (1, .int x1), (2, .int x2)]) hx hb dX8_led_23 hl (by decide) rfl (fun ls hl => ?_)
    exact b_X8_led_25 X gN _ _ _ _ _ _ _ _ _ _ _ hf hI (lv_sub hl [2, 3, 4, 1, 0] rfl)
  · have hf := g_f c15 hf
    refine lv_iconst (v := (0 : Int32)) hx hb dX8_led_18 (by decide) ?_
    cases gRet_e hf
    exact g_retI X hI rfl dX8_led_19
/-! X1_must -/
def f_X1_must (x0 : Int32) : gM (Unit ⊕ gE) :=
    gIf (x0 = 0)
    (gB (gNew 17 6) fun a1 =>
    gB (gCk a1 17) fun _ =>
    gRet (.inr (17, a1)))
    (gRet (.inl ()))
set_option maxHeartbeats 4000000 in
set_option maxRecDepth 100000 in
theorem m_X1_must {G : gG} {l : Launch} (hfl : l.stackTraces = false) {x0 : Int32} {h h' : g_H} {r : (Unit ⊕ gE)} (hf : (f_X1_must x0).1 h = some (r, h')) : gMet G l yX1_must (Cond.code yX1_must cX1_must 1 none) 6 89 [.int x0] h (g_w g_wU r) h' := by
  refine g_head hfl ((f_X1_must x0).2 h r h' hf) (plainFor_of_name (by decide)) (Nat.le_of_ble_eq_true rfl) (fun p e s m below meth c H locs cells slots ls X hI hl9 => ?_)
  have hl : lv_has ls 1 [(0, .int x0)] := hl9
  have hx := X.1
  have hb := X.2.1
  have hown := X.2.2.2.1
  have hts := X.2.2.2.2.1
  unfold f_X1_must at hf
  refine lv_iload_n hx hb dX1_must_0 rfl (lv_at hl 0 rfl) ?_
  refine lv_if_ne (tgt := 12) hx hb dX1_must_1 (by decide) (fun c1 => ?_) (fun c1 => ?_)
  · have hf := g_f c1 hf
    cases gRet_e hf
    exact g_retU X hI rfl dX1_must_12
  · have hf := g_t c1 hf
    refine g_make (names := ["java/lang/RuntimeException", "java/lang/Exception"]) (ik := 70) (ic := 72) (cls := "java/lang/IllegalArgumentException") X hI hf ⟨Nat.le_refl _, Nat.le_refl _⟩ rfl rfl rfl rfl (by decide) (by decide) q920 q138 (g_hat X x17_1 x17_2) (List.all_eq_true.mp x17_3) hl.1 dX1_must_4 dX1_must_7 dX1_must_8 (Nat.lt_of_lt_of_le (show 2 + 3 < 6 by decide) (Nat.le_of_ble_eq_true rfl)) (Nat.le_of_ble_eq_true rfl) (Nat.le_of_ble_eq_true rfl) (fun a1 h H cells slots hf hI => ?_)
    obtain ⟨hs, hf⟩ := gCk_b hf
    cases gRet_e hf
    exact g_athrow X hI (by decide) hs rfl rfl dX1_must_11
/-! X3_tells -/
def f_X3_tells (a0 : Nat) (a1 : Nat) (x2 : Int32) (x3 : Int32) : gM Unit :=
    gB (gFR a0 2 0) fun v1 =>
    gB (gFR a0 2 3) fun v2 =>
    gB (gAI v2 0 x2) fun v3 =>
    gB (gAR v1 4 v3) fun v4 =>
    gB (gFR a0 2 4) fun v5 =>
    gB (gFR a0 2 3) fun v6 =>
    gB (gAI v6 0 x2) fun v7 =>
    gB (gSI v5 0 (0 : Int32) v7) fun _ =>
    gB (gFR a0 2 4) fun v8 =>
    gB (gSI v8 0 (1 : Int32) x2) fun _ =>
    gB (gFR a0 2 4) fun v9 =>
    gB (gFI v4 3 1) fun v10 =>
    gB (gSI v9 0 (2 : Int32) v10) fun _ =>
    gB (gFR a0 2 4) fun v11 =>
    gB (gFI v4 3 2) fun v12 =>
    gB (gSI v11 0 (3 : Int32) v12) fun _ =>
    gB (gFR a0 2 4) fun v13 =>
    gB (gSI v13 0 (4 : Int32) x3) fun _ =>
    gB (gFR a0 2 4) fun v14 =>
    gB (gFI a1 4 1) fun v15 =>
    gB (gSI v14 0 (5 : Int32) v15) fun _ =>
    gB (gFR a0 2 4) fun v16 =>
    gB (gFI a1 4 2) fun v17 =>
    gB (gFR a0 2 3) fun v18 =>
    gB (gAI v18 0 x2) fun v19 =>
    gB (gSI v16 0 (6 : Int32) ((v17 >>> (v19 &&& 31)) &&& (1 : Int32))) fun _ =>
    gB (gFR a0 2 4) fun v20 =>
    gB (gFI a1 4 0) fun v21 =>
    gB (gFI v4 3 0) fun v22 =>
    gB (gSI v20 0 (7 : Int32) ((v21 >>> (v22 &&& 31)) &&& (1 : Int32))) fun _ =>
    gRet ()
set_option maxHeartbeats 4000000 in
set_option maxRecDepth 100000 in
theorem m_X3_tells {G : gG} {l : Launch} (hfl : l.stackTraces = false) {a0 : Nat} {a1 : Nat} {x2 : Int32} {x3 : Int32} {h h' : g_H} {r : Unit} (hf : (f_X3_tells a0 a1 x2 x3).1 h = some (r, h')) : gMet G l yX3_tells (Cond.code yX3_tells cX3_tells 5 none) 1 20 [.ref a0, .ref a1, .int x2, .int x3] h (.inl (g_wU r)) h' := by
  refine g_head hfl ((f_X3_tells a0 a1 x2 x3).2 h r h' hf) (plainFor_of_name (by decide)) (Nat.le_of_ble_eq_true rfl) (fun p e s m below meth c H locs cells slots ls X hI hl9 => ?_)
  have hl : lv_has ls 5 [(0, .ref a0), (1, .ref a1), (2, .int x2), (3, .int x3)] := hl9
  have hx := X.1
  have hb := X.2.1
  have hown := X.2.2.2.1
  have hts := X.2.2.2.2.1
  unfold f_X3_tells at hf
  refine lv_aload_n hx hb dX3_tells_0 rfl (lv_at hl 0 rfl) ?_
  refine g_fr X hI hf fX3_0 q253 rfl rfl dX3_tells_1 (fun v1 hf => ?_)
  refine lv_aload_n hx hb dX3_tells_4 rfl (lv_at hl 0 rfl) ?_
  refine g_fr X hI hf fX3_3 q261 rfl rfl dX3_tells_5 (fun v2 hf => ?_)
  refine lv_iload_n hx hb dX3_tells_8 rfl (lv_at hl 2 rfl) ?_
  refine g_ai0 X hI hf dX3_tells_9 (fun v3 hf => ?_)
  refine g_ar4 X hI hf dX3_tells_10 (fun v4 hf => ?_)
  refine lv_astore (lv' := [(4, .ref v4), (0, .ref a0), (1, .ref a1), (2, .int x2), (3, .int x3)]) hx hb dX3_tells_11 hl (by decide) rfl (fun ls hl => ?_)
  refine lv_aload_n hx hb dX3_tells_13 rfl (lv_at hl 1 rfl) ?_
  refine g_fr X hI hf fX3_4 q265 rfl rfl dX3_tells_14 (fun v5 hf => ?_)
  refine lv_iconst (v := (0 : Int32)) hx hb dX3_tells_17 (by decide) ?_
  refine lv_aload_n hx hb dX3_tells_18 rfl (lv_at hl 1 rfl) ?_
  refine g_fr X hI hf fX3_3 q261 rfl rfl dX3_tells_19 (fun v6 hf => ?_)
  refine lv_iload_n hx hb dX3_tells_22 rfl (lv_at hl 3 rfl) ?_
  refine g_ai0 X hI hf dX3_tells_23 (fun v7 hf => ?_)
  refine g_si0 X hI hf dX3_tells_24 (fun h H locs hf hI => ?_)
  refine lv_aload_n hx hb dX3_tells_25 rfl (lv_at hl 1 rfl) ?_
  refine g_fr X hI hf fX3_4 q265 rfl rfl dX3_tells_26 (fun v8 hf => ?_)
  refine lv_iconst (v := (1 : Int32)) hx hb dX3_tells_29 (by decide) ?_
  refine lv_iload_n hx hb dX3_tells_30 rfl (lv_at hl 3 rfl) ?_
  refine g_si0 X hI hf dX3_tells_31 (fun h H locs hf hI => ?_)
  refine lv_aload_n hx hb dX3_tells_32 rfl (lv_at hl 1 rfl) ?_
  refine g_fr X hI hf fX3_4 q265 rfl rfl dX3_tells_33 (fun v9 hf => ?_)
  refine lv_iconst (v := (2 : Int32)) hx hb dX3_tells_36 (by decide) ?_
  refine lv_aload hx hb dX3_tells_37 (lv_at hl 0 rfl) ?_
  refine g_fiN X hI hf fX4_1 q200 rfl rfl dX3_tells_39 (fun v10 hf => ?_)
  refine g_si0 X hI hf dX3_tells_42 (fun h H locs hf hI => ?_)
  refine lv_aload_n hx hb dX3_tells_43 rfl (lv_at hl 1 rfl) ?_
  refine g_fr X hI hf fX3_4 q265 rfl rfl dX3_tells_44 (fun v11 hf => ?_)
  refine lv_iconst (v := (3 : Int32)) hx hb dX3_tells_47 (by decide) ?_
  refine lv_aload hx hb dX3_tells_48 (lv_at hl 0 rfl) ?_
  refine g_fiN X hI hf fX4_2 q204 rfl rfl dX3_tells_50 (fun v12 hf => ?_)
  refine g_si0 X hI hf dX3_tells_53 (fun h H locs hf hI => ?_)
  refine lv_aload_n hx hb dX3_tells_54 rfl (lv_at hl 1 rfl) ?_
  refine g_fr X hI hf fX3_4 q265 rfl rfl dX3_tells_55 (fun v13 hf => ?_)
  refine lv_iconst (v := (4 : Int32)) hx hb dX3_tells_58 (by decide) ?_
  refine lv_iload_n hx hb dX3_tells_59 rfl (lv_at hl 4 rfl) ?_
  refine g_si0 X hI hf dX3_tells_60 (fun h H locs hf hI => ?_)
  refine lv_aload_n hx hb dX3_tells_61 rfl (lv_at hl 1 rfl) ?_
  refine g_fr X hI hf fX3_4 q265 rfl rfl dX3_tells_62 (fun v14 hf => ?_)
  refine lv_iconst (v := (5 : Int32)) hx hb dX3_tells_65 (by decide) ?_
  refine lv_aload_n hx hb dX3_tells_66 rfl (lv_at hl 2 rfl) ?_
  refine g_fiN X hI hf fX5_1 q233 rfl rfl dX3_tells_67 (fun v15 hf => ?_)
  refine g_si0 X hI hf dX3_tells_70 (fun h H locs hf hI => ?_)
  refine lv_aload_n hx hb dX3_tells_71 rfl (lv_at hl 1 rfl) ?_
  refine g_fr X hI hf fX3_4 q265 rfl rfl dX3_tells_72 (fun v16 hf => ?_)
  refine lv_bipush (v := (6 : Int32)) hx hb dX3_tells_75 (by decide) ?_
  refine lv_aload_n hx hb dX3_tells_77 rfl (lv_at hl 2 rfl) ?_
  refine g_fiN X hI hf fX5_2 q237 rfl rfl dX3_tells_78 (fun v17 hf => ?_)
  refine lv_aload_n hx hb dX3_tells_81 rfl (lv_at hl 1 rfl) ?_
  refine g_fr X hI hf fX3_3 q261 rfl rfl dX3_tells_82 (fun v18 hf => ?_)
  refine lv_iload_n hx hb dX3_tells_85 rfl (lv_at hl 3 rfl) ?_
  refine g_ai0 X hI hf dX3_tells_86 (fun v19 hf => ?_)
  refine lv_ishr hx hb dX3_tells_87 ?_
  refine lv_iconst (v := (1 : Int32)) hx hb dX3_tells_88 (by decide) ?_
  refine lv_iand hx hb dX3_tells_89 ?_
  refine g_si0 X hI hf dX3_tells_90 (fun h H locs hf hI => ?_)
  refine lv_aload_n hx hb dX3_tells_91 rfl (lv_at hl 1 rfl) ?_
  refine g_fr X hI hf fX3_4 q265 rfl rfl dX3_tells_92 (fun v20 hf => ?_)
  refine lv_bipush (v := (7 : Int32)) hx hb dX3_tells_95 (by decide) ?_
  refine lv_aload_n hx hb dX3_tells_97 rfl (lv_at hl 2 rfl) ?_
  refine g_fiN X hI hf fX5_0 q228 rfl rfl dX3_tells_98 (fun v21 hf => ?_)
  refine lv_aload hx hb dX3_tells_101 (lv_at hl 0 rfl) ?_
  refine g_fiN X hI hf fX4_0 q196 rfl rfl dX3_tells_103 (fun v22 hf => ?_)
  refine lv_ishr hx hb dX3_tells_106 ?_
  refine lv_iconst (v := (1 : Int32)) hx hb dX3_tells_107 (by decide) ?_
  refine lv_iand hx hb dX3_tells_108 ?_
  refine g_si0 X hI hf dX3_tells_109 (fun h H locs hf hI => ?_)
  cases gRet_e hf
  exact g_retU X hI rfl dX3_tells_110
/-! X10_holds -/
abbrev w_X10_holds_14 (G : gG) (l : Launch) (p : Program) (e : Env) (s : State) (m : MethodId) (args : Array Value) (below : List Frame) (meth : Method) (c : Code) (h0 : g_H) (r : Int32) (h' : g_H) (Fd Ld : Nat) (k : Int32 → gM Int32) : Prop := ∀ (u0 : Int32) (h : g_H) (H : Heap) (locs : List Loc) (cells slots : Nat) (ls : Array Slot), (k u0).1 h = some (r, h') → gI G h0 h H locs cells slots → lv_has ls 2 [] → W p l e (g_rm (Fd + 4) (Ld + 73) h0 h') s m args below meth c H locs cells slots (gQ G below args s h0 h' (.inl (g_wI r))) (F0 m 14 ls [.int u0])
def f_X10_holds_14 (rH : Nat → Nat → gM Int32) (u0 : Int32) : gM Int32 :=
    gB (gGd (u0 = 0 ∨ u0 = 1)) fun _ =>
    (gRet u0)
set_option maxHeartbeats 4000000 in
set_option maxRecDepth 100000 in
theorem b_X10_holds_14 {G : gG} {l : Launch} {p : Program} {e : Env} {s : State} {m : MethodId} {args : Array Value} {below : List Frame} {meth : Method} {c : Code} {h0 : g_H} {r : Int32} {h' : g_H} {Fd Ld : Nat} (X : gX G l yX10_holds.cls cX10_holds 2 (some .boolean) [] yX10_holds.name p s m args meth c) {rH : Nat → Nat → gM Int32} (KH : g_HR G l rH Fd Ld) : w_X10_holds_14 G l p e s m args below meth c h0 r h' Fd Ld (f_X10_holds_14 rH) := by
  have hx := X.1
  have hb := X.2.1
  have hown := X.2.2.2.1
  have hts := X.2.2.2.2.1
  intro u0 h H locs cells slots ls hf hI hl
  unfold f_X10_holds_14 at hf
  obtain ⟨hz, hf⟩ := gB_gd hf
  cases gRet_e hf
  exact g_retZ X hI hz rfl dX10_holds_14
def f_X10_holds (rH : Nat → Nat → gM Int32) (a0 : Nat) (a1 : Nat) : gM Int32 :=
    gB (gFI a0 9 0) fun v1 =>
    gB (gAI a1 0 v1) fun v2 =>
    gIf (v2 = 0)
    (f_X10_holds_14 rH (0 : Int32))
    (f_X10_holds_14 rH (1 : Int32))
set_option maxHeartbeats 4000000 in
set_option maxRecDepth 100000 in
theorem m_X10_holds {G : gG} {l : Launch} (hfl : l.stackTraces = false) {Fd Ld : Nat} {rH : Nat → Nat → gM Int32} (KH : g_HR G l rH Fd Ld) {a0 : Nat} {a1 : Nat} {h h' : g_H} {r : Int32} (hf : (f_X10_holds rH a0 a1).1 h = some (r, h')) : gMet G l yX10_holds (Cond.code yX10_holds cX10_holds 2 (some .boolean)) (Fd + 4) (Ld + 73) [.ref a0, .ref a1] h (.inl (g_wI r)) h' := by
  refine g_head hfl ((f_X10_holds rH a0 a1).2 h r h' hf) (plainFor_of_name (by decide)) (Nat.le_of_ble_eq_true rfl) (fun p e s m below meth c H locs cells slots ls X hI hl9 => ?_)
  have hl : lv_has ls 2 [(0, .ref a0), (1, .ref a1)] := hl9
  have hx := X.1
  have hb := X.2.1
  have hown := X.2.2.2.1
  have hts := X.2.2.2.2.1
  unfold f_X10_holds at hf
  refine lv_aload_n hx hb dX10_holds_0 rfl (lv_at hl 1 rfl) ?_
  refine lv_aload_n hx hb dX10_holds_1 rfl (lv_at hl 0 rfl) ?_
  refine g_fi X hI hf fX10_0 q995 rfl rfl dX10_holds_2 (fun v1 hf => ?_)
  refine g_ai0 X hI hf dX10_holds_5 (fun v2 hf => ?_)
  refine lv_if_eq (tgt := 13) hx hb dX10_holds_6 (by decide) (fun c6 => ?_) (fun c6 => ?_)
  · have hf := g_t c6 hf
    refine lv_iconst (v := (0 : Int32)) hx hb dX10_holds_13 (by decide) ?_
    exact b_X10_holds_14 X KH _ _ _ _ _ _ _ hf hI (lv_sub hl [] rfl)
  · have hf := g_f c6 hf
    refine lv_iconst (v := (1 : Int32)) hx hb dX10_holds_9 (by decide) ?_
    refine lv_goto (tgt := 14) hx hb dX10_holds_10 (by decide) ?_
    exact b_X10_holds_14 X KH _ _ _ _ _ _ _ hf hI (lv_sub hl [] rfl)
/-! X11_of -/
abbrev w_X11_of_32 (G : gG) (l : Launch) (p : Program) (e : Env) (s : State) (m : MethodId) (args : Array Value) (below : List Frame) (meth : Method) (c : Code) (h0 : g_H) (r : Int32) (h' : g_H) (k : Int32 → gM Int32) : Prop := ∀ (x2 : Int32) (h : g_H) (H : Heap) (locs : List Loc) (cells slots : Nat) (ls : Array Slot), (k x2).1 h = some (r, h') → gI G h0 h H locs cells slots → lv_has ls 4 [(2, .int x2)] → W p l e (g_rm 1 20 h0 h') s m args below meth c H locs cells slots (gQ G below args s h0 h' (.inl (g_wI r))) (F0 m 32 ls [])
abbrev w_X11_of_7 (G : gG) (l : Launch) (p : Program) (e : Env) (s : State) (m : MethodId) (args : Array Value) (below : List Frame) (meth : Method) (c : Code) (h0 : g_H) (r : Int32) (h' : g_H) (k : Nat → Nat → Int32 → Int32 → gM Int32) : Prop := ∀ (a0 : Nat) (a1 : Nat) (x2 : Int32) (x3 : Int32) (h : g_H) (H : Heap) (locs : List Loc) (cells slots : Nat) (ls : Array Slot), (k a0 a1 x2 x3).1 h = some (r, h') → gI G h0 h H locs cells slots → lv_has ls 4 [(0, .ref a0), (1, .ref a1), (2, .int x2), (3, .int x3)] → W p l e (g_rm 1 20 h0 h') s m args below meth c H locs cells slots (gQ G below args s h0 h' (.inl (g_wI r))) (F0 m 7 ls [])
def f_X11_of_32 (x2 : Int32) : gM Int32 :=
    (gRet x2)
set_option maxHeartbeats 4000000 in
set_option maxRecDepth 100000 in
theorem b_X11_of_32 {G : gG} {l : Launch} {p : Program} {e : Env} {s : State} {m : MethodId} {args : Array Value} {below : List Frame} {meth : Method} {c : Code} {h0 : g_H} {r : Int32} {h' : g_H} (X : gX G l yX11_of.cls cX11_of 4 (some .int) [] yX11_of.name p s m args meth c) : w_X11_of_32 G l p e s m args below meth c h0 r h' (f_X11_of_32) := by
  have hx := X.1
  have hb := X.2.1
  have hown := X.2.2.2.1
  have hts := X.2.2.2.2.1
  intro x2 h H locs cells slots ls hf hI hl
  unfold f_X11_of_32 at hf
  refine lv_iload_n hx hb dX11_of_32 rfl (lv_at hl 0 rfl) ?_
  cases gRet_e hf
  exact g_retI X hI rfl dX11_of_33
def f_X11_of_7 : Nat → Nat → Nat → Int32 → Int32 → gM Int32
  | 0, _, _, _, _ => gFail
  | n + 1, a0, a1, x2, x3 =>
    gIf ((6 : Int32) ≤ x3)
    (f_X11_of_32 x2)
    (gB (gFR a0 10 0) fun v101 =>
    gB (gAI v101 0 x3) fun v102 =>
    gB (gAI a1 0 x3) fun v103 =>
    f_X11_of_7 n a0 a1 (x2 + (v102 * v103)) (x3 + (1 : Int32)))
set_option maxHeartbeats 4000000 in
set_option maxRecDepth 100000 in
theorem b_X11_of_7 {G : gG} {l : Launch} {p : Program} {e : Env} {s : State} {m : MethodId} {args : Array Value} {below : List Frame} {meth : Method} {c : Code} {h0 : g_H} {r : Int32} {h' : g_H} (X : gX G l yX11_of.cls cX11_of 4 (some .int) [] yX11_of.name p s m args meth c) : ∀ n : Nat, w_X11_of_7 G l p e s m args below meth c h0 r h' (f_X11_of_7 n) := by
  have hx := X.1
  have hb := X.2.1
  have hown := X.2.2.2.1
  have hts := X.2.2.2.2.1
  intro n
  induction n with
  | zero =>
    intro a0 a1 x2 x3 h H locs cells slots ls hf hI hl
    exact (gFail_f hf).elim
  | succ n ih =>
    intro a0 a1 x2 x3 h H locs cells slots ls hf hI hl
    rw [f_X11_of_7] at hf
    refine lv_iload_n hx hb dX11_of_7 rfl (lv_at hl 3 rfl) ?_
    refine lv_bipush (v := (6 : Int32)) hx hb dX11_of_8 (by decide) ?_
    refine lv_icmp_ge (tgt := 32) hx hb dX11_of_10 (by decide) (fun c10 => ?_) (fun c10 => ?_)
    · have hf := g_t c10 hf
      exact b_X11_of_32 X _ _ _ _ _ _ _ hf hI (lv_sub hl [2] rfl)
    · have hf := g_f c10 hf
      refine lv_iload_n hx hb dX11_of_13 rfl (lv_at hl 2 rfl) ?_
      refine lv_aload_n hx hb dX11_of_14 rfl (lv_at hl 0 rfl) ?_
      refine g_fr X hI hf fX11_0 q1009 rfl rfl dX11_of_15 (fun v101 hf => ?_)
      refine lv_iload_n hx hb dX11_of_18 rfl (lv_at hl 3 rfl) ?_
      refine g_ai0 X hI hf dX11_of_19 (fun v102 hf => ?_)
      refine lv_aload_n hx hb dX11_of_20 rfl (lv_at hl 1 rfl) ?_
      refine lv_iload_n hx hb dX11_of_21 rfl (lv_at hl 3 rfl) ?_
      refine g_ai0 X hI hf dX11_of_22 (fun v103 hf => ?_)
      refine lv_imul hx hb dX11_of_23 ?_
      refine lv_iadd hx hb dX11_of_24 ?_
      refine lv_istore_n (lv' := [(2, .int (x2 + (v102 * v103))), (0, .ref a0), (1, .ref a1), (3, .int x3)]) hx hb dX11_of_25 rfl hl (by decide) rfl (fun ls hl => ?_)
      refine lv_iinc (v := (x3 + (1 : Int32))) (lv' := [(3, .int (x3 + (1 : Int32))), (2, .int (x2 + (v102 * v103))), (0, .ref a0), (1, .ref a1)]) hx hb dX11_of_26 hl (k := 3) rfl rfl (by decide) rfl (fun ls hl => ?_)
      refine lv_goto (tgt := 7) hx hb dX11_of_29 (by decide) ?_
      exact ih _ _ _ _ _ _ _ _ _ _ hf hI (lv_sub hl [2, 3, 1, 0] rfl)
def f_X11_of (a0 : Nat) (a1 : Nat) : gM Int32 :=
    gB (gFI a0 10 1) fun v1 =>
    f_X11_of_7 gN a0 a1 v1 (0 : Int32)
set_option maxHeartbeats 4000000 in
set_option maxRecDepth 100000 in
theorem m_X11_of {G : gG} {l : Launch} (hfl : l.stackTraces = false) {a0 : Nat} {a1 : Nat} {h h' : g_H} {r : Int32} (hf : (f_X11_of a0 a1).1 h = some (r, h')) : gMet G l yX11_of (Cond.code yX11_of cX11_of 4 (some .int)) 1 20 [.ref a0, .ref a1] h (.inl (g_wI r)) h' := by
  refine g_head hfl ((f_X11_of a0 a1).2 h r h' hf) (plainFor_of_name (by decide)) (Nat.le_of_ble_eq_true rfl) (fun p e s m below meth c H locs cells slots ls X hI hl9 => ?_)
  have hl : lv_has ls 4 [(0, .ref a0), (1, .ref a1)] := hl9
  have hx := X.1
  have hb := X.2.1
  have hown := X.2.2.2.1
  have hts := X.2.2.2.2.1
  unfold f_X11_of at hf
  refine lv_aload_n hx hb dX11_of_0 rfl (lv_at hl 0 rfl) ?_
  refine g_fi X hI hf fX11_1 q1011 rfl rfl dX11_of_1 (fun v1 hf => ?_)
  refine lv_istore_n (lv' := [(2, .int v1), (0, .ref a0), (1, .ref a1)]) hx hb dX11_of_4 rfl hl (by decide) rfl (fun ls hl => ?_)
  refine lv_iconst (v := (0 : Int32)) hx hb dX11_of_5 (by decide) ?_
  refine lv_istore_n (lv' := [(3, .int (0 : Int32)), (2, .int v1), (0, .ref a0), (1, .ref a1)]) hx hb dX11_of_6 rfl hl (by decide) rfl (fun ls hl => ?_)
  exact b_X11_of_7 X gN _ _ _ _ _ _ _ _ _ _ hf hI (lv_sub hl [2, 3, 1, 0] rfl)
/-! X12_holds -/
abbrev w_X12_holds_24 (G : gG) (l : Launch) (p : Program) (e : Env) (s : State) (m : MethodId) (args : Array Value) (below : List Frame) (meth : Method) (c : Code) (h0 : g_H) (r : Int32) (h' : g_H) (Fd Ld : Nat) (k : Int32 → gM Int32) : Prop := ∀ (u0 : Int32) (h : g_H) (H : Heap) (locs : List Loc) (cells slots : Nat) (ls : Array Slot), (k u0).1 h = some (r, h') → gI G h0 h H locs cells slots → lv_has ls 2 [] → W p l e (g_rm (Fd + 4) (Ld + 73) h0 h') s m args below meth c H locs cells slots (gQ G below args s h0 h' (.inl (g_wI r))) (F0 m 24 ls [.int u0])
def f_X12_holds_24 (rH : Nat → Nat → gM Int32) (u0 : Int32) : gM Int32 :=
    gB (gGd (u0 = 0 ∨ u0 = 1)) fun _ =>
    (gRet u0)
set_option maxHeartbeats 4000000 in
set_option maxRecDepth 100000 in
theorem b_X12_holds_24 {G : gG} {l : Launch} {p : Program} {e : Env} {s : State} {m : MethodId} {args : Array Value} {below : List Frame} {meth : Method} {c : Code} {h0 : g_H} {r : Int32} {h' : g_H} {Fd Ld : Nat} (X : gX G l yX12_holds.cls cX12_holds 2 (some .boolean) [] yX12_holds.name p s m args meth c) {rH : Nat → Nat → gM Int32} (KH : g_HR G l rH Fd Ld) : w_X12_holds_24 G l p e s m args below meth c h0 r h' Fd Ld (f_X12_holds_24 rH) := by
  have hx := X.1
  have hb := X.2.1
  have hown := X.2.2.2.1
  have hts := X.2.2.2.2.1
  intro u0 h H locs cells slots ls hf hI hl
  unfold f_X12_holds_24 at hf
  obtain ⟨hz, hf⟩ := gB_gd hf
  cases gRet_e hf
  exact g_retZ X hI hz rfl dX12_holds_24
def f_X12_holds (rH : Nat → Nat → gM Int32) (a0 : Nat) (a1 : Nat) : gM Int32 :=
    gB (gFR a0 11 0) fun v1 =>
    gB (gCk v1 10) fun _ =>
    gB (f_X11_of v1 a1) fun r2 =>
    gB (gFR a0 11 1) fun v3 =>
    gB (gCk v3 10) fun _ =>
    gB (f_X11_of v3 a1) fun r4 =>
    gIf (r4 ≤ r2)
    (f_X12_holds_24 rH (0 : Int32))
    (f_X12_holds_24 rH (1 : Int32))
set_option maxHeartbeats 4000000 in
set_option maxRecDepth 100000 in
theorem m_X12_holds {G : gG} {l : Launch} (hfl : l.stackTraces = false) {Fd Ld : Nat} {rH : Nat → Nat → gM Int32} (KH : g_HR G l rH Fd Ld) {a0 : Nat} {a1 : Nat} {h h' : g_H} {r : Int32} (hf : (f_X12_holds rH a0 a1).1 h = some (r, h')) : gMet G l yX12_holds (Cond.code yX12_holds cX12_holds 2 (some .boolean)) (Fd + 4) (Ld + 73) [.ref a0, .ref a1] h (.inl (g_wI r)) h' := by
  refine g_head hfl ((f_X12_holds rH a0 a1).2 h r h' hf) (plainFor_of_name (by decide)) (Nat.le_of_ble_eq_true rfl) (fun p e s m below meth c H locs cells slots ls X hI hl9 => ?_)
  have hl : lv_has ls 2 [(0, .ref a0), (1, .ref a1)] := hl9
  have hx := X.1
  have hb := X.2.1
  have hown := X.2.2.2.1
  have hts := X.2.2.2.2.1
  unfold f_X12_holds at hf
  refine lv_aload_n hx hb dX12_holds_0 rfl (lv_at hl 0 rfl) ?_
  refine g_fr X hI hf fX12_0 q1032 rfl rfl dX12_holds_1 (fun v1 hf => ?_)
  refine lv_aload_n hx hb dX12_holds_4 rfl (lv_at hl 1 rfl) ?_
  obtain ⟨hs, hf⟩ := gCk_b hf
  refine g_cBI hI hf (fun v9 h9 e9 l9 l9' => g_rV X hI l9 l9' ⟨Nat.le_refl _, Nat.le_refl _⟩ (As := [.ref a1]) (m_X11_of X.2.2.2.2.2.2.2.2.2.2.1 e9) ydX11_of hs rfl rfl q604 q605 q606 q142 q607 rfl (show 1 + 1 ≤ Fd + 4 from by omega) (show 8 + (4 + 11) + 20 ≤ Ld + 73 from by omega) hl.1 rfl (Nat.le_of_ble_eq_true rfl) dX12_holds_5) (fun r2 h H locs cells slots hf hI => ?_)
  refine lv_aload_n hx hb dX12_holds_8 rfl (lv_at hl 0 rfl) ?_
  refine g_fr X hI hf fX12_1 q1033 rfl rfl dX12_holds_9 (fun v3 hf => ?_)
  refine lv_aload_n hx hb dX12_holds_12 rfl (lv_at hl 1 rfl) ?_
  obtain ⟨hs, hf⟩ := gCk_b hf
  refine g_cBI hI hf (fun v9 h9 e9 l9 l9' => g_rV X hI l9 l9' ⟨Nat.le_refl _, Nat.le_refl _⟩ (As := [.ref a1]) (m_X11_of X.2.2.2.2.2.2.2.2.2.2.1 e9) ydX11_of hs rfl rfl q604 q605 q606 q142 q607 rfl (show 1 + 1 ≤ Fd + 4 from by omega) (show 8 + (4 + 11) + 20 ≤ Ld + 73 from by omega) hl.1 rfl (Nat.le_of_ble_eq_true rfl) dX12_holds_13) (fun r4 h H locs cells slots hf hI => ?_)
  refine lv_icmp_ge (tgt := 23) hx hb dX12_holds_16 (by decide) (fun c16 => ?_) (fun c16 => ?_)
  · have hf := g_t c16 hf
    refine lv_iconst (v := (0 : Int32)) hx hb dX12_holds_23 (by decide) ?_
    exact b_X12_holds_24 X KH _ _ _ _ _ _ _ hf hI (lv_sub hl [] rfl)
  · have hf := g_f c16 hf
    refine lv_iconst (v := (1 : Int32)) hx hb dX12_holds_19 (by decide) ?_
    refine lv_goto (tgt := 24) hx hb dX12_holds_20 (by decide) ?_
    exact b_X12_holds_24 X KH _ _ _ _ _ _ _ hf hI (lv_sub hl [] rfl)
/-! X9_holds -/
abbrev w_X9_holds_35 (G : gG) (l : Launch) (p : Program) (e : Env) (s : State) (m : MethodId) (args : Array Value) (below : List Frame) (meth : Method) (c : Code) (h0 : g_H) (r : Int32) (h' : g_H) (Fd Ld : Nat) (k : Int32 → gM Int32) : Prop := ∀ (u0 : Int32) (h : g_H) (H : Heap) (locs : List Loc) (cells slots : Nat) (ls : Array Slot), (k u0).1 h = some (r, h') → gI G h0 h H locs cells slots → lv_has ls 3 [] → W p l e (g_rm (Fd + 4) (Ld + 73) h0 h') s m args below meth c H locs cells slots (gQ G below args s h0 h' (.inl (g_wI r))) (F0 m 35 ls [.int u0])
abbrev w_X9_holds_23 (G : gG) (l : Launch) (p : Program) (e : Env) (s : State) (m : MethodId) (args : Array Value) (below : List Frame) (meth : Method) (c : Code) (h0 : g_H) (r : Int32) (h' : g_H) (Fd Ld : Nat) (k : Nat → gM Int32) : Prop := ∀ (a0 : Nat) (h : g_H) (H : Heap) (locs : List Loc) (cells slots : Nat) (ls : Array Slot), (k a0).1 h = some (r, h') → gI G h0 h H locs cells slots → lv_has ls 3 [(0, .ref a0)] → W p l e (g_rm (Fd + 4) (Ld + 73) h0 h') s m args below meth c H locs cells slots (gQ G below args s h0 h' (.inl (g_wI r))) (F0 m 23 ls [])
abbrev w_X9_holds_44 (G : gG) (l : Launch) (p : Program) (e : Env) (s : State) (m : MethodId) (args : Array Value) (below : List Frame) (meth : Method) (c : Code) (h0 : g_H) (r : Int32) (h' : g_H) (Fd Ld : Nat) (k : Nat → gM Int32) : Prop := ∀ (a0 : Nat) (h : g_H) (H : Heap) (locs : List Loc) (cells slots : Nat) (ls : Array Slot), (k a0).1 h = some (r, h') → gI G h0 h H locs cells slots → lv_has ls 3 [(0, .ref a0)] → W p l e (g_rm (Fd + 4) (Ld + 73) h0 h') s m args below meth c H locs cells slots (gQ G below args s h0 h' (.inl (g_wI r))) (F0 m 44 ls [])
abbrev w_X9_holds_2 (G : gG) (l : Launch) (p : Program) (e : Env) (s : State) (m : MethodId) (args : Array Value) (below : List Frame) (meth : Method) (c : Code) (h0 : g_H) (r : Int32) (h' : g_H) (Fd Ld : Nat) (k : Nat → Nat → Option Nat → gM Int32) : Prop := ∀ (a0 : Nat) (a1 : Nat) (a2 : Option Nat) (h : g_H) (H : Heap) (locs : List Loc) (cells slots : Nat) (ls : Array Slot), (k a0 a1 a2).1 h = some (r, h') → gI G h0 h H locs cells slots → lv_has ls 3 [(0, .ref a0), (1, .ref a1), (2, va_rf a2)] → W p l e (g_rm (Fd + 4) (Ld + 73) h0 h') s m args below meth c H locs cells slots (gQ G below args s h0 h' (.inl (g_wI r))) (F0 m 2 ls [])
def f_X9_holds_35 (rH : Nat → Nat → gM Int32) (u0 : Int32) : gM Int32 :=
    gB (gGd (u0 = 0 ∨ u0 = 1)) fun _ =>
    (gRet u0)
set_option maxHeartbeats 4000000 in
set_option maxRecDepth 100000 in
theorem b_X9_holds_35 {G : gG} {l : Launch} {p : Program} {e : Env} {s : State} {m : MethodId} {args : Array Value} {below : List Frame} {meth : Method} {c : Code} {h0 : g_H} {r : Int32} {h' : g_H} {Fd Ld : Nat} (X : gX G l yX9_holds.cls cX9_holds 3 (some .boolean) [] yX9_holds.name p s m args meth c) {rH : Nat → Nat → gM Int32} (KH : g_HR G l rH Fd Ld) : w_X9_holds_35 G l p e s m args below meth c h0 r h' Fd Ld (f_X9_holds_35 rH) := by
  have hx := X.1
  have hb := X.2.1
  have hown := X.2.2.2.1
  have hts := X.2.2.2.2.1
  intro u0 h H locs cells slots ls hf hI hl
  unfold f_X9_holds_35 at hf
  obtain ⟨hz, hf⟩ := gB_gd hf
  cases gRet_e hf
  exact g_retZ X hI hz rfl dX9_holds_35
def f_X9_holds_23 (rH : Nat → Nat → gM Int32) (a0 : Nat) : gM Int32 :=
    gB (gFI a0 8 1) fun v101 =>
    gIf (v101 = 0)
    (f_X9_holds_35 rH (1 : Int32))
    (f_X9_holds_35 rH (0 : Int32))
set_option maxHeartbeats 4000000 in
set_option maxRecDepth 100000 in
theorem b_X9_holds_23 {G : gG} {l : Launch} {p : Program} {e : Env} {s : State} {m : MethodId} {args : Array Value} {below : List Frame} {meth : Method} {c : Code} {h0 : g_H} {r : Int32} {h' : g_H} {Fd Ld : Nat} (X : gX G l yX9_holds.cls cX9_holds 3 (some .boolean) [] yX9_holds.name p s m args meth c) {rH : Nat → Nat → gM Int32} (KH : g_HR G l rH Fd Ld) : w_X9_holds_23 G l p e s m args below meth c h0 r h' Fd Ld (f_X9_holds_23 rH) := by
  have hx := X.1
  have hb := X.2.1
  have hown := X.2.2.2.1
  have hts := X.2.2.2.2.1
  intro a0 h H locs cells slots ls hf hI hl
  unfold f_X9_holds_23 at hf
  refine lv_aload_n hx hb dX9_holds_23 rfl (lv_at hl 0 rfl) ?_
  refine g_fi X hI hf fX9_1 q1054 rfl rfl dX9_holds_24 (fun v101 hf => ?_)
  refine lv_if_ne (tgt := 34) hx hb dX9_holds_27 (by decide) (fun c27 => ?_) (fun c27 => ?_)
  · have hf := g_f c27 hf
    refine lv_iconst (v := (0 : Int32)) hx hb dX9_holds_34 (by decide) ?_
    exact b_X9_holds_35 X KH _ _ _ _ _ _ _ hf hI (lv_sub hl [] rfl)
  · have hf := g_t c27 hf
    refine lv_iconst (v := (1 : Int32)) hx hb dX9_holds_30 (by decide) ?_
    refine lv_goto (tgt := 35) hx hb dX9_holds_31 (by decide) ?_
    exact b_X9_holds_35 X KH _ _ _ _ _ _ _ hf hI (lv_sub hl [] rfl)
def f_X9_holds_44 (rH : Nat → Nat → gM Int32) (a0 : Nat) : gM Int32 :=
    gB (gFI a0 8 1) fun v101 =>
    gB (gGd (v101 = 0 ∨ v101 = 1)) fun _ =>
    (gRet v101)
set_option maxHeartbeats 4000000 in
set_option maxRecDepth 100000 in
theorem b_X9_holds_44 {G : gG} {l : Launch} {p : Program} {e : Env} {s : State} {m : MethodId} {args : Array Value} {below : List Frame} {meth : Method} {c : Code} {h0 : g_H} {r : Int32} {h' : g_H} {Fd Ld : Nat} (X : gX G l yX9_holds.cls cX9_holds 3 (some .boolean) [] yX9_holds.name p s m args meth c) {rH : Nat → Nat → gM Int32} (KH : g_HR G l rH Fd Ld) : w_X9_holds_44 G l p e s m args below meth c h0 r h' Fd Ld (f_X9_holds_44 rH) := by
  have hx := X.1
  have hb := X.2.1
  have hown := X.2.2.2.1
  have hts := X.2.2.2.2.1
  intro a0 h H locs cells slots ls hf hI hl
  unfold f_X9_holds_44 at hf
  refine lv_aload_n hx hb dX9_holds_44 rfl (lv_at hl 0 rfl) ?_
  refine g_fi X hI hf fX9_1 q1054 rfl rfl dX9_holds_45 (fun v101 hf => ?_)
  obtain ⟨hz, hf⟩ := gB_gd hf
  cases gRet_e hf
  exact g_retZ X hI hz rfl dX9_holds_48
def f_X9_holds_2 (rH : Nat → Nat → gM Int32) : Nat → Nat → Nat → Option Nat → gM Int32
  | 0, _, _, _ => gFail
  | n + 1, a0, a1, a2 =>
    gOpt a2
    (f_X9_holds_44 rH a0)
    (fun w101 => gB (gFR w101 8 0) fun v102 =>
    gB (rH v102 a1) fun r103 =>
    gB (gFI a0 8 1) fun v104 =>
    gIf (r103 = v104)
    (gB (gFQ w101 8 2) fun v105 =>
    f_X9_holds_2 rH n a0 a1 v105)
    (f_X9_holds_23 rH a0))
set_option maxHeartbeats 4000000 in
set_option maxRecDepth 100000 in
theorem b_X9_holds_2 {G : gG} {l : Launch} {p : Program} {e : Env} {s : State} {m : MethodId} {args : Array Value} {below : List Frame} {meth : Method} {c : Code} {h0 : g_H} {r : Int32} {h' : g_H} {Fd Ld : Nat} (X : gX G l yX9_holds.cls cX9_holds 3 (some .boolean) [] yX9_holds.name p s m args meth c) {rH : Nat → Nat → gM Int32} (KH : g_HR G l rH Fd Ld) : ∀ n : Nat, w_X9_holds_2 G l p e s m args below meth c h0 r h' Fd Ld (f_X9_holds_2 rH n) := by
  have hx := X.1
  have hb := X.2.1
  have hown := X.2.2.2.1
  have hts := X.2.2.2.2.1
  intro n
  induction n with
  | zero =>
    intro a0 a1 a2 h H locs cells slots ls hf hI hl
    exact (gFail_f hf).elim
  | succ n ih =>
    intro a0 a1 a2 h H locs cells slots ls hf hI hl
    rw [f_X9_holds_2] at hf
    refine g_aloadQ_n hx hb dX9_holds_2 rfl (lv_at hl 2 rfl) ?_
    refine g_ifnullQ (tgt := 44) hx hb hf dX9_holds_3 (by decide) ?_ ?_
    · intro hf
      exact b_X9_holds_44 X KH _ _ _ _ _ _ _ hf hI (lv_sub hl [0] rfl)
    · intro w101 ew101 hf
      have hl : lv_has ls 3 [(0, .ref a0), (1, .ref a1), (2, .ref w101)] := by rw [ew101] at hl; exact hl
      refine lv_aload_n hx hb dX9_holds_6 rfl (lv_at hl 2 rfl) ?_
      refine g_fr X hI hf fX9_0 q1053 rfl rfl dX9_holds_7 (fun v102 hf => ?_)
      refine lv_aload_n hx hb dX9_holds_10 rfl (lv_at hl 1 rfl) ?_
      refine g_callF X hI KH hf ⟨Nat.le_refl _, Nat.le_refl _⟩ q597 (show Fd + 1 ≤ Fd + 4 from by omega) (show 23 + Ld ≤ Ld + 73 from by omega) hl.1 (Nat.le_of_ble_eq_true rfl) dX9_holds_11 (fun r103 h H locs cells slots hf hI => ?_)
      refine lv_aload_n hx hb dX9_holds_16 rfl (lv_at hl 0 rfl) ?_
      refine g_fi X hI hf fX9_1 q1054 rfl rfl dX9_holds_17 (fun v104 hf => ?_)
      refine lv_icmp_eq (tgt := 36) hx hb dX9_holds_20 (by decide) (fun c20 => ?_) (fun c20 => ?_)
      · have hf := g_t c20 hf
        refine lv_aload_n hx hb dX9_holds_36 rfl (lv_at hl 2 rfl) ?_
        refine g_fq X hI hf fX9_2 q1055 rfl rfl dX9_holds_37 (fun v105 hf => ?_)
        refine g_astoreQ_n (lv' := [(2, va_rf v105), (0, .ref a0), (1, .ref a1)]) hx hb dX9_holds_40 rfl hl (by decide) rfl (fun ls hl => ?_)
        refine lv_goto (tgt := 2) hx hb dX9_holds_41 (by decide) ?_
        exact ih _ _ _ _ _ _ _ _ _ hf hI (lv_sub hl [1, 2, 0] rfl)
      · have hf := g_f c20 hf
        exact b_X9_holds_23 X KH _ _ _ _ _ _ _ hf hI (lv_sub hl [0] rfl)
def f_X9_holds (rH : Nat → Nat → gM Int32) (a0 : Nat) (a1 : Nat) : gM Int32 :=
    f_X9_holds_2 rH gN a0 a1 (some a0)
set_option maxHeartbeats 4000000 in
set_option maxRecDepth 100000 in
theorem m_X9_holds {G : gG} {l : Launch} (hfl : l.stackTraces = false) {Fd Ld : Nat} {rH : Nat → Nat → gM Int32} (KH : g_HR G l rH Fd Ld) {a0 : Nat} {a1 : Nat} {h h' : g_H} {r : Int32} (hf : (f_X9_holds rH a0 a1).1 h = some (r, h')) : gMet G l yX9_holds (Cond.code yX9_holds cX9_holds 3 (some .boolean)) (Fd + 4) (Ld + 73) [.ref a0, .ref a1] h (.inl (g_wI r)) h' := by
  refine g_head hfl ((f_X9_holds rH a0 a1).2 h r h' hf) (plainFor_of_name (by decide)) (Nat.le_of_ble_eq_true rfl) (fun p e s m below meth c H locs cells slots ls X hI hl9 => ?_)
  have hl : lv_has ls 3 [(0, .ref a0), (1, .ref a1)] := hl9
  have hx := X.1
  have hb := X.2.1
  have hown := X.2.2.2.1
  have hts := X.2.2.2.2.1
  unfold f_X9_holds at hf
  refine lv_aload_n hx hb dX9_holds_0 rfl (lv_at hl 0 rfl) ?_
  refine lv_astore_n (lv' := [(2, .ref a0), (0, .ref a0), (1, .ref a1)]) hx hb dX9_holds_1 rfl hl (by decide) rfl (fun ls hl => ?_)
  exact b_X9_holds_2 X KH gN _ _ _ _ _ _ _ _ _ hf hI (lv_sub hl [1, 2, 0] rfl)
/-! X13_holds -/
abbrev w_X13_holds_18 (G : gG) (l : Launch) (p : Program) (e : Env) (s : State) (m : MethodId) (args : Array Value) (below : List Frame) (meth : Method) (c : Code) (h0 : g_H) (r : Int32) (h' : g_H) (Fd Ld : Nat) (k : Int32 → gM Int32) : Prop := ∀ (u0 : Int32) (h : g_H) (H : Heap) (locs : List Loc) (cells slots : Nat) (ls : Array Slot), (k u0).1 h = some (r, h') → gI G h0 h H locs cells slots → lv_has ls 2 [] → W p l e (g_rm (Fd + 4) (Ld + 73) h0 h') s m args below meth c H locs cells slots (gQ G below args s h0 h' (.inl (g_wI r))) (F0 m 18 ls [.int u0])
def f_X13_holds_18 (rH : Nat → Nat → gM Int32) (u0 : Int32) : gM Int32 :=
    gB (gGd (u0 = 0 ∨ u0 = 1)) fun _ =>
    (gRet u0)
set_option maxHeartbeats 4000000 in
set_option maxRecDepth 100000 in
theorem b_X13_holds_18 {G : gG} {l : Launch} {p : Program} {e : Env} {s : State} {m : MethodId} {args : Array Value} {below : List Frame} {meth : Method} {c : Code} {h0 : g_H} {r : Int32} {h' : g_H} {Fd Ld : Nat} (X : gX G l yX13_holds.cls cX13_holds 2 (some .boolean) [] yX13_holds.name p s m args meth c) {rH : Nat → Nat → gM Int32} (KH : g_HR G l rH Fd Ld) : w_X13_holds_18 G l p e s m args below meth c h0 r h' Fd Ld (f_X13_holds_18 rH) := by
  have hx := X.1
  have hb := X.2.1
  have hown := X.2.2.2.1
  have hts := X.2.2.2.2.1
  intro u0 h H locs cells slots ls hf hI hl
  unfold f_X13_holds_18 at hf
  obtain ⟨hz, hf⟩ := gB_gd hf
  cases gRet_e hf
  exact g_retZ X hI hz rfl dX13_holds_18
def f_X13_holds (rH : Nat → Nat → gM Int32) (a0 : Nat) (a1 : Nat) : gM Int32 :=
    gB (gFR a0 12 0) fun v1 =>
    gB (rH v1 a1) fun r2 =>
    gIf (r2 = 0)
    (f_X13_holds_18 rH (1 : Int32))
    (f_X13_holds_18 rH (0 : Int32))
set_option maxHeartbeats 4000000 in
set_option maxRecDepth 100000 in
theorem m_X13_holds {G : gG} {l : Launch} (hfl : l.stackTraces = false) {Fd Ld : Nat} {rH : Nat → Nat → gM Int32} (KH : g_HR G l rH Fd Ld) {a0 : Nat} {a1 : Nat} {h h' : g_H} {r : Int32} (hf : (f_X13_holds rH a0 a1).1 h = some (r, h')) : gMet G l yX13_holds (Cond.code yX13_holds cX13_holds 2 (some .boolean)) (Fd + 4) (Ld + 73) [.ref a0, .ref a1] h (.inl (g_wI r)) h' := by
  refine g_head hfl ((f_X13_holds rH a0 a1).2 h r h' hf) (plainFor_of_name (by decide)) (Nat.le_of_ble_eq_true rfl) (fun p e s m below meth c H locs cells slots ls X hI hl9 => ?_)
  have hl : lv_has ls 2 [(0, .ref a0), (1, .ref a1)] := hl9
  have hx := X.1
  have hb := X.2.1
  have hown := X.2.2.2.1
  have hts := X.2.2.2.2.1
  unfold f_X13_holds at hf
  refine lv_aload_n hx hb dX13_holds_0 rfl (lv_at hl 0 rfl) ?_
  refine g_fr X hI hf fX13_0 q1045 rfl rfl dX13_holds_1 (fun v1 hf => ?_)
  refine lv_aload_n hx hb dX13_holds_4 rfl (lv_at hl 1 rfl) ?_
  refine g_callF X hI KH hf ⟨Nat.le_refl _, Nat.le_refl _⟩ q615 (show Fd + 1 ≤ Fd + 4 from by omega) (show 23 + Ld ≤ Ld + 73 from by omega) hl.1 (Nat.le_of_ble_eq_true rfl) dX13_holds_5 (fun r2 h H locs cells slots hf hI => ?_)
  refine lv_if_ne (tgt := 17) hx hb dX13_holds_10 (by decide) (fun c10 => ?_) (fun c10 => ?_)
  · have hf := g_f c10 hf
    refine lv_iconst (v := (0 : Int32)) hx hb dX13_holds_17 (by decide) ?_
    exact b_X13_holds_18 X KH _ _ _ _ _ _ _ hf hI (lv_sub hl [] rfl)
  · have hf := g_t c10 hf
    refine lv_iconst (v := (1 : Int32)) hx hb dX13_holds_13 (by decide) ?_
    refine lv_goto (tgt := 18) hx hb dX13_holds_14 (by decide) ?_
    exact b_X13_holds_18 X KH _ _ _ _ _ _ _ hf hI (lv_sub hl [] rfl)
/-! tieH -/
/-- a condition, whatever its class -/
def f_holds : Nat → Nat → Nat → gM Int32
  | 0, _, _ => gFail
  | d + 1, a, x => gB (gSh a) fun ci => gIf (ci = 8) (f_X9_holds (f_holds d) a x) (gIf (ci = 9) (f_X10_holds (f_holds d) a x) (gIf (ci = 11) (f_X12_holds (f_holds d) a x) (gIf (ci = 12) (f_X13_holds (f_holds d) a x) gFail)))
set_option maxRecDepth 100000 in
theorem KHolds {G : gG} {l : Launch} (hfl : l.stackTraces = false) : ∀ d : Nat, g_HR G l (f_holds d) (4 * d) (73 * d) := by
  intro d
  induction d with
  | zero =>
    intro a x h h1 v hf
    exact (gFail_f hf).elim
  | succ d ih =>
    rw [show 4 * (d + 1) = 4 * d + 4 from by omega, show 73 * (d + 1) = 73 * d + 73 from by omega]
    intro a x h h1 v hf
    rw [f_holds] at hf
    obtain ⟨ci, hs, hf⟩ := gSh_b hf
    by_cases k8 : ci = 8
    · subst k8
      exact ⟨8, _, cX9_holds, 3, hs, rfl, List.mem_of_getElem? (i := 0) rfl, q593, q591, q140, q595, by decide, m_X9_holds hfl ih (g_t rfl hf)⟩
    have hf := g_f k8 hf
    by_cases k9 : ci = 9
    · subst k9
      exact ⟨9, _, cX10_holds, 2, hs, rfl, List.mem_of_getElem? (i := 1) rfl, q619, q617, q141, q621, by decide, m_X10_holds hfl ih (g_t rfl hf)⟩
    have hf := g_f k9 hf
    by_cases k11 : ci = 11
    · subst k11
      exact ⟨11, _, cX12_holds, 2, hs, rfl, List.mem_of_getElem? (i := 2) rfl, q601, q599, q143, q603, by decide, m_X12_holds hfl ih (g_t rfl hf)⟩
    have hf := g_f k11 hf
    by_cases k12 : ci = 12
    · subst k12
      exact ⟨12, _, cX13_holds, 2, hs, rfl, List.mem_of_getElem? (i := 3) rfl, q611, q609, q144, q613, by decide, m_X13_holds hfl ih (g_t rfl hf)⟩
    have hf := g_f k12 hf
    exact (gFail_f hf).elim
end
