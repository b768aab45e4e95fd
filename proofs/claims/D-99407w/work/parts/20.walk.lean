noncomputable section
/-! X4_init -/
def f_X4_init (a0 : Nat) : gM Unit :=
    gRet ()
set_option maxHeartbeats 4000000 in
set_option maxRecDepth 100000 in
theorem m_X4_init {G : gG} {l : Launch} (hfl : l.stackTraces = false) {a0 : Nat} {h h' : g_H} {r : Unit} (hf : (f_X4_init a0).1 h = some (r, h')) : gMet G l yX4_init (Cond.code yX4_init cX4_init 1 none) 1 20 [.ref a0] h (.inl (g_wU r)) h' := by
  refine g_head hfl ((f_X4_init a0).2 h r h' hf) (plainFor_of_name (by decide)) (Nat.le_of_ble_eq_true rfl) (fun p e s m below meth c H locs cells slots ls X hI hl9 => ?_)
  have hl : lv_has ls 1 [(0, .ref a0)] := hl9
  have hx := X.1
  have hb := X.2.1
  have hown := X.2.2.2.1
  have hts := X.2.2.2.2.1
  unfold f_X4_init at hf
  refine lv_aload_n hx hb dX4_init_0 rfl (lv_at hl 0 rfl) ?_
  refine g_oinit X q194 hl.1 (Nat.le_of_ble_eq_true rfl) (Nat.le_of_ble_eq_true rfl) (Nat.le_of_ble_eq_true rfl) dX4_init_1 ?_
  cases gRet_e hf
  exact g_retU X hI rfl dX4_init_4
/-! X5_init -/
def f_X5_init (a0 : Nat) : gM Unit :=
    gRet ()
set_option maxHeartbeats 4000000 in
set_option maxRecDepth 100000 in
theorem m_X5_init {G : gG} {l : Launch} (hfl : l.stackTraces = false) {a0 : Nat} {h h' : g_H} {r : Unit} (hf : (f_X5_init a0).1 h = some (r, h')) : gMet G l yX5_init (Cond.code yX5_init cX5_init 1 none) 1 20 [.ref a0] h (.inl (g_wU r)) h' := by
  refine g_head hfl ((f_X5_init a0).2 h r h' hf) (plainFor_of_name (by decide)) (Nat.le_of_ble_eq_true rfl) (fun p e s m below meth c H locs cells slots ls X hI hl9 => ?_)
  have hl : lv_has ls 1 [(0, .ref a0)] := hl9
  have hx := X.1
  have hb := X.2.1
  have hown := X.2.2.2.1
  have hts := X.2.2.2.2.1
  unfold f_X5_init at hf
  refine lv_aload_n hx hb dX5_init_0 rfl (lv_at hl 0 rfl) ?_
  refine g_oinit X q226 hl.1 (Nat.le_of_ble_eq_true rfl) (Nat.le_of_ble_eq_true rfl) (Nat.le_of_ble_eq_true rfl) dX5_init_1 ?_
  cases gRet_e hf
  exact g_retU X hI rfl dX5_init_4
/-! X3_init -/
abbrev w_X3_init_133 (G : gG) (l : Launch) (p : Program) (e : Env) (s : State) (m : MethodId) (args : Array Value) (below : List Frame) (meth : Method) (c : Code) (h0 : g_H) (r : Unit) (h' : g_H) (k : Nat → Int32 → gM Unit) : Prop := ∀ (a0 : Nat) (x1 : Int32) (h : g_H) (H : Heap) (locs : List Loc) (cells slots : Nat) (ls : Array Slot), (k a0 x1).1 h = some (r, h') → gI G h0 h H locs cells slots → lv_has ls 2 [(0, .ref a0), (1, .int x1)] → W p l e (g_rm 2 40 h0 h') s m args below meth c H locs cells slots (gQ G below args s h0 h' (.inl (g_wU r))) (F0 m 133 ls [])
abbrev w_X3_init_131 (G : gG) (l : Launch) (p : Program) (e : Env) (s : State) (m : MethodId) (args : Array Value) (below : List Frame) (meth : Method) (c : Code) (h0 : g_H) (r : Unit) (h' : g_H) (k : Nat → gM Unit) : Prop := ∀ (a0 : Nat) (h : g_H) (H : Heap) (locs : List Loc) (cells slots : Nat) (ls : Array Slot), (k a0).1 h = some (r, h') → gI G h0 h H locs cells slots → lv_has ls 2 [(0, .ref a0)] → W p l e (g_rm 2 40 h0 h') s m args below meth c H locs cells slots (gQ G below args s h0 h' (.inl (g_wU r))) (F0 m 131 ls [])
abbrev w_X3_init_106 (G : gG) (l : Launch) (p : Program) (e : Env) (s : State) (m : MethodId) (args : Array Value) (below : List Frame) (meth : Method) (c : Code) (h0 : g_H) (r : Unit) (h' : g_H) (k : Nat → Int32 → gM Unit) : Prop := ∀ (a0 : Nat) (x1 : Int32) (h : g_H) (H : Heap) (locs : List Loc) (cells slots : Nat) (ls : Array Slot), (k a0 x1).1 h = some (r, h') → gI G h0 h H locs cells slots → lv_has ls 2 [(0, .ref a0), (1, .int x1)] → W p l e (g_rm 2 40 h0 h') s m args below meth c H locs cells slots (gQ G below args s h0 h' (.inl (g_wU r))) (F0 m 106 ls [])
abbrev w_X3_init_104 (G : gG) (l : Launch) (p : Program) (e : Env) (s : State) (m : MethodId) (args : Array Value) (below : List Frame) (meth : Method) (c : Code) (h0 : g_H) (r : Unit) (h' : g_H) (k : Nat → gM Unit) : Prop := ∀ (a0 : Nat) (h : g_H) (H : Heap) (locs : List Loc) (cells slots : Nat) (ls : Array Slot), (k a0).1 h = some (r, h') → gI G h0 h H locs cells slots → lv_has ls 2 [(0, .ref a0)] → W p l e (g_rm 2 40 h0 h') s m args below meth c H locs cells slots (gQ G below args s h0 h' (.inl (g_wU r))) (F0 m 104 ls [])
abbrev w_X3_init_79 (G : gG) (l : Launch) (p : Program) (e : Env) (s : State) (m : MethodId) (args : Array Value) (below : List Frame) (meth : Method) (c : Code) (h0 : g_H) (r : Unit) (h' : g_H) (k : Nat → Int32 → gM Unit) : Prop := ∀ (a0 : Nat) (x1 : Int32) (h : g_H) (H : Heap) (locs : List Loc) (cells slots : Nat) (ls : Array Slot), (k a0 x1).1 h = some (r, h') → gI G h0 h H locs cells slots → lv_has ls 2 [(0, .ref a0), (1, .int x1)] → W p l e (g_rm 2 40 h0 h') s m args below meth c H locs cells slots (gQ G below args s h0 h' (.inl (g_wU r))) (F0 m 79 ls [])
def f_X3_init_133 : Nat → Nat → Int32 → gM Unit
  | 0, _, _ => gFail
  | n + 1, a0, x1 =>
    gIf ((10 : Int32) ≤ x1)
    (gRet ())
    (gB (gFR a0 2 3) fun v101 =>
    gB (gSI v101 0 x1 (-1 : Int32)) fun _ =>
    f_X3_init_133 n a0 (x1 + (1 : Int32)))
set_option maxHeartbeats 4000000 in
set_option maxRecDepth 100000 in
theorem b_X3_init_133 {G : gG} {l : Launch} {p : Program} {e : Env} {s : State} {m : MethodId} {args : Array Value} {below : List Frame} {meth : Method} {c : Code} {h0 : g_H} {r : Unit} {h' : g_H} (X : gX G l yX3_init.cls cX3_init 2 none [] yX3_init.name p s m args meth c) : ∀ n : Nat, w_X3_init_133 G l p e s m args below meth c h0 r h' (f_X3_init_133 n) := by
  have hx := X.1
  have hb := X.2.1
  have hown := X.2.2.2.1
  have hts := X.2.2.2.2.1
  intro n
  induction n with
  | zero =>
    intro a0 x1 h H locs cells slots ls hf hI hl
    exact (gFail_f hf).elim
  | succ n ih =>
    intro a0 x1 h H locs cells slots ls hf hI hl
    rw [f_X3_init_133] at hf
    refine lv_iload_n hx hb dX3_init_133 rfl (lv_at hl 1 rfl) ?_
    refine lv_bipush (v := (10 : Int32)) hx hb dX3_init_134 (by decide) ?_
    refine lv_icmp_ge (tgt := 152) hx hb dX3_init_136 (by decide) (fun c136 => ?_) (fun c136 => ?_)
    · have hf := g_t c136 hf
      cases gRet_e hf
      exact g_retU X hI rfl dX3_init_152
    · have hf := g_f c136 hf
      refine lv_aload_n hx hb dX3_init_139 rfl (lv_at hl 0 rfl) ?_
      refine g_fr X hI hf fX3_3 q261 rfl rfl dX3_init_140 (fun v101 hf => ?_)
      refine lv_iload_n hx hb dX3_init_143 rfl (lv_at hl 1 rfl) ?_
      refine lv_iconst (v := (-1 : Int32)) hx hb dX3_init_144 (by decide) ?_
      refine g_si0 X hI hf dX3_init_145 (fun h H locs hf hI => ?_)
      refine lv_iinc (v := (x1 + (1 : Int32))) (lv' := [(1, .int (x1 + (1 : Int32))), (0, .ref a0)]) hx hb dX3_init_146 hl (k := 1) rfl rfl (by decide) rfl (fun ls hl => ?_)
      refine lv_goto (tgt := 133) hx hb dX3_init_149 (by decide) ?_
      exact ih _ _ _ _ _ _ _ _ hf hI (lv_sub hl [1, 0] rfl)
def f_X3_init_131 (a0 : Nat) : gM Unit :=
    f_X3_init_133 gN a0 (0 : Int32)
set_option maxHeartbeats 4000000 in
set_option maxRecDepth 100000 in
theorem b_X3_init_131 {G : gG} {l : Launch} {p : Program} {e : Env} {s : State} {m : MethodId} {args : Array Value} {below : List Frame} {meth : Method} {c : Code} {h0 : g_H} {r : Unit} {h' : g_H} (X : gX G l yX3_init.cls cX3_init 2 none [] yX3_init.name p s m args meth c) : w_X3_init_131 G l p e s m args below meth c h0 r h' (f_X3_init_131) := by
  have hx := X.1
  have hb := X.2.1
  have hown := X.2.2.2.1
  have hts := X.2.2.2.2.1
  intro a0 h H locs cells slots ls hf hI hl
  unfold f_X3_init_131 at hf
  refine lv_iconst (v := (0 : Int32)) hx hb dX3_init_131 (by decide) ?_
  refine lv_istore_n (lv' := [(1, .int (0 : Int32)), (0, .ref a0)]) hx hb dX3_init_132 rfl hl (by decide) rfl (fun ls hl => ?_)
  exact b_X3_init_133 X gN _ _ _ _ _ _ _ _ hf hI (lv_sub hl [1, 0] rfl)
def f_X3_init_106 : Nat → Nat → Int32 → gM Unit
  | 0, _, _ => gFail
  | n + 1, a0, x1 =>
    gIf ((6 : Int32) ≤ x1)
    (f_X3_init_131 a0)
    (gB (gFR a0 2 1) fun v101 =>
    gB (gNew 4 4) fun a102 =>
    gB (f_X5_init a102) fun _ =>
    gB (gSQ v101 5 x1 4 a102) fun _ =>
    f_X3_init_106 n a0 (x1 + (1 : Int32)))
set_option maxHeartbeats 4000000 in
set_option maxRecDepth 100000 in
theorem b_X3_init_106 {G : gG} {l : Launch} {p : Program} {e : Env} {s : State} {m : MethodId} {args : Array Value} {below : List Frame} {meth : Method} {c : Code} {h0 : g_H} {r : Unit} {h' : g_H} (X : gX G l yX3_init.cls cX3_init 2 none [] yX3_init.name p s m args meth c) : ∀ n : Nat, w_X3_init_106 G l p e s m args below meth c h0 r h' (f_X3_init_106 n) := by
  have hx := X.1
  have hb := X.2.1
  have hown := X.2.2.2.1
  have hts := X.2.2.2.2.1
  intro n
  induction n with
  | zero =>
    intro a0 x1 h H locs cells slots ls hf hI hl
    exact (gFail_f hf).elim
  | succ n ih =>
    intro a0 x1 h H locs cells slots ls hf hI hl
    rw [f_X3_init_106] at hf
    refine lv_iload_n hx hb dX3_init_106 rfl (lv_at hl 1 rfl) ?_
    refine lv_bipush (v := (6 : Int32)) hx hb dX3_init_107 (by decide) ?_
    refine lv_icmp_ge (tgt := 131) hx hb dX3_init_109 (by decide) (fun c109 => ?_) (fun c109 => ?_)
    · have hf := g_t c109 hf
      exact b_X3_init_131 X _ _ _ _ _ _ _ hf hI (lv_sub hl [0] rfl)
    · have hf := g_f c109 hf
      refine lv_aload_n hx hb dX3_init_112 rfl (lv_at hl 0 rfl) ?_
      refine g_fr X hI hf fX3_1 q256 rfl rfl dX3_init_113 (fun v101 hf => ?_)
      refine lv_iload_n hx hb dX3_init_116 rfl (lv_at hl 1 rfl) ?_
      refine g_new X hI hf ⟨Nat.le_refl _, Nat.le_refl _⟩ cX5 q187 dX3_init_117 (fun a102 h H cells slots hf hI => ?_)
      refine lv_dup hx hb dX3_init_120 rfl ?_
      refine g_cBU hI hf (fun v9 h9 e9 l9 l9' => g_rIN X hI l9 l9' ⟨Nat.le_refl _, Nat.le_refl _⟩ (As := []) (m_X5_init X.2.2.2.2.2.2.2.2.2.2.1 e9) ydX5_init rfl rfl q223 q224 q125 q225 rfl (Nat.le_of_ble_eq_true rfl) (Nat.le_of_ble_eq_true rfl) hl.1 rfl (Nat.le_of_ble_eq_true rfl) dX3_init_121) (fun r103 h H locs cells slots hf hI => ?_)
      refine g_sq X hI hf rfl dX3_init_124 (fun h H locs hf hI => ?_)
      refine lv_iinc (v := (x1 + (1 : Int32))) (lv' := [(1, .int (x1 + (1 : Int32))), (0, .ref a0)]) hx hb dX3_init_125 hl (k := 1) rfl rfl (by decide) rfl (fun ls hl => ?_)
      refine lv_goto (tgt := 106) hx hb dX3_init_128 (by decide) ?_
      exact ih _ _ _ _ _ _ _ _ hf hI (lv_sub hl [1, 0] rfl)
def f_X3_init_104 (a0 : Nat) : gM Unit :=
    f_X3_init_106 gN a0 (0 : Int32)
set_option maxHeartbeats 4000000 in
set_option maxRecDepth 100000 in
theorem b_X3_init_104 {G : gG} {l : Launch} {p : Program} {e : Env} {s : State} {m : MethodId} {args : Array Value} {below : List Frame} {meth : Method} {c : Code} {h0 : g_H} {r : Unit} {h' : g_H} (X : gX G l yX3_init.cls cX3_init 2 none [] yX3_init.name p s m args meth c) : w_X3_init_104 G l p e s m args below meth c h0 r h' (f_X3_init_104) := by
  have hx := X.1
  have hb := X.2.1
  have hown := X.2.2.2.1
  have hts := X.2.2.2.2.1
  intro a0 h H locs cells slots ls hf hI hl
  unfold f_X3_init_104 at hf
  refine lv_iconst (v := (0 : Int32)) hx hb dX3_init_104 (by decide) ?_
  refine lv_istore_n (lv' := [(1, .int (0 : Int32)), (0, .ref a0)]) hx hb dX3_init_105 rfl hl (by decide) rfl (fun ls hl => ?_)
  exact b_X3_init_106 X gN _ _ _ _ _ _ _ _ hf hI (lv_sub hl [1, 0] rfl)
def f_X3_init_79 : Nat → Nat → Int32 → gM Unit
  | 0, _, _ => gFail
  | n + 1, a0, x1 =>
    gIf ((8 : Int32) ≤ x1)
    (f_X3_init_104 a0)
    (gB (gFR a0 2 0) fun v101 =>
    gB (gNew 3 4) fun a102 =>
    gB (f_X4_init a102) fun _ =>
    gB (gSQ v101 4 x1 3 a102) fun _ =>
    f_X3_init_79 n a0 (x1 + (1 : Int32)))
set_option maxHeartbeats 4000000 in
set_option maxRecDepth 100000 in
theorem b_X3_init_79 {G : gG} {l : Launch} {p : Program} {e : Env} {s : State} {m : MethodId} {args : Array Value} {below : List Frame} {meth : Method} {c : Code} {h0 : g_H} {r : Unit} {h' : g_H} (X : gX G l yX3_init.cls cX3_init 2 none [] yX3_init.name p s m args meth c) : ∀ n : Nat, w_X3_init_79 G l p e s m args below meth c h0 r h' (f_X3_init_79 n) := by
  have hx := X.1
  have hb := X.2.1
  have hown := X.2.2.2.1
  have hts := X.2.2.2.2.1
  intro n
  induction n with
  | zero =>
    intro a0 x1 h H locs cells slots ls hf hI hl
    exact (gFail_f hf).elim
  | succ n ih =>
    intro a0 x1 h H locs cells slots ls hf hI hl
    rw [f_X3_init_79] at hf
    refine lv_iload_n hx hb dX3_init_79 rfl (lv_at hl 1 rfl) ?_
    refine lv_bipush (v := (8 : Int32)) hx hb dX3_init_80 (by decide) ?_
    refine lv_icmp_ge (tgt := 104) hx hb dX3_init_82 (by decide) (fun c82 => ?_) (fun c82 => ?_)
    · have hf := g_t c82 hf
      exact b_X3_init_104 X _ _ _ _ _ _ _ hf hI (lv_sub hl [0] rfl)
    · have hf := g_f c82 hf
      refine lv_aload_n hx hb dX3_init_85 rfl (lv_at hl 0 rfl) ?_
      refine g_fr X hI hf fX3_0 q253 rfl rfl dX3_init_86 (fun v101 hf => ?_)
      refine lv_iload_n hx hb dX3_init_89 rfl (lv_at hl 1 rfl) ?_
      refine g_new X hI hf ⟨Nat.le_refl _, Nat.le_refl _⟩ cX4 q185 dX3_init_90 (fun a102 h H cells slots hf hI => ?_)
      refine lv_dup hx hb dX3_init_93 rfl ?_
      refine g_cBU hI hf (fun v9 h9 e9 l9 l9' => g_rIN X hI l9 l9' ⟨Nat.le_refl _, Nat.le_refl _⟩ (As := []) (m_X4_init X.2.2.2.2.2.2.2.2.2.2.1 e9) ydX4_init rfl rfl q191 q192 q124 q193 rfl (Nat.le_of_ble_eq_true rfl) (Nat.le_of_ble_eq_true rfl) hl.1 rfl (Nat.le_of_ble_eq_true rfl) dX3_init_94) (fun r103 h H locs cells slots hf hI => ?_)
      refine g_sq X hI hf rfl dX3_init_97 (fun h H locs hf hI => ?_)
      refine lv_iinc (v := (x1 + (1 : Int32))) (lv' := [(1, .int (x1 + (1 : Int32))), (0, .ref a0)]) hx hb dX3_init_98 hl (k := 1) rfl rfl (by decide) rfl (fun ls hl => ?_)
      refine lv_goto (tgt := 79) hx hb dX3_init_101 (by decide) ?_
      exact ih _ _ _ _ _ _ _ _ hf hI (lv_sub hl [1, 0] rfl)
def f_X3_init (a0 : Nat) : gM Unit :=
    gB (gNwA 4 (8 : Int32)) fun a1 =>
    gB (gPQ a0 2 0 (some a1)) fun _ =>
    gB (gNwA 5 (6 : Int32)) fun a2 =>
    gB (gPQ a0 2 1 (some a2)) fun _ =>
    gB (gNwA 6 (12 : Int32)) fun a3 =>
    gB (gPQ a0 2 2 (some a3)) fun _ =>
    gB (gNwA 0 (10 : Int32)) fun a4 =>
    gB (gPQ a0 2 3 (some a4)) fun _ =>
    gB (gNwA 0 (8 : Int32)) fun a5 =>
    gB (gPQ a0 2 4 (some a5)) fun _ =>
    gB (gNwA 0 (240 : Int32)) fun a6 =>
    gB (gPQ a0 2 5 (some a6)) fun _ =>
    gB (gPI a0 2 8 (-1 : Int32)) fun _ =>
    gB (gPI a0 2 11 (2 : Int32)) fun _ =>
    gB (gPI a0 2 12 (10 : Int32)) fun _ =>
    gB (gPI a0 2 13 (1 : Int32)) fun _ =>
    f_X3_init_79 gN a0 (0 : Int32)
set_option maxHeartbeats 4000000 in
set_option maxRecDepth 100000 in
theorem m_X3_init {G : gG} {l : Launch} (hfl : l.stackTraces = false) {a0 : Nat} {h h' : g_H} {r : Unit} (hf : (f_X3_init a0).1 h = some (r, h')) : gMet G l yX3_init (Cond.code yX3_init cX3_init 2 none) 2 40 [.ref a0] h (.inl (g_wU r)) h' := by
  refine g_head hfl ((f_X3_init a0).2 h r h' hf) (plainFor_of_name (by decide)) (Nat.le_of_ble_eq_true rfl) (fun p e s m below meth c H locs cells slots ls X hI hl9 => ?_)
  have hl : lv_has ls 2 [(0, .ref a0)] := hl9
  have hx := X.1
  have hb := X.2.1
  have hown := X.2.2.2.1
  have hts := X.2.2.2.2.1
  unfold f_X3_init at hf
  refine lv_aload_n hx hb dX3_init_0 rfl (lv_at hl 0 rfl) ?_
  refine g_oinit X q184 hl.1 (Nat.le_of_ble_eq_true rfl) (Nat.le_of_ble_eq_true rfl) (Nat.le_of_ble_eq_true rfl) dX3_init_1 ?_
  refine lv_aload_n hx hb dX3_init_4 rfl (lv_at hl 0 rfl) ?_
  refine lv_bipush (v := (8 : Int32)) hx hb dX3_init_5 (by decide) ?_
  refine g_newq4 X hI hf ⟨Nat.le_refl _, Nat.le_refl _⟩ q185 dX3_init_7 (fun a1 h H cells slots hf hI => ?_)
  refine g_pqF X hI hf fX3_0 q253 rfl rfl rfl rfl dX3_init_10 (fun h H locs hf hI => ?_)
  refine lv_aload_n hx hb dX3_init_13 rfl (lv_at hl 0 rfl) ?_
  refine lv_bipush (v := (6 : Int32)) hx hb dX3_init_14 (by decide) ?_
  refine g_newq5 X hI hf ⟨Nat.le_refl _, Nat.le_refl _⟩ q187 dX3_init_16 (fun a2 h H cells slots hf hI => ?_)
  refine g_pqF X hI hf fX3_1 q256 rfl rfl rfl rfl dX3_init_19 (fun h H locs hf hI => ?_)
  refine lv_aload_n hx hb dX3_init_22 rfl (lv_at hl 0 rfl) ?_
  refine lv_bipush (v := (12 : Int32)) hx hb dX3_init_23 (by decide) ?_
  refine g_newq6 X hI hf ⟨Nat.le_refl _, Nat.le_refl _⟩ q189 dX3_init_25 (fun a3 h H cells slots hf hI => ?_)
  refine g_pqF X hI hf fX3_2 q259 rfl rfl rfl rfl dX3_init_28 (fun h H locs hf hI => ?_)
  refine lv_aload_n hx hb dX3_init_31 rfl (lv_at hl 0 rfl) ?_
  refine lv_bipush (v := (10 : Int32)) hx hb dX3_init_32 (by decide) ?_
  refine g_newa0 X hI hf ⟨Nat.le_refl _, Nat.le_refl _⟩ dX3_init_34 (fun a4 h H cells slots hf hI => ?_)
  refine g_pqF X hI hf fX3_3 q261 rfl rfl rfl rfl dX3_init_36 (fun h H locs hf hI => ?_)
  refine lv_aload_n hx hb dX3_init_39 rfl (lv_at hl 0 rfl) ?_
  refine lv_bipush (v := (8 : Int32)) hx hb dX3_init_40 (by decide) ?_
  refine g_newa0 X hI hf ⟨Nat.le_refl _, Nat.le_refl _⟩ dX3_init_42 (fun a5 h H cells slots hf hI => ?_)
  refine g_pqF X hI hf fX3_4 q265 rfl rfl rfl rfl dX3_init_44 (fun h H locs hf hI => ?_)
  refine lv_aload_n hx hb dX3_init_47 rfl (lv_at hl 0 rfl) ?_
  refine lv_sipush (v := (240 : Int32)) hx hb dX3_init_48 (by decide) ?_
  refine g_newa0 X hI hf ⟨Nat.le_refl _, Nat.le_refl _⟩ dX3_init_51 (fun a6 h H cells slots hf hI => ?_)
  refine g_pqF X hI hf fX3_5 q266 rfl rfl rfl rfl dX3_init_53 (fun h H locs hf hI => ?_)
  refine lv_aload_n hx hb dX3_init_56 rfl (lv_at hl 0 rfl) ?_
  refine lv_iconst (v := (-1 : Int32)) hx hb dX3_init_57 (by decide) ?_
  refine g_pi X hI hf fX3_8 q273 rfl dX3_init_58 (fun h H locs hf hI => ?_)
  refine lv_aload_n hx hb dX3_init_61 rfl (lv_at hl 0 rfl) ?_
  refine lv_iconst (v := (2 : Int32)) hx hb dX3_init_62 (by decide) ?_
  refine g_pi X hI hf fX3_11 q280 rfl dX3_init_63 (fun h H locs hf hI => ?_)
  refine lv_aload_n hx hb dX3_init_66 rfl (lv_at hl 0 rfl) ?_
  refine lv_bipush (v := (10 : Int32)) hx hb dX3_init_67 (by decide) ?_
  refine g_pi X hI hf fX3_12 q283 rfl dX3_init_69 (fun h H locs hf hI => ?_)
  refine lv_aload_n hx hb dX3_init_72 rfl (lv_at hl 0 rfl) ?_
  refine lv_iconst (v := (1 : Int32)) hx hb dX3_init_73 (by decide) ?_
  refine g_pi X hI hf fX3_13 q286 rfl dX3_init_74 (fun h H locs hf hI => ?_)
  refine lv_iconst (v := (0 : Int32)) hx hb dX3_init_77 (by decide) ?_
  refine lv_istore_n (lv' := [(1, .int (0 : Int32)), (0, .ref a0)]) hx hb dX3_init_78 rfl hl (by decide) rfl (fun ls hl => ?_)
  exact b_X3_init_79 X gN _ _ _ _ _ _ _ _ hf hI (lv_sub hl [1, 0] rfl)
/-! J0_init_2_c5 -/
abbrev w_J0_init_2_c5_60 (G : gG) (l : Launch) (p : Program) (e : Env) (s : State) (m : MethodId) (args : Array Value) (below : List Frame) (meth : Method) (c : Code) (h0 : g_H) (r : Unit) (h' : g_H) (k : gM Unit) : Prop := ∀ (h : g_H) (H : Heap) (locs : List Loc) (cells slots : Nat) (ls : Array Slot), (k).1 h = some (r, h') → gI G h0 h H locs cells slots → lv_has ls 5 [] → W p l e (g_rm 1 20 h0 h') s m args below meth c H locs cells slots (gQ G below args s h0 h' (.inl (g_wU r))) (F0 m 60 ls [])
def f_J0_init_2_c5_60 : gM Unit :=
    gRet ()
set_option maxHeartbeats 4000000 in
set_option maxRecDepth 100000 in
theorem b_J0_init_2_c5_60 {G : gG} {l : Launch} {p : Program} {e : Env} {s : State} {m : MethodId} {args : Array Value} {below : List Frame} {meth : Method} {c : Code} {h0 : g_H} {r : Unit} {h' : g_H} (X : gX G l yJ0_init_2.cls cJ0_init_2 5 none [] yJ0_init_2.name p s m args meth c) : w_J0_init_2_c5_60 G l p e s m args below meth c h0 r h' (f_J0_init_2_c5_60) := by
  have hx := X.1
  have hb := X.2.1
  have hown := X.2.2.2.1
  have hts := X.2.2.2.2.1
  intro h H locs cells slots ls hf hI hl
  unfold f_J0_init_2_c5_60 at hf
  cases gRet_e hf
  exact g_retU X hI rfl dJ0_init_2_60
def f_J0_init_2_c5 (a0 : Nat) (a1 : Option Nat) (a2 : Option Nat) (x3 : Int32) (x4 : Int32) : gM Unit :=
    gB (gPQ a0 5 0 (some a0)) fun _ =>
    gB (gSt 100) fun v1 =>
    gB (gPQ a0 5 1 v1) fun _ =>
    gB (gSt 101) fun v2 =>
    gB (gPQ a0 5 2 v2) fun _ =>
    gIf (x4 = 0)
    (gB (gPQ a0 5 1 none) fun _ =>
    gB (gPQ a0 5 3 a1) fun _ =>
    gB (gPQ a0 5 0 a2) fun _ =>
    gIf (x3 = 0)
    (gB (gPQ a0 5 2 none) fun _ =>
    f_J0_init_2_c5_60)
    (f_J0_init_2_c5_60))
    (gFail)
set_option maxHeartbeats 4000000 in
set_option maxRecDepth 100000 in
theorem m_J0_init_2_c5 {G : gG} {l : Launch} (hfl : l.stackTraces = false) {a0 : Nat} {a1 : Option Nat} {a2 : Option Nat} {x3 : Int32} {x4 : Int32} {h h' : g_H} {r : Unit} (hf : (f_J0_init_2_c5 a0 a1 a2 x3 x4).1 h = some (r, h')) : gMet G l yJ0_init_2 (Cond.code yJ0_init_2 cJ0_init_2 5 none) 1 20 [.ref a0, va_rf a1, va_rf a2, .int x3, .int x4] h (.inl (g_wU r)) h' := by
  refine g_head hfl ((f_J0_init_2_c5 a0 a1 a2 x3 x4).2 h r h' hf) (plainFor_of_name (by decide)) (by cases a1 <;> cases a2 <;> exact Nat.le_of_ble_eq_true rfl) (fun p e s m below meth c H locs cells slots ls X hI hl9 => ?_)
  have hl : lv_has ls 5 [(0, .ref a0), (1, va_rf a1), (2, va_rf a2), (3, .int x3), (4, .int x4)] := by
    have e9 : lv_args 0 [.ref a0, va_rf a1, va_rf a2, .int x3, .int x4] = [(0, .ref a0), (1, va_rf a1), (2, va_rf a2), (3, .int x3), (4, .int x4)] := by cases a1 <;> cases a2 <;> rfl
    rw [e9] at hl9
    exact hl9
  have hx := X.1
  have hb := X.2.1
  have hown := X.2.2.2.1
  have hts := X.2.2.2.2.1
  unfold f_J0_init_2_c5 at hf
  refine lv_aload_n hx hb dJ0_init_2_0 rfl (lv_at hl 0 rfl) ?_
  refine g_oinit X q346 hl.1 (Nat.le_of_ble_eq_true rfl) (Nat.le_of_ble_eq_true rfl) (Nat.le_of_ble_eq_true rfl) dJ0_init_2_1 ?_
  refine lv_aload_n hx hb dJ0_init_2_4 rfl (lv_at hl 0 rfl) ?_
  refine lv_aload_n hx hb dJ0_init_2_5 rfl (lv_at hl 0 rfl) ?_
  refine g_pq X hI hf fX6_0 q382 rfl rfl rfl dJ0_init_2_6 (fun h H locs hf hI => ?_)
  refine lv_aload_n hx hb dJ0_init_2_9 rfl (lv_at hl 0 rfl) ?_
  refine g_st0 X hI hf q347 dJ0_init_2_10 (fun v1 hf => ?_)
  refine g_pq X hI hf fX6_1 q383 rfl rfl rfl dJ0_init_2_13 (fun h H locs hf hI => ?_)
  refine lv_aload_n hx hb dJ0_init_2_16 rfl (lv_at hl 0 rfl) ?_
  refine g_st1 X hI hf q349 dJ0_init_2_17 (fun v2 hf => ?_)
  refine g_pq X hI hf fX6_2 q384 rfl rfl rfl dJ0_init_2_20 (fun h H locs hf hI => ?_)
  refine lv_iload hx hb dJ0_init_2_23 (lv_at hl 4 rfl) ?_
  refine lv_if_eq (tgt := 36) hx hb dJ0_init_2_25 (by decide) (fun c25 => ?_) (fun c25 => ?_)
  · have hf := g_t c25 hf
    refine lv_aload_n hx hb dJ0_init_2_36 rfl (lv_at hl 0 rfl) ?_
    refine lv_null hx hb dJ0_init_2_37 ?_
    refine g_pq X hI hf fX6_1 q383 rfl rfl rfl dJ0_init_2_38 (fun h H locs hf hI => ?_)
    refine lv_aload_n hx hb dJ0_init_2_41 rfl (lv_at hl 0 rfl) ?_
    refine g_aloadQ_n hx hb dJ0_init_2_42 rfl (lv_at hl 1 rfl) ?_
    refine g_pq X hI hf fX6_3 q381 rfl rfl rfl dJ0_init_2_43 (fun h H locs hf hI => ?_)
    refine lv_aload_n hx hb dJ0_init_2_46 rfl (lv_at hl 0 rfl) ?_
    refine g_aloadQ_n hx hb dJ0_init_2_47 rfl (lv_at hl 2 rfl) ?_
    refine g_pq X hI hf fX6_0 q382 rfl rfl rfl dJ0_init_2_48 (fun h H locs hf hI => ?_)
    refine lv_iload_n hx hb dJ0_init_2_51 rfl (lv_at hl 3 rfl) ?_
    refine lv_if_ne (tgt := 60) hx hb dJ0_init_2_52 (by decide) (fun c52 => ?_) (fun c52 => ?_)
    · have hf := g_f c52 hf
      exact b_J0_init_2_c5_60 X _ _ _ _ _ _ hf hI (lv_sub hl [] rfl)
    · have hf := g_t c52 hf
      refine lv_aload_n hx hb dJ0_init_2_55 rfl (lv_at hl 0 rfl) ?_
      refine lv_null hx hb dJ0_init_2_56 ?_
      refine g_pq X hI hf fX6_2 q384 rfl rfl rfl dJ0_init_2_57 (fun h H locs hf hI => ?_)
      exact b_J0_init_2_c5_60 X _ _ _ _ _ _ hf hI (lv_sub hl [] rfl)
  · have hf := g_f c25 hf
    refine lv_aload_n hx hb dJ0_init_2_28 rfl (lv_at hl 0 rfl) ?_
    exact (gFail_f hf).elim
/-! J1_init_c5 -/
def f_J1_init_c5 (a0 : Nat) (a1 : Option Nat) (a2 : Option Nat) (x3 : Int32) (x4 : Int32) : gM Unit :=
    gB (f_J0_init_2_c5 a0 a1 a2 x3 x4) fun _ =>
    gRet ()
set_option maxHeartbeats 4000000 in
set_option maxRecDepth 100000 in
theorem m_J1_init_c5 {G : gG} {l : Launch} (hfl : l.stackTraces = false) {a0 : Nat} {a1 : Option Nat} {a2 : Option Nat} {x3 : Int32} {x4 : Int32} {h h' : g_H} {r : Unit} (hf : (f_J1_init_c5 a0 a1 a2 x3 x4).1 h = some (r, h')) : gMet G l yJ1_init (Cond.code yJ1_init cJ1_init 5 none) 2 44 [.ref a0, va_rf a1, va_rf a2, .int x3, .int x4] h (.inl (g_wU r)) h' := by
  refine g_head hfl ((f_J1_init_c5 a0 a1 a2 x3 x4).2 h r h' hf) (plainFor_of_name (by decide)) (by cases a1 <;> cases a2 <;> exact Nat.le_of_ble_eq_true rfl) (fun p e s m below meth c H locs cells slots ls X hI hl9 => ?_)
  have hl : lv_has ls 5 [(0, .ref a0), (1, va_rf a1), (2, va_rf a2), (3, .int x3), (4, .int x4)] := by
    have e9 : lv_args 0 [.ref a0, va_rf a1, va_rf a2, .int x3, .int x4] = [(0, .ref a0), (1, va_rf a1), (2, va_rf a2), (3, .int x3), (4, .int x4)] := by cases a1 <;> cases a2 <;> rfl
    rw [e9] at hl9
    exact hl9
  have hx := X.1
  have hb := X.2.1
  have hown := X.2.2.2.1
  have hts := X.2.2.2.2.1
  unfold f_J1_init_c5 at hf
  refine lv_aload_n hx hb dJ1_init_0 rfl (lv_at hl 0 rfl) ?_
  refine g_aloadQ_n hx hb dJ1_init_1 rfl (lv_at hl 1 rfl) ?_
  refine g_aloadQ_n hx hb dJ1_init_2 rfl (lv_at hl 2 rfl) ?_
  refine lv_iload_n hx hb dJ1_init_3 rfl (lv_at hl 3 rfl) ?_
  refine lv_iload hx hb dJ1_init_4 (lv_at hl 4 rfl) ?_
  refine g_cBU hI hf (fun v9 h9 e9 l9 l9' => g_rI X hI l9 l9' ⟨Nat.le_refl _, Nat.le_refl _⟩ (As := [va_rf a1, va_rf a2, .int x3, .int x4]) (m_J0_init_2_c5 X.2.2.2.2.2.2.2.2.2.2.1 e9) ydJ0_init_2 rfl rfl q375 q376 q126 q377 rfl (Nat.le_of_ble_eq_true rfl) (Nat.le_of_ble_eq_true rfl) hl.1 rfl (Nat.le_of_ble_eq_true rfl) dJ1_init_6) (fun r1 h H locs cells slots hf hI => ?_)
  cases gRet_e hf
  exact g_retU X hI rfl dJ1_init_9
/-! J2_init_c5 -/
def f_J2_init_c5 (a0 : Nat) (a1 : Option Nat) (a2 : Option Nat) (x3 : Int32) (x4 : Int32) : gM Unit :=
    gB (f_J1_init_c5 a0 a1 a2 x3 x4) fun _ =>
    gRet ()
set_option maxHeartbeats 4000000 in
set_option maxRecDepth 100000 in
theorem m_J2_init_c5 {G : gG} {l : Launch} (hfl : l.stackTraces = false) {a0 : Nat} {a1 : Option Nat} {a2 : Option Nat} {x3 : Int32} {x4 : Int32} {h h' : g_H} {r : Unit} (hf : (f_J2_init_c5 a0 a1 a2 x3 x4).1 h = some (r, h')) : gMet G l yJ2_init (Cond.code yJ2_init cJ2_init 5 none) 3 68 [.ref a0, va_rf a1, va_rf a2, .int x3, .int x4] h (.inl (g_wU r)) h' := by
  refine g_head hfl ((f_J2_init_c5 a0 a1 a2 x3 x4).2 h r h' hf) (plainFor_of_name (by decide)) (by cases a1 <;> cases a2 <;> exact Nat.le_of_ble_eq_true rfl) (fun p e s m below meth c H locs cells slots ls X hI hl9 => ?_)
  have hl : lv_has ls 5 [(0, .ref a0), (1, va_rf a1), (2, va_rf a2), (3, .int x3), (4, .int x4)] := by
    have e9 : lv_args 0 [.ref a0, va_rf a1, va_rf a2, .int x3, .int x4] = [(0, .ref a0), (1, va_rf a1), (2, va_rf a2), (3, .int x3), (4, .int x4)] := by cases a1 <;> cases a2 <;> rfl
    rw [e9] at hl9
    exact hl9
  have hx := X.1
  have hb := X.2.1
  have hown := X.2.2.2.1
  have hts := X.2.2.2.2.1
  unfold f_J2_init_c5 at hf
  refine lv_aload_n hx hb dJ2_init_0 rfl (lv_at hl 0 rfl) ?_
  refine g_aloadQ_n hx hb dJ2_init_1 rfl (lv_at hl 1 rfl) ?_
  refine g_aloadQ_n hx hb dJ2_init_2 rfl (lv_at hl 2 rfl) ?_
  refine lv_iload_n hx hb dJ2_init_3 rfl (lv_at hl 3 rfl) ?_
  refine lv_iload hx hb dJ2_init_4 (lv_at hl 4 rfl) ?_
  refine g_cBU hI hf (fun v9 h9 e9 l9 l9' => g_rI X hI l9 l9' ⟨Nat.le_refl _, Nat.le_refl _⟩ (As := [va_rf a1, va_rf a2, .int x3, .int x4]) (m_J1_init_c5 X.2.2.2.2.2.2.2.2.2.2.1 e9) ydJ1_init rfl rfl q372 q373 q127 q374 rfl (Nat.le_of_ble_eq_true rfl) (Nat.le_of_ble_eq_true rfl) hl.1 rfl (Nat.le_of_ble_eq_true rfl) dJ2_init_6) (fun r1 h H locs cells slots hf hI => ?_)
  cases gRet_e hf
  exact g_retU X hI rfl dJ2_init_9
/-! X6_init -/
def f_X6_init (a0 : Nat) : gM Unit :=
    gB (f_J2_init_c5 a0 none none (0 : Int32) (0 : Int32)) fun _ =>
    gRet ()
set_option maxHeartbeats 4000000 in
set_option maxRecDepth 100000 in
theorem m_X6_init {G : gG} {l : Launch} (hfl : l.stackTraces = false) {a0 : Nat} {h h' : g_H} {r : Unit} (hf : (f_X6_init a0).1 h = some (r, h')) : gMet G l yX6_init (Cond.code yX6_init cX6_init 1 none) 4 92 [.ref a0] h (.inl (g_wU r)) h' := by
  refine g_head hfl ((f_X6_init a0).2 h r h' hf) (plainFor_of_name (by decide)) (Nat.le_of_ble_eq_true rfl) (fun p e s m below meth c H locs cells slots ls X hI hl9 => ?_)
  have hl : lv_has ls 1 [(0, .ref a0)] := hl9
  have hx := X.1
  have hb := X.2.1
  have hown := X.2.2.2.1
  have hts := X.2.2.2.2.1
  unfold f_X6_init at hf
  refine lv_aload_n hx hb dX6_init_0 rfl (lv_at hl 0 rfl) ?_
  refine lv_null hx hb dX6_init_1 ?_
  refine lv_null hx hb dX6_init_2 ?_
  refine lv_iconst (v := (0 : Int32)) hx hb dX6_init_3 (by decide) ?_
  refine lv_iconst (v := (0 : Int32)) hx hb dX6_init_4 (by decide) ?_
  refine g_cBU hI hf (fun v9 h9 e9 l9 l9' => g_rI X hI l9 l9' ⟨Nat.le_refl _, Nat.le_refl _⟩ (As := [va_rf none, va_rf none, .int (0 : Int32), .int (0 : Int32)]) (m_J2_init_c5 X.2.2.2.2.2.2.2.2.2.2.1 e9) ydJ2_init rfl rfl q369 q370 q128 q371 rfl (Nat.le_of_ble_eq_true rfl) (Nat.le_of_ble_eq_true rfl) hl.1 rfl (Nat.le_of_ble_eq_true rfl) dX6_init_5) (fun r1 h H locs cells slots hf hI => ?_)
  cases gRet_e hf
  exact g_retU X hI rfl dX6_init_8
/-! X2_init -/
def f_X2_init (a0 : Nat) : gM Unit :=
    gB (gNwA 1 (400 : Int32)) fun a1 =>
    gB (gPQ a0 1 0 (some a1)) fun _ =>
    gB (gNwA 8 (6 : Int32)) fun a2 =>
    gB (gTx 0) fun t3 =>
    gB (gSQ a2 8 (0 : Int32) 16 t3) fun _ =>
    gB (gTx 1) fun t4 =>
    gB (gSQ a2 8 (1 : Int32) 16 t4) fun _ =>
    gB (gTx 2) fun t5 =>
    gB (gSQ a2 8 (2 : Int32) 16 t5) fun _ =>
    gB (gTx 3) fun t6 =>
    gB (gSQ a2 8 (3 : Int32) 16 t6) fun _ =>
    gB (gTx 4) fun t7 =>
    gB (gSQ a2 8 (4 : Int32) 16 t7) fun _ =>
    gB (gTx 5) fun t8 =>
    gB (gSQ a2 8 (5 : Int32) 16 t8) fun _ =>
    gB (gPQ a0 1 1 (some a2)) fun _ =>
    gB (gNwA 8 (2 : Int32)) fun a9 =>
    gB (gTx 6) fun t10 =>
    gB (gSQ a9 8 (0 : Int32) 16 t10) fun _ =>
    gB (gTx 7) fun t11 =>
    gB (gSQ a9 8 (1 : Int32) 16 t11) fun _ =>
    gB (gPQ a0 1 2 (some a9)) fun _ =>
    gB (gNwA 6 (12 : Int32)) fun a12 =>
    gB (gPQ a0 1 3 (some a12)) fun _ =>
    gB (gNew 2 15) fun a13 =>
    gB (f_X3_init a13) fun _ =>
    gB (gPQ a0 1 4 (some a13)) fun _ =>
    gB (gNew 5 7) fun a15 =>
    gB (f_X6_init a15) fun _ =>
    gB (gPQ a0 1 5 (some a15)) fun _ =>
    gRet ()
set_option maxHeartbeats 4000000 in
set_option maxRecDepth 100000 in
theorem m_X2_init {G : gG} {l : Launch} (hfl : l.stackTraces = false) {a0 : Nat} {h h' : g_H} {r : Unit} (hf : (f_X2_init a0).1 h = some (r, h')) : gMet G l yX2_init (Cond.code yX2_init cX2_init 1 none) 5 112 [.ref a0] h (.inl (g_wU r)) h' := by
  refine g_head hfl ((f_X2_init a0).2 h r h' hf) (plainFor_of_name (by decide)) (Nat.le_of_ble_eq_true rfl) (fun p e s m below meth c H locs cells slots ls X hI hl9 => ?_)
  have hl : lv_has ls 1 [(0, .ref a0)] := hl9
  have hx := X.1
  have hb := X.2.1
  have hown := X.2.2.2.1
  have hts := X.2.2.2.2.1
  unfold f_X2_init at hf
  refine lv_aload_n hx hb dX2_init_0 rfl (lv_at hl 0 rfl) ?_
  refine g_oinit X q166 hl.1 (Nat.le_of_ble_eq_true rfl) (Nat.le_of_ble_eq_true rfl) (Nat.le_of_ble_eq_true rfl) dX2_init_1 ?_
  refine lv_aload_n hx hb dX2_init_4 rfl (lv_at hl 0 rfl) ?_
  refine lv_sipush (v := (400 : Int32)) hx hb dX2_init_5 (by decide) ?_
  refine g_newa1 X hI hf ⟨Nat.le_refl _, Nat.le_refl _⟩ dX2_init_8 (fun a1 h H cells slots hf hI => ?_)
  refine g_pqF X hI hf fX2_0 q395 rfl rfl rfl rfl dX2_init_10 (fun h H locs hf hI => ?_)
  refine lv_aload_n hx hb dX2_init_13 rfl (lv_at hl 0 rfl) ?_
  refine lv_bipush (v := (6 : Int32)) hx hb dX2_init_14 (by decide) ?_
  refine g_newq8 X hI hf ⟨Nat.le_refl _, Nat.le_refl _⟩ q167 dX2_init_16 (fun a2 h H cells slots hf hI => ?_)
  refine lv_dup hx hb dX2_init_19 rfl ?_
  refine lv_iconst (v := (0 : Int32)) hx hb dX2_init_20 (by decide) ?_
  refine g_ldcS (tx := "prop") X hI hf (List.mem_of_getElem? (i := 0) rfl) dX2_init_21 (fun t3 hf => ?_)
  refine g_sq X hI hf rfl dX2_init_23 (fun h H locs hf hI => ?_)
  refine lv_dup hx hb dX2_init_24 rfl ?_
  refine lv_iconst (v := (1 : Int32)) hx hb dX2_init_25 (by decide) ?_
  refine g_ldcS (tx := "slot") X hI hf (List.mem_of_getElem? (i := 1) rfl) dX2_init_26 (fun t4 hf => ?_)
  refine g_sq X hI hf rfl dX2_init_28 (fun h H locs hf hI => ?_)
  refine lv_dup hx hb dX2_init_29 rfl ?_
  refine lv_iconst (v := (2 : Int32)) hx hb dX2_init_30 (by decide) ?_
  refine g_ldcS (tx := "jerk") X hI hf (List.mem_of_getElem? (i := 2) rfl) dX2_init_31 (fun t5 hf => ?_)
  refine g_sq X hI hf rfl dX2_init_33 (fun h H locs hf hI => ?_)
  refine lv_dup hx hb dX2_init_34 rfl ?_
  refine lv_iconst (v := (3 : Int32)) hx hb dX2_init_35 (by decide) ?_
  refine g_ldcS (tx := "worn") X hI hf (List.mem_of_getElem? (i := 3) rfl) dX2_init_36 (fun t6 hf => ?_)
  refine g_sq X hI hf rfl dX2_init_38 (fun h H locs hf hI => ?_)
  refine lv_dup hx hb dX2_init_39 rfl ?_
  refine lv_iconst (v := (4 : Int32)) hx hb dX2_init_40 (by decide) ?_
  refine g_ldcS (tx := "tense") X hI hf (List.mem_of_getElem? (i := 4) rfl) dX2_init_41 (fun t7 hf => ?_)
  refine g_sq X hI hf rfl dX2_init_43 (fun h H locs hf hI => ?_)
  refine lv_dup hx hb dX2_init_44 rfl ?_
  refine lv_iconst (v := (5 : Int32)) hx hb dX2_init_45 (by decide) ?_
  refine g_ldcS (tx := "nerve") X hI hf (List.mem_of_getElem? (i := 5) rfl) dX2_init_46 (fun t8 hf => ?_)
  refine g_sq X hI hf rfl dX2_init_48 (fun h H locs hf hI => ?_)
  refine g_pqF X hI hf fX2_1 q397 rfl rfl rfl rfl dX2_init_49 (fun h H locs hf hI => ?_)
  refine lv_aload_n hx hb dX2_init_52 rfl (lv_at hl 0 rfl) ?_
  refine lv_iconst (v := (2 : Int32)) hx hb dX2_init_53 (by decide) ?_
  refine g_newq8 X hI hf ⟨Nat.le_refl _, Nat.le_refl _⟩ q167 dX2_init_54 (fun a9 h H cells slots hf hI => ?_)
  refine lv_dup hx hb dX2_init_57 rfl ?_
  refine lv_iconst (v := (0 : Int32)) hx hb dX2_init_58 (by decide) ?_
  refine g_ldcS (tx := "knows") X hI hf (List.mem_of_getElem? (i := 6) rfl) dX2_init_59 (fun t10 hf => ?_)
  refine g_sq X hI hf rfl dX2_init_61 (fun h H locs hf hI => ?_)
  refine lv_dup hx hb dX2_init_62 rfl ?_
  refine lv_iconst (v := (1 : Int32)) hx hb dX2_init_63 (by decide) ?_
  refine g_ldcS (tx := "guilty") X hI hf (List.mem_of_getElem? (i := 7) rfl) dX2_init_64 (fun t11 hf => ?_)
  refine g_sq X hI hf rfl dX2_init_66 (fun h H locs hf hI => ?_)
  refine g_pqF X hI hf fX2_2 q398 rfl rfl rfl rfl dX2_init_67 (fun h H locs hf hI => ?_)
  refine lv_aload_n hx hb dX2_init_70 rfl (lv_at hl 0 rfl) ?_
  refine lv_bipush (v := (12 : Int32)) hx hb dX2_init_71 (by decide) ?_
  refine g_newq6 X hI hf ⟨Nat.le_refl _, Nat.le_refl _⟩ q177 dX2_init_73 (fun a12 h H cells slots hf hI => ?_)
  refine g_pqF X hI hf fX2_3 q399 rfl rfl rfl rfl dX2_init_76 (fun h H locs hf hI => ?_)
  refine lv_aload_n hx hb dX2_init_79 rfl (lv_at hl 0 rfl) ?_
  refine g_new X hI hf ⟨Nat.le_refl _, Nat.le_refl _⟩ cX3 q179 dX2_init_80 (fun a13 h H cells slots hf hI => ?_)
  refine lv_dup hx hb dX2_init_83 rfl ?_
  refine g_cBU hI hf (fun v9 h9 e9 l9 l9' => g_rI X hI l9 l9' ⟨Nat.le_refl _, Nat.le_refl _⟩ (As := []) (m_X3_init X.2.2.2.2.2.2.2.2.2.2.1 e9) ydX3_init rfl rfl q181 q182 q123 q183 rfl (Nat.le_of_ble_eq_true rfl) (Nat.le_of_ble_eq_true rfl) hl.1 rfl (Nat.le_of_ble_eq_true rfl) dX2_init_84) (fun r14 h H locs cells slots hf hI => ?_)
  refine g_pqF X hI hf fX2_4 q401 rfl rfl rfl rfl dX2_init_87 (fun h H locs hf hI => ?_)
  refine lv_aload_n hx hb dX2_init_90 rfl (lv_at hl 0 rfl) ?_
  refine g_new X hI hf ⟨Nat.le_refl _, Nat.le_refl _⟩ cX6 q321 dX2_init_91 (fun a15 h H cells slots hf hI => ?_)
  refine lv_dup hx hb dX2_init_94 rfl ?_
  refine g_cBU hI hf (fun v9 h9 e9 l9 l9' => g_rI X hI l9 l9' ⟨Nat.le_refl _, Nat.le_refl _⟩ (As := []) (m_X6_init X.2.2.2.2.2.2.2.2.2.2.1 e9) ydX6_init rfl rfl q366 q367 q129 q368 rfl (Nat.le_of_ble_eq_true rfl) (Nat.le_of_ble_eq_true rfl) hl.1 rfl (Nat.le_of_ble_eq_true rfl) dX2_init_95) (fun r16 h H locs cells slots hf hI => ?_)
  refine g_pqF X hI hf fX2_5 q402 rfl rfl rfl rfl dX2_init_98 (fun h H locs hf hI => ?_)
  cases gRet_e hf
  exact g_retU X hI rfl dX2_init_101
/-! X7_init -/
def f_X7_init (a0 : Nat) (a1 : Nat) : gM Unit :=
    gB (gPQ a0 6 5 (some a1)) fun _ =>
    gB (gNwA 0 (61 : Int32)) fun a1 =>
    gB (gPQ a0 6 0 (some a1)) fun _ =>
    gB (gNwA 0 (61 : Int32)) fun a2 =>
    gB (gPQ a0 6 1 (some a2)) fun _ =>
    gB (gNwA 0 (10 : Int32)) fun a3 =>
    gB (gPQ a0 6 2 (some a3)) fun _ =>
    gRet ()
set_option maxHeartbeats 4000000 in
set_option maxRecDepth 100000 in
theorem m_X7_init {G : gG} {l : Launch} (hfl : l.stackTraces = false) {a0 : Nat} {a1 : Nat} {h h' : g_H} {r : Unit} (hf : (f_X7_init a0 a1).1 h = some (r, h')) : gMet G l yX7_init (Cond.code yX7_init cX7_init 2 none) 1 20 [.ref a0, .ref a1] h (.inl (g_wU r)) h' := by
  refine g_head hfl ((f_X7_init a0 a1).2 h r h' hf) (plainFor_of_name (by decide)) (Nat.le_of_ble_eq_true rfl) (fun p e s m below meth c H locs cells slots ls X hI hl9 => ?_)
  have hl : lv_has ls 2 [(0, .ref a0), (1, .ref a1)] := hl9
  have hx := X.1
  have hb := X.2.1
  have hown := X.2.2.2.1
  have hts := X.2.2.2.2.1
  unfold f_X7_init at hf
  refine lv_aload_n hx hb dX7_init_0 rfl (lv_at hl 0 rfl) ?_
  refine lv_aload_n hx hb dX7_init_1 rfl (lv_at hl 1 rfl) ?_
  refine g_pqF X hI hf fX7_5 q444 rfl rfl rfl rfl dX7_init_2 (fun h H locs hf hI => ?_)
  refine lv_aload_n hx hb dX7_init_5 rfl (lv_at hl 0 rfl) ?_
  refine g_oinit X q436 hl.1 (Nat.le_of_ble_eq_true rfl) (Nat.le_of_ble_eq_true rfl) (Nat.le_of_ble_eq_true rfl) dX7_init_6 ?_
  refine lv_aload_n hx hb dX7_init_9 rfl (lv_at hl 0 rfl) ?_
  refine lv_bipush (v := (61 : Int32)) hx hb dX7_init_10 (by decide) ?_
  refine g_newa0 X hI hf ⟨Nat.le_refl _, Nat.le_refl _⟩ dX7_init_12 (fun a1 h H cells slots hf hI => ?_)
  refine g_pqF X hI hf fX7_0 q437 rfl rfl rfl rfl dX7_init_14 (fun h H locs hf hI => ?_)
  refine lv_aload_n hx hb dX7_init_17 rfl (lv_at hl 0 rfl) ?_
  refine lv_bipush (v := (61 : Int32)) hx hb dX7_init_18 (by decide) ?_
  refine g_newa0 X hI hf ⟨Nat.le_refl _, Nat.le_refl _⟩ dX7_init_20 (fun a2 h H cells slots hf hI => ?_)
  refine g_pqF X hI hf fX7_1 q438 rfl rfl rfl rfl dX7_init_22 (fun h H locs hf hI => ?_)
  refine lv_aload_n hx hb dX7_init_25 rfl (lv_at hl 0 rfl) ?_
  refine lv_bipush (v := (10 : Int32)) hx hb dX7_init_26 (by decide) ?_
  refine g_newa0 X hI hf ⟨Nat.le_refl _, Nat.le_refl _⟩ dX7_init_28 (fun a3 h H cells slots hf hI => ?_)
  refine g_pqF X hI hf fX7_2 q439 rfl rfl rfl rfl dX7_init_30 (fun h H locs hf hI => ?_)
  cases gRet_e hf
  exact g_retU X hI rfl dX7_init_33
/-! X1_init -/
abbrev w_X1_init_124 (G : gG) (l : Launch) (p : Program) (e : Env) (s : State) (m : MethodId) (args : Array Value) (below : List Frame) (meth : Method) (c : Code) (h0 : g_H) (r : Unit) (h' : g_H) (k : Nat → Int32 → gM Unit) : Prop := ∀ (a0 : Nat) (x1 : Int32) (h : g_H) (H : Heap) (locs : List Loc) (cells slots : Nat) (ls : Array Slot), (k a0 x1).1 h = some (r, h') → gI G h0 h H locs cells slots → lv_has ls 2 [(0, .ref a0), (1, .int x1)] → W p l e (g_rm 6 132 h0 h') s m args below meth c H locs cells slots (gQ G below args s h0 h' (.inl (g_wU r))) (F0 m 124 ls [])
def f_X1_init_124 : Nat → Nat → Int32 → gM Unit
  | 0, _, _ => gFail
  | n + 1, a0, x1 =>
    gIf ((12 : Int32) ≤ x1)
    (gRet ())
    (gB (gFR a0 0 4) fun v101 =>
    gB (gNew 2 15) fun a102 =>
    gB (f_X3_init a102) fun _ =>
    gB (gSQ v101 7 x1 2 a102) fun _ =>
    f_X1_init_124 n a0 (x1 + (1 : Int32)))
set_option maxHeartbeats 4000000 in
set_option maxRecDepth 100000 in
theorem b_X1_init_124 {G : gG} {l : Launch} {p : Program} {e : Env} {s : State} {m : MethodId} {args : Array Value} {below : List Frame} {meth : Method} {c : Code} {h0 : g_H} {r : Unit} {h' : g_H} (X : gX G l yX1_init.cls cX1_init 2 none [] yX1_init.name p s m args meth c) : ∀ n : Nat, w_X1_init_124 G l p e s m args below meth c h0 r h' (f_X1_init_124 n) := by
  have hx := X.1
  have hb := X.2.1
  have hown := X.2.2.2.1
  have hts := X.2.2.2.2.1
  intro n
  induction n with
  | zero =>
    intro a0 x1 h H locs cells slots ls hf hI hl
    exact (gFail_f hf).elim
  | succ n ih =>
    intro a0 x1 h H locs cells slots ls hf hI hl
    rw [f_X1_init_124] at hf
    refine lv_iload_n hx hb dX1_init_124 rfl (lv_at hl 1 rfl) ?_
    refine lv_bipush (v := (12 : Int32)) hx hb dX1_init_125 (by decide) ?_
    refine lv_icmp_ge (tgt := 149) hx hb dX1_init_127 (by decide) (fun c127 => ?_) (fun c127 => ?_)
    · have hf := g_t c127 hf
      cases gRet_e hf
      exact g_retU X hI rfl dX1_init_149
    · have hf := g_f c127 hf
      refine lv_aload_n hx hb dX1_init_130 rfl (lv_at hl 0 rfl) ?_
      refine g_fr X hI hf fX1_4 q465 rfl rfl dX1_init_131 (fun v101 hf => ?_)
      refine lv_iload_n hx hb dX1_init_134 rfl (lv_at hl 1 rfl) ?_
      refine g_new X hI hf ⟨Nat.le_refl _, Nat.le_refl _⟩ cX3 q428 dX1_init_135 (fun a102 h H cells slots hf hI => ?_)
      refine lv_dup hx hb dX1_init_138 rfl ?_
      refine g_cBU hI hf (fun v9 h9 e9 l9 l9' => g_rI X hI l9 l9' ⟨Nat.le_refl _, Nat.le_refl _⟩ (As := []) (m_X3_init X.2.2.2.2.2.2.2.2.2.2.1 e9) ydX3_init rfl rfl q429 q182 q123 q183 rfl (Nat.le_of_ble_eq_true rfl) (Nat.le_of_ble_eq_true rfl) hl.1 rfl (Nat.le_of_ble_eq_true rfl) dX1_init_139) (fun r103 h H locs cells slots hf hI => ?_)
      refine g_sq X hI hf rfl dX1_init_142 (fun h H locs hf hI => ?_)
      refine lv_iinc (v := (x1 + (1 : Int32))) (lv' := [(1, .int (x1 + (1 : Int32))), (0, .ref a0)]) hx hb dX1_init_143 hl (k := 1) rfl rfl (by decide) rfl (fun ls hl => ?_)
      refine lv_goto (tgt := 124) hx hb dX1_init_146 (by decide) ?_
      exact ih _ _ _ _ _ _ _ _ hf hI (lv_sub hl [1, 0] rfl)
def f_X1_init (a0 : Nat) : gM Unit :=
    gB (gNew 1 10) fun a1 =>
    gB (f_X2_init a1) fun _ =>
    gB (gPQ a0 0 0 (some a1)) fun _ =>
    gB (gNew 2 15) fun a3 =>
    gB (f_X3_init a3) fun _ =>
    gB (gPQ a0 0 1 (some a3)) fun _ =>
    gB (gNew 2 15) fun a5 =>
    gB (f_X3_init a5) fun _ =>
    gB (gPQ a0 0 2 (some a5)) fun _ =>
    gB (gNew 2 15) fun a7 =>
    gB (f_X3_init a7) fun _ =>
    gB (gPQ a0 0 3 (some a7)) fun _ =>
    gB (gNwA 7 (12 : Int32)) fun a9 =>
    gB (gPQ a0 0 4 (some a9)) fun _ =>
    gB (gNew 6 6) fun a10 =>
    gB (f_X7_init a10 a0) fun _ =>
    gB (gPQ a0 0 5 (some a10)) fun _ =>
    gB (gNew 4 4) fun a12 =>
    gB (f_X5_init a12) fun _ =>
    gB (gPQ a0 0 6 (some a12)) fun _ =>
    gB (gNwA 0 (2 : Int32)) fun a14 =>
    gB (gPQ a0 0 7 (some a14)) fun _ =>
    gB (gNwA 0 (8 : Int32)) fun a15 =>
    gB (gPQ a0 0 8 (some a15)) fun _ =>
    gB (gNwA 0 (640 : Int32)) fun a16 =>
    gB (gPQ a0 0 9 (some a16)) fun _ =>
    gB (gNwA 3 (64 : Int32)) fun a17 =>
    gB (gPQ a0 0 10 (some a17)) fun _ =>
    gB (gPI a0 0 11 (-1 : Int32)) fun _ =>
    gB (gPI a0 0 17 (-1 : Int32)) fun _ =>
    f_X1_init_124 gN a0 (0 : Int32)
set_option maxHeartbeats 4000000 in
set_option maxRecDepth 100000 in
theorem m_X1_init {G : gG} {l : Launch} (hfl : l.stackTraces = false) {a0 : Nat} {h h' : g_H} {r : Unit} (hf : (f_X1_init a0).1 h = some (r, h')) : gMet G l yX1_init (Cond.code yX1_init cX1_init 2 none) 6 132 [.ref a0] h (.inl (g_wU r)) h' := by
  refine g_head hfl ((f_X1_init a0).2 h r h' hf) (plainFor_of_name (by decide)) (Nat.le_of_ble_eq_true rfl) (fun p e s m below meth c H locs cells slots ls X hI hl9 => ?_)
  have hl : lv_has ls 2 [(0, .ref a0)] := hl9
  have hx := X.1
  have hb := X.2.1
  have hown := X.2.2.2.1
  have hts := X.2.2.2.2.1
  unfold f_X1_init at hf
  refine lv_aload_n hx hb dX1_init_0 rfl (lv_at hl 0 rfl) ?_
  refine g_oinit X q158 hl.1 (Nat.le_of_ble_eq_true rfl) (Nat.le_of_ble_eq_true rfl) (Nat.le_of_ble_eq_true rfl) dX1_init_1 ?_
  refine lv_aload_n hx hb dX1_init_4 rfl (lv_at hl 0 rfl) ?_
  refine g_new X hI hf ⟨Nat.le_refl _, Nat.le_refl _⟩ cX2 q161 dX1_init_5 (fun a1 h H cells slots hf hI => ?_)
  refine lv_dup hx hb dX1_init_8 rfl ?_
  refine g_cBU hI hf (fun v9 h9 e9 l9 l9' => g_rIN X hI l9 l9' ⟨Nat.le_refl _, Nat.le_refl _⟩ (As := []) (m_X2_init X.2.2.2.2.2.2.2.2.2.2.1 e9) ydX2_init rfl rfl q163 q164 q122 q165 rfl (Nat.le_of_ble_eq_true rfl) (Nat.le_of_ble_eq_true rfl) hl.1 rfl (Nat.le_of_ble_eq_true rfl) dX1_init_9) (fun r2 h H locs cells slots hf hI => ?_)
  refine g_pqF X hI hf fX1_0 q460 rfl rfl rfl rfl dX1_init_12 (fun h H locs hf hI => ?_)
  refine lv_aload_n hx hb dX1_init_15 rfl (lv_at hl 0 rfl) ?_
  refine g_new X hI hf ⟨Nat.le_refl _, Nat.le_refl _⟩ cX3 q428 dX1_init_16 (fun a3 h H cells slots hf hI => ?_)
  refine lv_dup hx hb dX1_init_19 rfl ?_
  refine g_cBU hI hf (fun v9 h9 e9 l9 l9' => g_rI X hI l9 l9' ⟨Nat.le_refl _, Nat.le_refl _⟩ (As := []) (m_X3_init X.2.2.2.2.2.2.2.2.2.2.1 e9) ydX3_init rfl rfl q429 q182 q123 q183 rfl (Nat.le_of_ble_eq_true rfl) (Nat.le_of_ble_eq_true rfl) hl.1 rfl (Nat.le_of_ble_eq_true rfl) dX1_init_20) (fun r4 h H locs cells slots hf hI => ?_)
  refine g_pqF X hI hf fX1_1 q461 rfl rfl rfl rfl dX1_init_23 (fun h H locs hf hI => ?_)
  refine lv_aload_n hx hb dX1_init_26 rfl (lv_at hl 0 rfl) ?_
  refine g_new X hI hf ⟨Nat.le_refl _, Nat.le_refl _⟩ cX3 q428 dX1_init_27 (fun a5 h H cells slots hf hI => ?_)
  refine lv_dup hx hb dX1_init_30 rfl ?_
  refine g_cBU hI hf (fun v9 h9 e9 l9 l9' => g_rI X hI l9 l9' ⟨Nat.le_refl _, Nat.le_refl _⟩ (As := []) (m_X3_init X.2.2.2.2.2.2.2.2.2.2.1 e9) ydX3_init rfl rfl q429 q182 q123 q183 rfl (Nat.le_of_ble_eq_true rfl) (Nat.le_of_ble_eq_true rfl) hl.1 rfl (Nat.le_of_ble_eq_true rfl) dX1_init_31) (fun r6 h H locs cells slots hf hI => ?_)
  refine g_pqF X hI hf fX1_2 q463 rfl rfl rfl rfl dX1_init_34 (fun h H locs hf hI => ?_)
  refine lv_aload_n hx hb dX1_init_37 rfl (lv_at hl 0 rfl) ?_
  refine g_new X hI hf ⟨Nat.le_refl _, Nat.le_refl _⟩ cX3 q428 dX1_init_38 (fun a7 h H cells slots hf hI => ?_)
  refine lv_dup hx hb dX1_init_41 rfl ?_
  refine g_cBU hI hf (fun v9 h9 e9 l9 l9' => g_rI X hI l9 l9' ⟨Nat.le_refl _, Nat.le_refl _⟩ (As := []) (m_X3_init X.2.2.2.2.2.2.2.2.2.2.1 e9) ydX3_init rfl rfl q429 q182 q123 q183 rfl (Nat.le_of_ble_eq_true rfl) (Nat.le_of_ble_eq_true rfl) hl.1 rfl (Nat.le_of_ble_eq_true rfl) dX1_init_42) (fun r8 h H locs cells slots hf hI => ?_)
  refine g_pqF X hI hf fX1_3 q464 rfl rfl rfl rfl dX1_init_45 (fun h H locs hf hI => ?_)
  refine lv_aload_n hx hb dX1_init_48 rfl (lv_at hl 0 rfl) ?_
  refine lv_bipush (v := (12 : Int32)) hx hb dX1_init_49 (by decide) ?_
  refine g_newq7 X hI hf ⟨Nat.le_refl _, Nat.le_refl _⟩ q428 dX1_init_51 (fun a9 h H cells slots hf hI => ?_)
  refine g_pqF X hI hf fX1_4 q465 rfl rfl rfl rfl dX1_init_54 (fun h H locs hf hI => ?_)
  refine lv_aload_n hx hb dX1_init_57 rfl (lv_at hl 0 rfl) ?_
  refine g_new X hI hf ⟨Nat.le_refl _, Nat.le_refl _⟩ cX7 q431 dX1_init_58 (fun a10 h H cells slots hf hI => ?_)
  refine lv_dup hx hb dX1_init_61 rfl ?_
  refine lv_aload_n hx hb dX1_init_62 rfl (lv_at hl 0 rfl) ?_
  refine g_cBU hI hf (fun v9 h9 e9 l9 l9' => g_rIN X hI l9 l9' ⟨Nat.le_refl _, Nat.le_refl _⟩ (As := [.ref a0]) (m_X7_init X.2.2.2.2.2.2.2.2.2.2.1 e9) ydX7_init rfl rfl q433 q434 q130 q435 rfl (Nat.le_of_ble_eq_true rfl) (Nat.le_of_ble_eq_true rfl) hl.1 rfl (Nat.le_of_ble_eq_true rfl) dX1_init_63) (fun r11 h H locs cells slots hf hI => ?_)
  refine g_pqF X hI hf fX1_5 q466 rfl rfl rfl rfl dX1_init_66 (fun h H locs hf hI => ?_)
  refine lv_aload_n hx hb dX1_init_69 rfl (lv_at hl 0 rfl) ?_
  refine g_new X hI hf ⟨Nat.le_refl _, Nat.le_refl _⟩ cX5 q458 dX1_init_70 (fun a12 h H cells slots hf hI => ?_)
  refine lv_dup hx hb dX1_init_73 rfl ?_
  refine g_cBU hI hf (fun v9 h9 e9 l9 l9' => g_rIN X hI l9 l9' ⟨Nat.le_refl _, Nat.le_refl _⟩ (As := []) (m_X5_init X.2.2.2.2.2.2.2.2.2.2.1 e9) ydX5_init rfl rfl q459 q224 q125 q225 rfl (Nat.le_of_ble_eq_true rfl) (Nat.le_of_ble_eq_true rfl) hl.1 rfl (Nat.le_of_ble_eq_true rfl) dX1_init_74) (fun r13 h H locs cells slots hf hI => ?_)
  refine g_pqF X hI hf fX1_6 q467 rfl rfl rfl rfl dX1_init_77 (fun h H locs hf hI => ?_)
  refine lv_aload_n hx hb dX1_init_80 rfl (lv_at hl 0 rfl) ?_
  refine lv_iconst (v := (2 : Int32)) hx hb dX1_init_81 (by decide) ?_
  refine g_newa0 X hI hf ⟨Nat.le_refl _, Nat.le_refl _⟩ dX1_init_82 (fun a14 h H cells slots hf hI => ?_)
  refine g_pqF X hI hf fX1_7 q468 rfl rfl rfl rfl dX1_init_84 (fun h H locs hf hI => ?_)
  refine lv_aload_n hx hb dX1_init_87 rfl (lv_at hl 0 rfl) ?_
  refine lv_bipush (v := (8 : Int32)) hx hb dX1_init_88 (by decide) ?_
  refine g_newa0 X hI hf ⟨Nat.le_refl _, Nat.le_refl _⟩ dX1_init_90 (fun a15 h H cells slots hf hI => ?_)
  refine g_pqF X hI hf fX1_8 q469 rfl rfl rfl rfl dX1_init_92 (fun h H locs hf hI => ?_)
  refine lv_aload_n hx hb dX1_init_95 rfl (lv_at hl 0 rfl) ?_
  refine lv_sipush (v := (640 : Int32)) hx hb dX1_init_96 (by decide) ?_
  refine g_newa0 X hI hf ⟨Nat.le_refl _, Nat.le_refl _⟩ dX1_init_99 (fun a16 h H cells slots hf hI => ?_)
  refine g_pqF X hI hf fX1_9 q470 rfl rfl rfl rfl dX1_init_101 (fun h H locs hf hI => ?_)
  refine lv_aload_n hx hb dX1_init_104 rfl (lv_at hl 0 rfl) ?_
  refine lv_bipush (v := (64 : Int32)) hx hb dX1_init_105 (by decide) ?_
  refine g_newa3 X hI hf ⟨Nat.le_refl _, Nat.le_refl _⟩ dX1_init_107 (fun a17 h H cells slots hf hI => ?_)
  refine g_pqF X hI hf fX1_10 q471 rfl rfl rfl rfl dX1_init_109 (fun h H locs hf hI => ?_)
  refine lv_aload_n hx hb dX1_init_112 rfl (lv_at hl 0 rfl) ?_
  refine lv_iconst (v := (-1 : Int32)) hx hb dX1_init_113 (by decide) ?_
  refine g_pi X hI hf fX1_11 q472 rfl dX1_init_114 (fun h H locs hf hI => ?_)
  refine lv_aload_n hx hb dX1_init_117 rfl (lv_at hl 0 rfl) ?_
  refine lv_iconst (v := (-1 : Int32)) hx hb dX1_init_118 (by decide) ?_
  refine g_pi X hI hf fX1_17 q478 rfl dX1_init_119 (fun h H locs hf hI => ?_)
  refine lv_iconst (v := (0 : Int32)) hx hb dX1_init_122 (by decide) ?_
  refine lv_istore_n (lv' := [(1, .int (0 : Int32)), (0, .ref a0)]) hx hb dX1_init_123 rfl hl (by decide) rfl (fun ls hl => ?_)
  exact b_X1_init_124 X gN _ _ _ _ _ _ _ _ hf hI (lv_sub hl [1, 0] rfl)
/-! X8_init -/
def f_X8_init (a0 : Nat) : gM Unit :=
    gB (gNwA 0 (2003 : Int32)) fun a1 =>
    gB (gPQ a0 7 1 (some a1)) fun _ =>
    gB (gNwA 0 (1154 : Int32)) fun a2 =>
    gB (gPQ a0 7 2 (some a2)) fun _ =>
    gB (gNwA 0 (1154 : Int32)) fun a3 =>
    gB (gPQ a0 7 3 (some a3)) fun _ =>
    gB (gNwA 0 (305 : Int32)) fun a4 =>
    gB (gPQ a0 7 4 (some a4)) fun _ =>
    gB (gNwA 0 (3660 : Int32)) fun a5 =>
    gB (gPQ a0 7 5 (some a5)) fun _ =>
    gB (gNwA 1 (400 : Int32)) fun a6 =>
    gB (gPQ a0 7 8 (some a6)) fun _ =>
    gB (gPI a0 7 14 (-1 : Int32)) fun _ =>
    gB (gNwA 0 (5 : Int32)) fun a7 =>
    gB (gPQ a0 7 15 (some a7)) fun _ =>
    gB (gNwA 0 (400 : Int32)) fun a8 =>
    gB (gPQ a0 7 17 (some a8)) fun _ =>
    gB (gNwA 0 (10 : Int32)) fun a9 =>
    gB (gPQ a0 7 25 (some a9)) fun _ =>
    gB (gNwA 0 (10 : Int32)) fun a10 =>
    gB (gPQ a0 7 26 (some a10)) fun _ =>
    gB (gNwA 0 (8 : Int32)) fun a11 =>
    gB (gPQ a0 7 27 (some a11)) fun _ =>
    gB (gNwA 0 (61 : Int32)) fun a12 =>
    gB (gPQ a0 7 33 (some a12)) fun _ =>
    gB (gNwA 0 (61 : Int32)) fun a13 =>
    gB (gPQ a0 7 34 (some a13)) fun _ =>
    gB (gNwA 0 (10 : Int32)) fun a14 =>
    gB (gPQ a0 7 35 (some a14)) fun _ =>
    gB (gNwA 0 (640 : Int32)) fun a15 =>
    gB (gPQ a0 7 37 (some a15)) fun _ =>
    gB (gFR a0 7 1) fun v16 =>
    gB (gSI v16 0 (5 : Int32) (2 : Int32)) fun _ =>
    gB (gFR a0 7 1) fun v17 =>
    gB (gSI v17 0 (6 : Int32) (10 : Int32)) fun _ =>
    gB (gFR a0 7 1) fun v18 =>
    gB (gSI v18 0 (8 : Int32) (1 : Int32)) fun _ =>
    gRet ()
set_option maxHeartbeats 4000000 in
set_option maxRecDepth 100000 in
theorem m_X8_init {G : gG} {l : Launch} (hfl : l.stackTraces = false) {a0 : Nat} {h h' : g_H} {r : Unit} (hf : (f_X8_init a0).1 h = some (r, h')) : gMet G l yX8_init (Cond.code yX8_init cX8_init 1 none) 1 20 [.ref a0] h (.inl (g_wU r)) h' := by
  refine g_head hfl ((f_X8_init a0).2 h r h' hf) (plainFor_of_name (by decide)) (Nat.le_of_ble_eq_true rfl) (fun p e s m below meth c H locs cells slots ls X hI hl9 => ?_)
  have hl : lv_has ls 1 [(0, .ref a0)] := hl9
  have hx := X.1
  have hb := X.2.1
  have hown := X.2.2.2.1
  have hts := X.2.2.2.2.1
  unfold f_X8_init at hf
  refine lv_aload_n hx hb dX8_init_0 rfl (lv_at hl 0 rfl) ?_
  refine g_oinit X q1443 hl.1 (Nat.le_of_ble_eq_true rfl) (Nat.le_of_ble_eq_true rfl) (Nat.le_of_ble_eq_true rfl) dX8_init_1 ?_
  refine lv_aload_n hx hb dX8_init_4 rfl (lv_at hl 0 rfl) ?_
  refine lv_sipush (v := (2003 : Int32)) hx hb dX8_init_5 (by decide) ?_
  refine g_newa0 X hI hf ⟨Nat.le_refl _, Nat.le_refl _⟩ dX8_init_8 (fun a1 h H cells slots hf hI => ?_)
  refine g_pqF X hI hf fX8_1 q1445 rfl rfl rfl rfl dX8_init_10 (fun h H locs hf hI => ?_)
  refine lv_aload_n hx hb dX8_init_13 rfl (lv_at hl 0 rfl) ?_
  refine lv_sipush (v := (1154 : Int32)) hx hb dX8_init_14 (by decide) ?_
  refine g_newa0 X hI hf ⟨Nat.le_refl _, Nat.le_refl _⟩ dX8_init_17 (fun a2 h H cells slots hf hI => ?_)
  refine g_pqF X hI hf fX8_2 q1446 rfl rfl rfl rfl dX8_init_19 (fun h H locs hf hI => ?_)
  refine lv_aload_n hx hb dX8_init_22 rfl (lv_at hl 0 rfl) ?_
  refine lv_sipush (v := (1154 : Int32)) hx hb dX8_init_23 (by decide) ?_
  refine g_newa0 X hI hf ⟨Nat.le_refl _, Nat.le_refl _⟩ dX8_init_26 (fun a3 h H cells slots hf hI => ?_)
  refine g_pqF X hI hf fX8_3 q1447 rfl rfl rfl rfl dX8_init_28 (fun h H locs hf hI => ?_)
  refine lv_aload_n hx hb dX8_init_31 rfl (lv_at hl 0 rfl) ?_
  refine lv_sipush (v := (305 : Int32)) hx hb dX8_init_32 (by decide) ?_
  refine g_newa0 X hI hf ⟨Nat.le_refl _, Nat.le_refl _⟩ dX8_init_35 (fun a4 h H cells slots hf hI => ?_)
  refine g_pqF X hI hf fX8_4 q1448 rfl rfl rfl rfl dX8_init_37 (fun h H locs hf hI => ?_)
  refine lv_aload_n hx hb dX8_init_40 rfl (lv_at hl 0 rfl) ?_
  refine lv_sipush (v := (3660 : Int32)) hx hb dX8_init_41 (by decide) ?_
  refine g_newa0 X hI hf ⟨Nat.le_refl _, Nat.le_refl _⟩ dX8_init_44 (fun a5 h H cells slots hf hI => ?_)
  refine g_pqF X hI hf fX8_5 q1449 rfl rfl rfl rfl dX8_init_46 (fun h H locs hf hI => ?_)
  refine lv_aload_n hx hb dX8_init_49 rfl (lv_at hl 0 rfl) ?_
  refine lv_sipush (v := (400 : Int32)) hx hb dX8_init_50 (by decide) ?_
  refine g_newa1 X hI hf ⟨Nat.le_refl _, Nat.le_refl _⟩ dX8_init_53 (fun a6 h H cells slots hf hI => ?_)
  refine g_pqF X hI hf fX8_8 q1452 rfl rfl rfl rfl dX8_init_55 (fun h H locs hf hI => ?_)
  refine lv_aload_n hx hb dX8_init_58 rfl (lv_at hl 0 rfl) ?_
  refine lv_iconst (v := (-1 : Int32)) hx hb dX8_init_59 (by decide) ?_
  refine g_pi X hI hf fX8_14 q1458 rfl dX8_init_60 (fun h H locs hf hI => ?_)
  refine lv_aload_n hx hb dX8_init_63 rfl (lv_at hl 0 rfl) ?_
  refine lv_iconst (v := (5 : Int32)) hx hb dX8_init_64 (by decide) ?_
  refine g_newa0 X hI hf ⟨Nat.le_refl _, Nat.le_refl _⟩ dX8_init_65 (fun a7 h H cells slots hf hI => ?_)
  refine g_pqF X hI hf fX8_15 q1459 rfl rfl rfl rfl dX8_init_67 (fun h H locs hf hI => ?_)
  refine lv_aload_n hx hb dX8_init_70 rfl (lv_at hl 0 rfl) ?_
  refine lv_sipush (v := (400 : Int32)) hx hb dX8_init_71 (by decide) ?_
  refine g_newa0 X hI hf ⟨Nat.le_refl _, Nat.le_refl _⟩ dX8_init_74 (fun a8 h H cells slots hf hI => ?_)
  refine g_pqF X hI hf fX8_17 q1461 rfl rfl rfl rfl dX8_init_76 (fun h H locs hf hI => ?_)
  refine lv_aload_n hx hb dX8_init_79 rfl (lv_at hl 0 rfl) ?_
  refine lv_bipush (v := (10 : Int32)) hx hb dX8_init_80 (by decide) ?_
  refine g_newa0 X hI hf ⟨Nat.le_refl _, Nat.le_refl _⟩ dX8_init_82 (fun a9 h H cells slots hf hI => ?_)
  refine g_pqF X hI hf fX8_25 q1469 rfl rfl rfl rfl dX8_init_84 (fun h H locs hf hI => ?_)
  refine lv_aload_n hx hb dX8_init_87 rfl (lv_at hl 0 rfl) ?_
  refine lv_bipush (v := (10 : Int32)) hx hb dX8_init_88 (by decide) ?_
  refine g_newa0 X hI hf ⟨Nat.le_refl _, Nat.le_refl _⟩ dX8_init_90 (fun a10 h H cells slots hf hI => ?_)
  refine g_pqF X hI hf fX8_26 q1470 rfl rfl rfl rfl dX8_init_92 (fun h H locs hf hI => ?_)
  refine lv_aload_n hx hb dX8_init_95 rfl (lv_at hl 0 rfl) ?_
  refine lv_bipush (v := (8 : Int32)) hx hb dX8_init_96 (by decide) ?_
  refine g_newa0 X hI hf ⟨Nat.le_refl _, Nat.le_refl _⟩ dX8_init_98 (fun a11 h H cells slots hf hI => ?_)
  refine g_pqF X hI hf fX8_27 q1471 rfl rfl rfl rfl dX8_init_100 (fun h H locs hf hI => ?_)
  refine lv_aload_n hx hb dX8_init_103 rfl (lv_at hl 0 rfl) ?_
  refine lv_bipush (v := (61 : Int32)) hx hb dX8_init_104 (by decide) ?_
  refine g_newa0 X hI hf ⟨Nat.le_refl _, Nat.le_refl _⟩ dX8_init_106 (fun a12 h H cells slots hf hI => ?_)
  refine g_pqF X hI hf fX8_33 q1477 rfl rfl rfl rfl dX8_init_108 (fun h H locs hf hI => ?_)
  refine lv_aload_n hx hb dX8_init_111 rfl (lv_at hl 0 rfl) ?_
  refine lv_bipush (v := (61 : Int32)) hx hb dX8_init_112 (by decide) ?_
  refine g_newa0 X hI hf ⟨Nat.le_refl _, Nat.le_refl _⟩ dX8_init_114 (fun a13 h H cells slots hf hI => ?_)
  refine g_pqF X hI hf fX8_34 q1478 rfl rfl rfl rfl dX8_init_116 (fun h H locs hf hI => ?_)
  refine lv_aload_n hx hb dX8_init_119 rfl (lv_at hl 0 rfl) ?_
  refine lv_bipush (v := (10 : Int32)) hx hb dX8_init_120 (by decide) ?_
  refine g_newa0 X hI hf ⟨Nat.le_refl _, Nat.le_refl _⟩ dX8_init_122 (fun a14 h H cells slots hf hI => ?_)
  refine g_pqF X hI hf fX8_35 q1479 rfl rfl rfl rfl dX8_init_124 (fun h H locs hf hI => ?_)
  refine lv_aload_n hx hb dX8_init_127 rfl (lv_at hl 0 rfl) ?_
  refine lv_sipush (v := (640 : Int32)) hx hb dX8_init_128 (by decide) ?_
  refine g_newa0 X hI hf ⟨Nat.le_refl _, Nat.le_refl _⟩ dX8_init_131 (fun a15 h H cells slots hf hI => ?_)
  refine g_pqF X hI hf fX8_37 q1481 rfl rfl rfl rfl dX8_init_133 (fun h H locs hf hI => ?_)
  refine lv_aload_n hx hb dX8_init_136 rfl (lv_at hl 0 rfl) ?_
  refine g_fr X hI hf fX8_1 q1445 rfl rfl dX8_init_137 (fun v16 hf => ?_)
  refine lv_iconst (v := (5 : Int32)) hx hb dX8_init_140 (by decide) ?_
  refine lv_iconst (v := (2 : Int32)) hx hb dX8_init_141 (by decide) ?_
  refine g_si0 X hI hf dX8_init_142 (fun h H locs hf hI => ?_)
  refine lv_aload_n hx hb dX8_init_143 rfl (lv_at hl 0 rfl) ?_
  refine g_fr X hI hf fX8_1 q1445 rfl rfl dX8_init_144 (fun v17 hf => ?_)
  refine lv_bipush (v := (6 : Int32)) hx hb dX8_init_147 (by decide) ?_
  refine lv_bipush (v := (10 : Int32)) hx hb dX8_init_149 (by decide) ?_
  refine g_si0 X hI hf dX8_init_151 (fun h H locs hf hI => ?_)
  refine lv_aload_n hx hb dX8_init_152 rfl (lv_at hl 0 rfl) ?_
  refine g_fr X hI hf fX8_1 q1445 rfl rfl dX8_init_153 (fun v18 hf => ?_)
  refine lv_bipush (v := (8 : Int32)) hx hb dX8_init_156 (by decide) ?_
  refine lv_iconst (v := (1 : Int32)) hx hb dX8_init_158 (by decide) ?_
  refine g_si0 X hI hf dX8_init_159 (fun h H locs hf hI => ?_)
  cases gRet_e hf
  exact g_retU X hI rfl dX8_init_160
/-! J13_min -/
abbrev w_J13_min_10 (G : gG) (l : Launch) (p : Program) (e : Env) (s : State) (m : MethodId) (args : Array Value) (below : List Frame) (meth : Method) (c : Code) (h0 : g_H) (r : Int32) (h' : g_H) (k : Int32 → gM Int32) : Prop := ∀ (u0 : Int32) (h : g_H) (H : Heap) (locs : List Loc) (cells slots : Nat) (ls : Array Slot), (k u0).1 h = some (r, h') → gI G h0 h H locs cells slots → lv_has ls 2 [] → W p l e (g_rm 1 20 h0 h') s m args below meth c H locs cells slots (gQ G below args s h0 h' (.inl (g_wI r))) (F0 m 10 ls [.int u0])
def f_J13_min_10 (u0 : Int32) : gM Int32 :=
    (gRet u0)
set_option maxHeartbeats 4000000 in
set_option maxRecDepth 100000 in
theorem b_J13_min_10 {G : gG} {l : Launch} {p : Program} {e : Env} {s : State} {m : MethodId} {args : Array Value} {below : List Frame} {meth : Method} {c : Code} {h0 : g_H} {r : Int32} {h' : g_H} (X : gX G l yJ13_min.cls cJ13_min 2 (some .int) [] yJ13_min.name p s m args meth c) : w_J13_min_10 G l p e s m args below meth c h0 r h' (f_J13_min_10) := by
  have hx := X.1
  have hb := X.2.1
  have hown := X.2.2.2.1
  have hts := X.2.2.2.2.1
  intro u0 h H locs cells slots ls hf hI hl
  unfold f_J13_min_10 at hf
  cases gRet_e hf
  exact g_retI X hI rfl dJ13_min_10
def f_J13_min (x0 : Int32) (x1 : Int32) : gM Int32 :=
    gIf (x1 < x0)
    (f_J13_min_10 x1)
    (f_J13_min_10 x0)
set_option maxHeartbeats 4000000 in
set_option maxRecDepth 100000 in
theorem m_J13_min {G : gG} {l : Launch} (hfl : l.stackTraces = false) {x0 : Int32} {x1 : Int32} {h h' : g_H} {r : Int32} (hf : (f_J13_min x0 x1).1 h = some (r, h')) : gMet G l yJ13_min (Cond.code yJ13_min cJ13_min 2 (some .int)) 1 20 [.int x0, .int x1] h (.inl (g_wI r)) h' := by
  refine g_head hfl ((f_J13_min x0 x1).2 h r h' hf) (by decide +kernel) (Nat.le_of_ble_eq_true rfl) (fun p e s m below meth c H locs cells slots ls X hI hl9 => ?_)
  have hl : lv_has ls 2 [(0, .int x0), (1, .int x1)] := hl9
  have hx := X.1
  have hb := X.2.1
  have hown := X.2.2.2.1
  have hts := X.2.2.2.2.1
  unfold f_J13_min at hf
  refine lv_iload_n hx hb dJ13_min_0 rfl (lv_at hl 0 rfl) ?_
  refine lv_iload_n hx hb dJ13_min_1 rfl (lv_at hl 1 rfl) ?_
  refine lv_icmp_gt (tgt := 9) hx hb dJ13_min_2 (by decide) (fun c2 => ?_) (fun c2 => ?_)
  · have hf := g_t c2 hf
    refine lv_iload_n hx hb dJ13_min_9 rfl (lv_at hl 1 rfl) ?_
    exact b_J13_min_10 X _ _ _ _ _ _ _ hf hI (lv_sub hl [] rfl)
  · have hf := g_f c2 hf
    refine lv_iload_n hx hb dJ13_min_5 rfl (lv_at hl 0 rfl) ?_
    refine lv_goto (tgt := 10) hx hb dJ13_min_6 (by decide) ?_
    exact b_J13_min_10 X _ _ _ _ _ _ _ hf hI (lv_sub hl [] rfl)
/-! X1_worn -/
abbrev w_X1_worn_36 (G : gG) (l : Launch) (p : Program) (e : Env) (s : State) (m : MethodId) (args : Array Value) (below : List Frame) (meth : Method) (c : Code) (h0 : g_H) (r : Int32) (h' : g_H) (k : Int32 → gM Int32) : Prop := ∀ (x1 : Int32) (h : g_H) (H : Heap) (locs : List Loc) (cells slots : Nat) (ls : Array Slot), (k x1).1 h = some (r, h') → gI G h0 h H locs cells slots → lv_has ls 3 [(1, .int x1)] → W p l e (g_rm 1 20 h0 h') s m args below meth c H locs cells slots (gQ G below args s h0 h' (.inl (g_wI r))) (F0 m 36 ls [])
abbrev w_X1_worn_4 (G : gG) (l : Launch) (p : Program) (e : Env) (s : State) (m : MethodId) (args : Array Value) (below : List Frame) (meth : Method) (c : Code) (h0 : g_H) (r : Int32) (h' : g_H) (k : Nat → Int32 → Int32 → gM Int32) : Prop := ∀ (a0 : Nat) (x1 : Int32) (x2 : Int32) (h : g_H) (H : Heap) (locs : List Loc) (cells slots : Nat) (ls : Array Slot), (k a0 x1 x2).1 h = some (r, h') → gI G h0 h H locs cells slots → lv_has ls 3 [(0, .ref a0), (1, .int x1), (2, .int x2)] → W p l e (g_rm 1 20 h0 h') s m args below meth c H locs cells slots (gQ G below args s h0 h' (.inl (g_wI r))) (F0 m 4 ls [])
def f_X1_worn_36 (x1 : Int32) : gM Int32 :=
    (gRet x1)
set_option maxHeartbeats 4000000 in
set_option maxRecDepth 100000 in
theorem b_X1_worn_36 {G : gG} {l : Launch} {p : Program} {e : Env} {s : State} {m : MethodId} {args : Array Value} {below : List Frame} {meth : Method} {c : Code} {h0 : g_H} {r : Int32} {h' : g_H} (X : gX G l yX1_worn.cls cX1_worn 3 (some .int) [] yX1_worn.name p s m args meth c) : w_X1_worn_36 G l p e s m args below meth c h0 r h' (f_X1_worn_36) := by
  have hx := X.1
  have hb := X.2.1
  have hown := X.2.2.2.1
  have hts := X.2.2.2.2.1
  intro x1 h H locs cells slots ls hf hI hl
  unfold f_X1_worn_36 at hf
  refine lv_iload_n hx hb dX1_worn_36 rfl (lv_at hl 0 rfl) ?_
  cases gRet_e hf
  exact g_retI X hI rfl dX1_worn_37
def f_X1_worn_4 : Nat → Nat → Int32 → Int32 → gM Int32
  | 0, _, _, _ => gFail
  | n + 1, a0, x1, x2 =>
    gB (gFR a0 0 1) fun v101 =>
    gB (gFI v101 2 6) fun v102 =>
    gIf (v102 ≤ x2)
    (f_X1_worn_36 x1)
    (gB (gFR a0 0 1) fun v103 =>
    gB (gFR v103 2 0) fun v104 =>
    gB (gAR v104 4 x2) fun v105 =>
    gB (gFI v105 3 2) fun v106 =>
    f_X1_worn_4 n a0 (x1 + v106) (x2 + (1 : Int32)))
set_option maxHeartbeats 4000000 in
set_option maxRecDepth 100000 in
theorem b_X1_worn_4 {G : gG} {l : Launch} {p : Program} {e : Env} {s : State} {m : MethodId} {args : Array Value} {below : List Frame} {meth : Method} {c : Code} {h0 : g_H} {r : Int32} {h' : g_H} (X : gX G l yX1_worn.cls cX1_worn 3 (some .int) [] yX1_worn.name p s m args meth c) : ∀ n : Nat, w_X1_worn_4 G l p e s m args below meth c h0 r h' (f_X1_worn_4 n) := by
  have hx := X.1
  have hb := X.2.1
  have hown := X.2.2.2.1
  have hts := X.2.2.2.2.1
  intro n
  induction n with
  | zero =>
    intro a0 x1 x2 h H locs cells slots ls hf hI hl
    exact (gFail_f hf).elim
  | succ n ih =>
    intro a0 x1 x2 h H locs cells slots ls hf hI hl
    rw [f_X1_worn_4] at hf
    refine lv_iload_n hx hb dX1_worn_4 rfl (lv_at hl 2 rfl) ?_
    refine lv_aload_n hx hb dX1_worn_5 rfl (lv_at hl 0 rfl) ?_
    refine g_fr X hI hf fX1_1 q461 rfl rfl dX1_worn_6 (fun v101 hf => ?_)
    refine g_fiN X hI hf fX3_6 q268 rfl rfl dX1_worn_9 (fun v102 hf => ?_)
    refine lv_icmp_ge (tgt := 36) hx hb dX1_worn_12 (by decide) (fun c12 => ?_) (fun c12 => ?_)
    · have hf := g_t c12 hf
      exact b_X1_worn_36 X _ _ _ _ _ _ _ hf hI (lv_sub hl [1] rfl)
    · have hf := g_f c12 hf
      refine lv_iload_n hx hb dX1_worn_15 rfl (lv_at hl 1 rfl) ?_
      refine lv_aload_n hx hb dX1_worn_16 rfl (lv_at hl 0 rfl) ?_
      refine g_fr X hI hf fX1_1 q461 rfl rfl dX1_worn_17 (fun v103 hf => ?_)
      refine g_frN X hI hf fX3_0 q254 rfl rfl dX1_worn_20 (fun v104 hf => ?_)
      refine lv_iload_n hx hb dX1_worn_23 rfl (lv_at hl 2 rfl) ?_
      refine g_ar4 X hI hf dX1_worn_24 (fun v105 hf => ?_)
      refine g_fiN X hI hf fX4_2 q206 rfl rfl dX1_worn_25 (fun v106 hf => ?_)
      refine lv_iadd hx hb dX1_worn_28 ?_
      refine lv_istore_n (lv' := [(1, .int (x1 + v106)), (0, .ref a0), (2, .int x2)]) hx hb dX1_worn_29 rfl hl (by decide) rfl (fun ls hl => ?_)
      refine lv_iinc (v := (x2 + (1 : Int32))) (lv' := [(2, .int (x2 + (1 : Int32))), (1, .int (x1 + v106)), (0, .ref a0)]) hx hb dX1_worn_30 hl (k := 2) rfl rfl (by decide) rfl (fun ls hl => ?_)
      refine lv_goto (tgt := 4) hx hb dX1_worn_33 (by decide) ?_
      exact ih _ _ _ _ _ _ _ _ _ hf hI (lv_sub hl [2, 1, 0] rfl)
def f_X1_worn (a0 : Nat) : gM Int32 :=
    f_X1_worn_4 gN a0 (0 : Int32) (0 : Int32)
set_option maxHeartbeats 4000000 in
set_option maxRecDepth 100000 in
theorem m_X1_worn {G : gG} {l : Launch} (hfl : l.stackTraces = false) {a0 : Nat} {h h' : g_H} {r : Int32} (hf : (f_X1_worn a0).1 h = some (r, h')) : gMet G l yX1_worn (Cond.code yX1_worn cX1_worn 3 (some .int)) 1 20 [.ref a0] h (.inl (g_wI r)) h' := by
  refine g_head hfl ((f_X1_worn a0).2 h r h' hf) (plainFor_of_name (by decide)) (Nat.le_of_ble_eq_true rfl) (fun p e s m below meth c H locs cells slots ls X hI hl9 => ?_)
  have hl : lv_has ls 3 [(0, .ref a0)] := hl9
  have hx := X.1
  have hb := X.2.1
  have hown := X.2.2.2.1
  have hts := X.2.2.2.2.1
  unfold f_X1_worn at hf
  refine lv_iconst (v := (0 : Int32)) hx hb dX1_worn_0 (by decide) ?_
  refine lv_istore_n (lv' := [(1, .int (0 : Int32)), (0, .ref a0)]) hx hb dX1_worn_1 rfl hl (by decide) rfl (fun ls hl => ?_)
  refine lv_iconst (v := (0 : Int32)) hx hb dX1_worn_2 (by decide) ?_
  refine lv_istore_n (lv' := [(2, .int (0 : Int32)), (1, .int (0 : Int32)), (0, .ref a0)]) hx hb dX1_worn_3 rfl hl (by decide) rfl (fun ls hl => ?_)
  exact b_X1_worn_4 X gN _ _ _ _ _ _ _ _ _ hf hI (lv_sub hl [2, 1, 0] rfl)
/-! X3_those -/
abbrev w_X3_those_33 (G : gG) (l : Launch) (p : Program) (e : Env) (s : State) (m : MethodId) (args : Array Value) (below : List Frame) (meth : Method) (c : Code) (h0 : g_H) (r : Int32) (h' : g_H) (k : Nat → Int32 → Int32 → Int32 → Int32 → gM Int32) : Prop := ∀ (a0 : Nat) (x1 : Int32) (x3 : Int32) (u0 : Int32) (u1 : Int32) (h : g_H) (H : Heap) (locs : List Loc) (cells slots : Nat) (ls : Array Slot), (k a0 x1 x3 u0 u1).1 h = some (r, h') → gI G h0 h H locs cells slots → lv_has ls 4 [(0, .ref a0), (1, .int x1), (3, .int x3)] → W p l e (g_rm 1 20 h0 h') s m args below meth c H locs cells slots (gQ G below args s h0 h' (.inl (g_wI r))) (F0 m 33 ls [.int u1, .int u0])
abbrev w_X3_those_41 (G : gG) (l : Launch) (p : Program) (e : Env) (s : State) (m : MethodId) (args : Array Value) (below : List Frame) (meth : Method) (c : Code) (h0 : g_H) (r : Int32) (h' : g_H) (k : Int32 → gM Int32) : Prop := ∀ (x2 : Int32) (h : g_H) (H : Heap) (locs : List Loc) (cells slots : Nat) (ls : Array Slot), (k x2).1 h = some (r, h') → gI G h0 h H locs cells slots → lv_has ls 4 [(2, .int x2)] → W p l e (g_rm 1 20 h0 h') s m args below meth c H locs cells slots (gQ G below args s h0 h' (.inl (g_wI r))) (F0 m 41 ls [])
abbrev w_X3_those_4 (G : gG) (l : Launch) (p : Program) (e : Env) (s : State) (m : MethodId) (args : Array Value) (below : List Frame) (meth : Method) (c : Code) (h0 : g_H) (r : Int32) (h' : g_H) (k : Nat → Int32 → Int32 → Int32 → gM Int32) : Prop := ∀ (a0 : Nat) (x1 : Int32) (x2 : Int32) (x3 : Int32) (h : g_H) (H : Heap) (locs : List Loc) (cells slots : Nat) (ls : Array Slot), (k a0 x1 x2 x3).1 h = some (r, h') → gI G h0 h H locs cells slots → lv_has ls 4 [(0, .ref a0), (1, .int x1), (2, .int x2), (3, .int x3)] → W p l e (g_rm 1 20 h0 h') s m args below meth c H locs cells slots (gQ G below args s h0 h' (.inl (g_wI r))) (F0 m 4 ls [])
def f_X3_those_33 (k4 : Nat → Int32 → Int32 → Int32 → gM Int32) (a0 : Nat) (x1 : Int32) (x3 : Int32) (u0 : Int32) (u1 : Int32) : gM Int32 :=
    k4 a0 x1 (u0 ||| u1) (x3 + (1 : Int32))
set_option maxHeartbeats 4000000 in
set_option maxRecDepth 100000 in
theorem b_X3_those_33 {G : gG} {l : Launch} {p : Program} {e : Env} {s : State} {m : MethodId} {args : Array Value} {below : List Frame} {meth : Method} {c : Code} {h0 : g_H} {r : Int32} {h' : g_H} (X : gX G l yX3_those.cls cX3_those 4 (some .int) [] yX3_those.name p s m args meth c) {k4 : Nat → Int32 → Int32 → Int32 → gM Int32} (K4 : w_X3_those_4 G l p e s m args below meth c h0 r h' k4) : w_X3_those_33 G l p e s m args below meth c h0 r h' (f_X3_those_33 k4) := by
  have hx := X.1
  have hb := X.2.1
  have hown := X.2.2.2.1
  have hts := X.2.2.2.2.1
  intro a0 x1 x3 u0 u1 h H locs cells slots ls hf hI hl
  unfold f_X3_those_33 at hf
  refine lv_ior hx hb dX3_those_33 ?_
  refine lv_istore_n (lv' := [(2, .int (u0 ||| u1)), (0, .ref a0), (1, .int x1), (3, .int x3)]) hx hb dX3_those_34 rfl hl (by decide) rfl (fun ls hl => ?_)
  refine lv_iinc (v := (x3 + (1 : Int32))) (lv' := [(3, .int (x3 + (1 : Int32))), (2, .int (u0 ||| u1)), (0, .ref a0), (1, .int x1)]) hx hb dX3_those_35 hl (k := 3) rfl rfl (by decide) rfl (fun ls hl => ?_)
  refine lv_goto (tgt := 4) hx hb dX3_those_38 (by decide) ?_
  exact K4 _ _ _ _ _ _ _ _ _ _ hf hI (lv_sub hl [2, 3, 1, 0] rfl)
def f_X3_those_41 (x2 : Int32) : gM Int32 :=
    (gRet x2)
set_option maxHeartbeats 4000000 in
set_option maxRecDepth 100000 in
theorem b_X3_those_41 {G : gG} {l : Launch} {p : Program} {e : Env} {s : State} {m : MethodId} {args : Array Value} {below : List Frame} {meth : Method} {c : Code} {h0 : g_H} {r : Int32} {h' : g_H} (X : gX G l yX3_those.cls cX3_those 4 (some .int) [] yX3_those.name p s m args meth c) : w_X3_those_41 G l p e s m args below meth c h0 r h' (f_X3_those_41) := by
  have hx := X.1
  have hb := X.2.1
  have hown := X.2.2.2.1
  have hts := X.2.2.2.2.1
  intro x2 h H locs cells slots ls hf hI hl
  unfold f_X3_those_41 at hf
  refine lv_iload_n hx hb dX3_those_41 rfl (lv_at hl 0 rfl) ?_
  cases gRet_e hf
  exact g_retI X hI rfl dX3_those_42
def f_X3_those_4 : Nat → Nat → Int32 → Int32 → Int32 → gM Int32
  | 0, _, _, _, _ => gFail
  | n + 1, a0, x1, x2, x3 =>
    gB (gFI a0 2 7) fun v101 =>
    gIf (v101 ≤ x3)
    (f_X3_those_41 x2)
    (gB (gFR a0 2 1) fun v102 =>
    gB (gAR v102 5 x3) fun v103 =>
    gB (gFI v103 4 3) fun v104 =>
    gIf (v104 = x1)
    (f_X3_those_33 (f_X3_those_4 n) a0 x1 x3 x2 ((1 : Int32) <<< (x3 &&& 31)))
    (f_X3_those_33 (f_X3_those_4 n) a0 x1 x3 x2 (0 : Int32)))
set_option maxHeartbeats 4000000 in
set_option maxRecDepth 100000 in
theorem b_X3_those_4 {G : gG} {l : Launch} {p : Program} {e : Env} {s : State} {m : MethodId} {args : Array Value} {below : List Frame} {meth : Method} {c : Code} {h0 : g_H} {r : Int32} {h' : g_H} (X : gX G l yX3_those.cls cX3_those 4 (some .int) [] yX3_those.name p s m args meth c) : ∀ n : Nat, w_X3_those_4 G l p e s m args below meth c h0 r h' (f_X3_those_4 n) := by
  have hx := X.1
  have hb := X.2.1
  have hown := X.2.2.2.1
  have hts := X.2.2.2.2.1
  intro n
  induction n with
  | zero =>
    intro a0 x1 x2 x3 h H locs cells slots ls hf hI hl
    exact (gFail_f hf).elim
  | succ n ih =>
    intro a0 x1 x2 x3 h H locs cells slots ls hf hI hl
    rw [f_X3_those_4] at hf
    refine lv_iload_n hx hb dX3_those_4 rfl (lv_at hl 3 rfl) ?_
    refine lv_aload_n hx hb dX3_those_5 rfl (lv_at hl 0 rfl) ?_
    refine g_fi X hI hf fX3_7 q270 rfl rfl dX3_those_6 (fun v101 hf => ?_)
    refine lv_icmp_ge (tgt := 41) hx hb dX3_those_9 (by decide) (fun c9 => ?_) (fun c9 => ?_)
    · have hf := g_t c9 hf
      exact b_X3_those_41 X _ _ _ _ _ _ _ hf hI (lv_sub hl [2] rfl)
    · have hf := g_f c9 hf
      refine lv_iload_n hx hb dX3_those_12 rfl (lv_at hl 2 rfl) ?_
      refine lv_aload_n hx hb dX3_those_13 rfl (lv_at hl 0 rfl) ?_
      refine g_fr X hI hf fX3_1 q256 rfl rfl dX3_those_14 (fun v102 hf => ?_)
      refine lv_iload_n hx hb dX3_those_17 rfl (lv_at hl 3 rfl) ?_
      refine g_ar5 X hI hf dX3_those_18 (fun v103 hf => ?_)
      refine g_fiN X hI hf fX5_3 q241 rfl rfl dX3_those_19 (fun v104 hf => ?_)
      refine lv_iload_n hx hb dX3_those_22 rfl (lv_at hl 1 rfl) ?_
      refine lv_icmp_ne (tgt := 32) hx hb dX3_those_23 (by decide) (fun c23 => ?_) (fun c23 => ?_)
      · have hf := g_f c23 hf
        refine lv_iconst (v := (0 : Int32)) hx hb dX3_those_32 (by decide) ?_
        exact b_X3_those_33 X ih _ _ _ _ _ _ _ _ _ _ _ hf hI (lv_sub hl [0, 1, 3] rfl)
      · have hf := g_t c23 hf
        refine lv_iconst (v := (1 : Int32)) hx hb dX3_those_26 (by decide) ?_
        refine lv_iload_n hx hb dX3_those_27 rfl (lv_at hl 3 rfl) ?_
        refine lv_ishl hx hb dX3_those_28 ?_
        refine lv_goto (tgt := 33) hx hb dX3_those_29 (by decide) ?_
        exact b_X3_those_33 X ih _ _ _ _ _ _ _ _ _ _ _ hf hI (lv_sub hl [0, 1, 3] rfl)
def f_X3_those (a0 : Nat) (x1 : Int32) : gM Int32 :=
    f_X3_those_4 gN a0 x1 (0 : Int32) (0 : Int32)
set_option maxHeartbeats 4000000 in
set_option maxRecDepth 100000 in
theorem m_X3_those {G : gG} {l : Launch} (hfl : l.stackTraces = false) {a0 : Nat} {x1 : Int32} {h h' : g_H} {r : Int32} (hf : (f_X3_those a0 x1).1 h = some (r, h')) : gMet G l yX3_those (Cond.code yX3_those cX3_those 4 (some .int)) 1 20 [.ref a0, .int x1] h (.inl (g_wI r)) h' := by
  refine g_head hfl ((f_X3_those a0 x1).2 h r h' hf) (plainFor_of_name (by decide)) (Nat.le_of_ble_eq_true rfl) (fun p e s m below meth c H locs cells slots ls X hI hl9 => ?_)
  have hl : lv_has ls 4 [(0, .ref a0), (1, .int x1)] := hl9
  have hx := X.1
  have hb := X.2.1
  have hown := X.2.2.2.1
  have hts := X.2.2.2.2.1
  unfold f_X3_those at hf
  refine lv_iconst (v := (0 : Int32)) hx hb dX3_those_0 (by decide) ?_
  refine lv_istore_n (lv' := [(2, .int (0 : Int32)), (0, .ref a0), (1, .int x1)]) hx hb dX3_those_1 rfl hl (by decide) rfl (fun ls hl => ?_)
  refine lv_iconst (v := (0 : Int32)) hx hb dX3_those_2 (by decide) ?_
  refine lv_istore_n (lv' := [(3, .int (0 : Int32)), (2, .int (0 : Int32)), (0, .ref a0), (1, .int x1)]) hx hb dX3_those_3 rfl hl (by decide) rfl (fun ls hl => ?_)
  exact b_X3_those_4 X gN _ _ _ _ _ _ _ _ _ _ hf hI (lv_sub hl [2, 3, 1, 0] rfl)
/-! X1_full -/
abbrev w_X1_full_31 (G : gG) (l : Launch) (p : Program) (e : Env) (s : State) (m : MethodId) (args : Array Value) (below : List Frame) (meth : Method) (c : Code) (h0 : g_H) (r : Int32) (h' : g_H) (k : Nat → Int32 → Int32 → Int32 → gM Int32) : Prop := ∀ (a0 : Nat) (x2 : Int32) (u0 : Int32) (u1 : Int32) (h : g_H) (H : Heap) (locs : List Loc) (cells slots : Nat) (ls : Array Slot), (k a0 x2 u0 u1).1 h = some (r, h') → gI G h0 h H locs cells slots → lv_has ls 3 [(0, .ref a0), (2, .int x2)] → W p l e (g_rm 1 20 h0 h') s m args below meth c H locs cells slots (gQ G below args s h0 h' (.inl (g_wI r))) (F0 m 31 ls [.int u1, .int u0])
abbrev w_X1_full_39 (G : gG) (l : Launch) (p : Program) (e : Env) (s : State) (m : MethodId) (args : Array Value) (below : List Frame) (meth : Method) (c : Code) (h0 : g_H) (r : Int32) (h' : g_H) (k : Int32 → gM Int32) : Prop := ∀ (x1 : Int32) (h : g_H) (H : Heap) (locs : List Loc) (cells slots : Nat) (ls : Array Slot), (k x1).1 h = some (r, h') → gI G h0 h H locs cells slots → lv_has ls 3 [(1, .int x1)] → W p l e (g_rm 1 20 h0 h') s m args below meth c H locs cells slots (gQ G below args s h0 h' (.inl (g_wI r))) (F0 m 39 ls [])
abbrev w_X1_full_4 (G : gG) (l : Launch) (p : Program) (e : Env) (s : State) (m : MethodId) (args : Array Value) (below : List Frame) (meth : Method) (c : Code) (h0 : g_H) (r : Int32) (h' : g_H) (k : Nat → Int32 → Int32 → gM Int32) : Prop := ∀ (a0 : Nat) (x1 : Int32) (x2 : Int32) (h : g_H) (H : Heap) (locs : List Loc) (cells slots : Nat) (ls : Array Slot), (k a0 x1 x2).1 h = some (r, h') → gI G h0 h H locs cells slots → lv_has ls 3 [(0, .ref a0), (1, .int x1), (2, .int x2)] → W p l e (g_rm 1 20 h0 h') s m args below meth c H locs cells slots (gQ G below args s h0 h' (.inl (g_wI r))) (F0 m 4 ls [])
def f_X1_full_31 (k4 : Nat → Int32 → Int32 → gM Int32) (a0 : Nat) (x2 : Int32) (u0 : Int32) (u1 : Int32) : gM Int32 :=
    k4 a0 (u0 ||| u1) (x2 + (1 : Int32))
set_option maxHeartbeats 4000000 in
set_option maxRecDepth 100000 in
theorem b_X1_full_31 {G : gG} {l : Launch} {p : Program} {e : Env} {s : State} {m : MethodId} {args : Array Value} {below : List Frame} {meth : Method} {c : Code} {h0 : g_H} {r : Int32} {h' : g_H} (X : gX G l yX1_full.cls cX1_full 3 (some .int) [] yX1_full.name p s m args meth c) {k4 : Nat → Int32 → Int32 → gM Int32} (K4 : w_X1_full_4 G l p e s m args below meth c h0 r h' k4) : w_X1_full_31 G l p e s m args below meth c h0 r h' (f_X1_full_31 k4) := by
  have hx := X.1
  have hb := X.2.1
  have hown := X.2.2.2.1
  have hts := X.2.2.2.2.1
  intro a0 x2 u0 u1 h H locs cells slots ls hf hI hl
  unfold f_X1_full_31 at hf
  refine lv_ior hx hb dX1_full_31 ?_
  refine lv_istore_n (lv' := [(1, .int (u0 ||| u1)), (0, .ref a0), (2, .int x2)]) hx hb dX1_full_32 rfl hl (by decide) rfl (fun ls hl => ?_)
  refine lv_iinc (v := (x2 + (1 : Int32))) (lv' := [(2, .int (x2 + (1 : Int32))), (1, .int (u0 ||| u1)), (0, .ref a0)]) hx hb dX1_full_33 hl (k := 2) rfl rfl (by decide) rfl (fun ls hl => ?_)
  refine lv_goto (tgt := 4) hx hb dX1_full_36 (by decide) ?_
  exact K4 _ _ _ _ _ _ _ _ _ hf hI (lv_sub hl [2, 1, 0] rfl)
def f_X1_full_39 (x1 : Int32) : gM Int32 :=
    (gRet x1)
set_option maxHeartbeats 4000000 in
set_option maxRecDepth 100000 in
theorem b_X1_full_39 {G : gG} {l : Launch} {p : Program} {e : Env} {s : State} {m : MethodId} {args : Array Value} {below : List Frame} {meth : Method} {c : Code} {h0 : g_H} {r : Int32} {h' : g_H} (X : gX G l yX1_full.cls cX1_full 3 (some .int) [] yX1_full.name p s m args meth c) : w_X1_full_39 G l p e s m args below meth c h0 r h' (f_X1_full_39) := by
  have hx := X.1
  have hb := X.2.1
  have hown := X.2.2.2.1
  have hts := X.2.2.2.2.1
  intro x1 h H locs cells slots ls hf hI hl
  unfold f_X1_full_39 at hf
  refine lv_iload_n hx hb dX1_full_39 rfl (lv_at hl 0 rfl) ?_
  cases gRet_e hf
  exact g_retI X hI rfl dX1_full_40
def f_X1_full_4 : Nat → Nat → Int32 → Int32 → gM Int32
  | 0, _, _, _ => gFail
  | n + 1, a0, x1, x2 =>
    gIf ((10 : Int32) ≤ x2)
    (f_X1_full_39 x1)
    (gB (gFR a0 0 1) fun v101 =>
    gB (gFR v101 2 3) fun v102 =>
    gB (gAI v102 0 x2) fun v103 =>
    gIf (v103 = (-1 : Int32))
    (f_X1_full_31 (f_X1_full_4 n) a0 x2 x1 (0 : Int32))
    (f_X1_full_31 (f_X1_full_4 n) a0 x2 x1 ((1 : Int32) <<< (x2 &&& 31))))
set_option maxHeartbeats 4000000 in
set_option maxRecDepth 100000 in
theorem b_X1_full_4 {G : gG} {l : Launch} {p : Program} {e : Env} {s : State} {m : MethodId} {args : Array Value} {below : List Frame} {meth : Method} {c : Code} {h0 : g_H} {r : Int32} {h' : g_H} (X : gX G l yX1_full.cls cX1_full 3 (some .int) [] yX1_full.name p s m args meth c) : ∀ n : Nat, w_X1_full_4 G l p e s m args below meth c h0 r h' (f_X1_full_4 n) := by
  have hx := X.1
  have hb := X.2.1
  have hown := X.2.2.2.1
  have hts := X.2.2.2.2.1
  intro n
  induction n with
  | zero =>
    intro a0 x1 x2 h H locs cells slots ls hf hI hl
    exact (gFail_f hf).elim
  | succ n ih =>
    intro a0 x1 x2 h H locs cells slots ls hf hI hl
    rw [f_X1_full_4] at hf
    refine lv_iload_n hx hb dX1_full_4 rfl (lv_at hl 2 rfl) ?_
    refine lv_bipush (v := (10 : Int32)) hx hb dX1_full_5 (by decide) ?_
    refine lv_icmp_ge (tgt := 39) hx hb dX1_full_7 (by decide) (fun c7 => ?_) (fun c7 => ?_)
    · have hf := g_t c7 hf
      exact b_X1_full_39 X _ _ _ _ _ _ _ hf hI (lv_sub hl [1] rfl)
    · have hf := g_f c7 hf
      refine lv_iload_n hx hb dX1_full_10 rfl (lv_at hl 1 rfl) ?_
      refine lv_aload_n hx hb dX1_full_11 rfl (lv_at hl 0 rfl) ?_
      refine g_fr X hI hf fX1_1 q461 rfl rfl dX1_full_12 (fun v101 hf => ?_)
      refine g_frN X hI hf fX3_3 q264 rfl rfl dX1_full_15 (fun v102 hf => ?_)
      refine lv_iload_n hx hb dX1_full_18 rfl (lv_at hl 2 rfl) ?_
      refine g_ai0 X hI hf dX1_full_19 (fun v103 hf => ?_)
      refine lv_iconst (v := (-1 : Int32)) hx hb dX1_full_20 (by decide) ?_
      refine lv_icmp_eq (tgt := 30) hx hb dX1_full_21 (by decide) (fun c21 => ?_) (fun c21 => ?_)
      · have hf := g_t c21 hf
        refine lv_iconst (v := (0 : Int32)) hx hb dX1_full_30 (by decide) ?_
        exact b_X1_full_31 X ih _ _ _ _ _ _ _ _ _ _ hf hI (lv_sub hl [0, 2] rfl)
      · have hf := g_f c21 hf
        refine lv_iconst (v := (1 : Int32)) hx hb dX1_full_24 (by decide) ?_
        refine lv_iload_n hx hb dX1_full_25 rfl (lv_at hl 2 rfl) ?_
        refine lv_ishl hx hb dX1_full_26 ?_
        refine lv_goto (tgt := 31) hx hb dX1_full_27 (by decide) ?_
        exact b_X1_full_31 X ih _ _ _ _ _ _ _ _ _ _ hf hI (lv_sub hl [0, 2] rfl)
def f_X1_full (a0 : Nat) : gM Int32 :=
    f_X1_full_4 gN a0 (0 : Int32) (0 : Int32)
set_option maxHeartbeats 4000000 in
set_option maxRecDepth 100000 in
theorem m_X1_full {G : gG} {l : Launch} (hfl : l.stackTraces = false) {a0 : Nat} {h h' : g_H} {r : Int32} (hf : (f_X1_full a0).1 h = some (r, h')) : gMet G l yX1_full (Cond.code yX1_full cX1_full 3 (some .int)) 1 20 [.ref a0] h (.inl (g_wI r)) h' := by
  refine g_head hfl ((f_X1_full a0).2 h r h' hf) (plainFor_of_name (by decide)) (Nat.le_of_ble_eq_true rfl) (fun p e s m below meth c H locs cells slots ls X hI hl9 => ?_)
  have hl : lv_has ls 3 [(0, .ref a0)] := hl9
  have hx := X.1
  have hb := X.2.1
  have hown := X.2.2.2.1
  have hts := X.2.2.2.2.1
  unfold f_X1_full at hf
  refine lv_iconst (v := (0 : Int32)) hx hb dX1_full_0 (by decide) ?_
  refine lv_istore_n (lv' := [(1, .int (0 : Int32)), (0, .ref a0)]) hx hb dX1_full_1 rfl hl (by decide) rfl (fun ls hl => ?_)
  refine lv_iconst (v := (0 : Int32)) hx hb dX1_full_2 (by decide) ?_
  refine lv_istore_n (lv' := [(2, .int (0 : Int32)), (1, .int (0 : Int32)), (0, .ref a0)]) hx hb dX1_full_3 rfl hl (by decide) rfl (fun ls hl => ?_)
  exact b_X1_full_4 X gN _ _ _ _ _ _ _ _ _ hf hI (lv_sub hl [2, 1, 0] rfl)
/-! X1_count -/
def f_X1_count (a0 : Nat) (x1 : Int32) : gM Int32 :=
    gIf (x1 = (0 : Int32))
    (gB (gFR a0 0 1) fun v1 =>
    gB (gFI v1 2 6) fun v2 =>
    (gRet v2))
    (gIf (x1 = (1 : Int32))
    (gB (gFR a0 0 1) fun v3 =>
    gB (gFI v3 2 7) fun v4 =>
    (gRet v4))
    (gIf (x1 = (2 : Int32))
    (gB (gFR a0 0 1) fun v5 =>
    gB (gFI v5 2 9) fun v6 =>
    (gRet v6))
    (gIf (x1 = (3 : Int32))
    (gB (gFR a0 0 1) fun v7 =>
    gB (gFI v7 2 8) fun v8 =>
    (gRet v8))
    (gIf (x1 = (4 : Int32))
    (gB (gFR a0 0 1) fun v9 =>
    gB (gFI v9 2 10) fun v10 =>
    (gRet v10))
    (gIf (x1 = (5 : Int32))
    (gB (gFR a0 0 1) fun v11 =>
    gB (gFI v11 2 11) fun v12 =>
    (gRet v12))
    (gIf (x1 = (6 : Int32))
    (gB (gFR a0 0 1) fun v13 =>
    gB (gFI v13 2 12) fun v14 =>
    (gRet v14))
    (gIf (x1 = (7 : Int32))
    (gB (gCk a0 0) fun _ =>
    gB (f_X1_full a0) fun r15 =>
    (gRet r15))
    (gIf (x1 = (8 : Int32))
    (gB (gFR a0 0 1) fun v16 =>
    gB (gCk v16 2) fun _ =>
    gB (f_X3_those v16 (0 : Int32)) fun r17 =>
    (gRet r17))
    (gIf (x1 = (9 : Int32))
    (gB (gFR a0 0 1) fun v18 =>
    gB (gCk v18 2) fun _ =>
    gB (f_X3_those v18 (1 : Int32)) fun r19 =>
    (gRet r19))
    (gIf (x1 = (10 : Int32))
    (gB (gFR a0 0 1) fun v20 =>
    gB (gCk v20 2) fun _ =>
    gB (f_X3_those v20 (2 : Int32)) fun r21 =>
    (gRet r21))
    (gIf (x1 = (11 : Int32))
    (gB (gFR a0 0 1) fun v22 =>
    gB (gCk v22 2) fun _ =>
    gB (f_X3_those v22 (3 : Int32)) fun r23 =>
    (gRet r23))
    (gIf (x1 = (12 : Int32))
    (gB (gCk a0 0) fun _ =>
    gB (f_X1_worn a0) fun r24 =>
    (gRet r24))
    (gIf (x1 = (13 : Int32))
    (gB (gFR a0 0 1) fun v25 =>
    gB (gFI v25 2 14) fun v26 =>
    gB (f_J13_min (60 : Int32) v26) fun r27 =>
    (gRet r27))
    (gIf (x1 = (14 : Int32))
    (gB (gFI a0 0 12) fun v28 =>
    (gRet v28))
    ((gRet (-1 : Int32)))))))))))))))))
set_option maxHeartbeats 4000000 in
set_option maxRecDepth 100000 in
theorem m_X1_count {G : gG} {l : Launch} (hfl : l.stackTraces = false) {a0 : Nat} {x1 : Int32} {h h' : g_H} {r : Int32} (hf : (f_X1_count a0 x1).1 h = some (r, h')) : gMet G l yX1_count (Cond.code yX1_count cX1_count 2 (some .int)) 2 43 [.ref a0, .int x1] h (.inl (g_wI r)) h' := by
  refine g_head hfl ((f_X1_count a0 x1).2 h r h' hf) (plainFor_of_name (by decide)) (Nat.le_of_ble_eq_true rfl) (fun p e s m below meth c H locs cells slots ls X hI hl9 => ?_)
  have hl : lv_has ls 2 [(0, .ref a0), (1, .int x1)] := hl9
  have hx := X.1
  have hb := X.2.1
  have hown := X.2.2.2.1
  have hts := X.2.2.2.2.1
  unfold f_X1_count at hf
  refine lv_iload_n hx hb dX1_count_0 rfl (lv_at hl 1 rfl) ?_
  by_cases c1_0 : x1 = (0 : Int32)
  · have hf := g_t c1_0 hf
    refine g_tsIn (k := (0 : Int32)) (off := 75) (tgt := 76) hx hb c1_0 dX1_count_1 (by decide) (by decide) rfl (by decide) ?_
    refine lv_aload_n hx hb dX1_count_76 rfl (lv_at hl 0 rfl) ?_
    refine g_fr X hI hf fX1_1 q461 rfl rfl dX1_count_77 (fun v1 hf => ?_)
    refine g_fiN X hI hf fX3_6 q268 rfl rfl dX1_count_80 (fun v2 hf => ?_)
    cases gRet_e hf
    exact g_retI X hI rfl dX1_count_83
  have hf := g_f c1_0 hf
  by_cases c1_1 : x1 = (1 : Int32)
  · have hf := g_t c1_1 hf
    refine g_tsIn (k := (1 : Int32)) (off := 83) (tgt := 84) hx hb c1_1 dX1_count_1 (by decide) (by decide) rfl (by decide) ?_
    refine lv_aload_n hx hb dX1_count_84 rfl (lv_at hl 0 rfl) ?_
    refine g_fr X hI hf fX1_1 q461 rfl rfl dX1_count_85 (fun v3 hf => ?_)
    refine g_fiN X hI hf fX3_7 q271 rfl rfl dX1_count_88 (fun v4 hf => ?_)
    cases gRet_e hf
    exact g_retI X hI rfl dX1_count_91
  have hf := g_f c1_1 hf
  by_cases c1_2 : x1 = (2 : Int32)
  · have hf := g_t c1_2 hf
    refine g_tsIn (k := (2 : Int32)) (off := 91) (tgt := 92) hx hb c1_2 dX1_count_1 (by decide) (by decide) rfl (by decide) ?_
    refine lv_aload_n hx hb dX1_count_92 rfl (lv_at hl 0 rfl) ?_
    refine g_fr X hI hf fX1_1 q461 rfl rfl dX1_count_93 (fun v5 hf => ?_)
    refine g_fiN X hI hf fX3_9 q276 rfl rfl dX1_count_96 (fun v6 hf => ?_)
    cases gRet_e hf
    exact g_retI X hI rfl dX1_count_99
  have hf := g_f c1_2 hf
  by_cases c1_3 : x1 = (3 : Int32)
  · have hf := g_t c1_3 hf
    refine g_tsIn (k := (3 : Int32)) (off := 99) (tgt := 100) hx hb c1_3 dX1_count_1 (by decide) (by decide) rfl (by decide) ?_
    refine lv_aload_n hx hb dX1_count_100 rfl (lv_at hl 0 rfl) ?_
    refine g_fr X hI hf fX1_1 q461 rfl rfl dX1_count_101 (fun v7 hf => ?_)
    refine g_fiN X hI hf fX3_8 q274 rfl rfl dX1_count_104 (fun v8 hf => ?_)
    cases gRet_e hf
    exact g_retI X hI rfl dX1_count_107
  have hf := g_f c1_3 hf
  by_cases c1_4 : x1 = (4 : Int32)
  · have hf := g_t c1_4 hf
    refine g_tsIn (k := (4 : Int32)) (off := 107) (tgt := 108) hx hb c1_4 dX1_count_1 (by decide) (by decide) rfl (by decide) ?_
    refine lv_aload_n hx hb dX1_count_108 rfl (lv_at hl 0 rfl) ?_
    refine g_fr X hI hf fX1_1 q461 rfl rfl dX1_count_109 (fun v9 hf => ?_)
    refine g_fiN X hI hf fX3_10 q279 rfl rfl dX1_count_112 (fun v10 hf => ?_)
    cases gRet_e hf
    exact g_retI X hI rfl dX1_count_115
  have hf := g_f c1_4 hf
  by_cases c1_5 : x1 = (5 : Int32)
  · have hf := g_t c1_5 hf
    refine g_tsIn (k := (5 : Int32)) (off := 115) (tgt := 116) hx hb c1_5 dX1_count_1 (by decide) (by decide) rfl (by decide) ?_
    refine lv_aload_n hx hb dX1_count_116 rfl (lv_at hl 0 rfl) ?_
    refine g_fr X hI hf fX1_1 q461 rfl rfl dX1_count_117 (fun v11 hf => ?_)
    refine g_fiN X hI hf fX3_11 q282 rfl rfl dX1_count_120 (fun v12 hf => ?_)
    cases gRet_e hf
    exact g_retI X hI rfl dX1_count_123
  have hf := g_f c1_5 hf
  by_cases c1_6 : x1 = (6 : Int32)
  · have hf := g_t c1_6 hf
    refine g_tsIn (k := (6 : Int32)) (off := 123) (tgt := 124) hx hb c1_6 dX1_count_1 (by decide) (by decide) rfl (by decide) ?_
    refine lv_aload_n hx hb dX1_count_124 rfl (lv_at hl 0 rfl) ?_
    refine g_fr X hI hf fX1_1 q461 rfl rfl dX1_count_125 (fun v13 hf => ?_)
    refine g_fiN X hI hf fX3_12 q285 rfl rfl dX1_count_128 (fun v14 hf => ?_)
    cases gRet_e hf
    exact g_retI X hI rfl dX1_count_131
  have hf := g_f c1_6 hf
  by_cases c1_7 : x1 = (7 : Int32)
  · have hf := g_t c1_7 hf
    refine g_tsIn (k := (7 : Int32)) (off := 131) (tgt := 132) hx hb c1_7 dX1_count_1 (by decide) (by decide) rfl (by decide) ?_
    refine lv_aload_n hx hb dX1_count_132 rfl (lv_at hl 0 rfl) ?_
    obtain ⟨hs, hf⟩ := gCk_b hf
    refine g_cBI hI hf (fun v9 h9 e9 l9 l9' => g_rV X hI l9 l9' ⟨Nat.le_refl _, Nat.le_refl _⟩ (As := []) (m_X1_full X.2.2.2.2.2.2.2.2.2.2.1 e9) ydX1_full hs rfl rfl q770 q772 qs13 q121 q773 rfl (Nat.le_of_ble_eq_true rfl) (Nat.le_of_ble_eq_true rfl) hl.1 rfl (Nat.le_of_ble_eq_true rfl) dX1_count_133) (fun r15 h H locs cells slots hf hI => ?_)
    cases gRet_e hf
    exact g_retI X hI rfl dX1_count_136
  have hf := g_f c1_7 hf
  by_cases c1_8 : x1 = (8 : Int32)
  · have hf := g_t c1_8 hf
    refine g_tsIn (k := (8 : Int32)) (off := 136) (tgt := 137) hx hb c1_8 dX1_count_1 (by decide) (by decide) rfl (by decide) ?_
    refine lv_aload_n hx hb dX1_count_137 rfl (lv_at hl 0 rfl) ?_
    refine g_fr X hI hf fX1_1 q461 rfl rfl dX1_count_138 (fun v16 hf => ?_)
    refine lv_iconst (v := (0 : Int32)) hx hb dX1_count_141 (by decide) ?_
    obtain ⟨hs, hf⟩ := gCk_b hf
    refine g_cBI hI hf (fun v9 h9 e9 l9 l9' => g_rV X hI l9 l9' ⟨Nat.le_refl _, Nat.le_refl _⟩ (As := [.int (0 : Int32)]) (m_X3_those X.2.2.2.2.2.2.2.2.2.2.1 e9) ydX3_those hs rfl rfl q774 q775 q776 q123 q777 rfl (Nat.le_of_ble_eq_true rfl) (Nat.le_of_ble_eq_true rfl) hl.1 rfl (Nat.le_of_ble_eq_true rfl) dX1_count_142) (fun r17 h H locs cells slots hf hI => ?_)
    cases gRet_e hf
    exact g_retI X hI rfl dX1_count_145
  have hf := g_f c1_8 hf
  by_cases c1_9 : x1 = (9 : Int32)
  · have hf := g_t c1_9 hf
    refine g_tsIn (k := (9 : Int32)) (off := 145) (tgt := 146) hx hb c1_9 dX1_count_1 (by decide) (by decide) rfl (by decide) ?_
    refine lv_aload_n hx hb dX1_count_146 rfl (lv_at hl 0 rfl) ?_
    refine g_fr X hI hf fX1_1 q461 rfl rfl dX1_count_147 (fun v18 hf => ?_)
    refine lv_iconst (v := (1 : Int32)) hx hb dX1_count_150 (by decide) ?_
    obtain ⟨hs, hf⟩ := gCk_b hf
    refine g_cBI hI hf (fun v9 h9 e9 l9 l9' => g_rV X hI l9 l9' ⟨Nat.le_refl _, Nat.le_refl _⟩ (As := [.int (1 : Int32)]) (m_X3_those X.2.2.2.2.2.2.2.2.2.2.1 e9) ydX3_those hs rfl rfl q774 q775 q776 q123 q777 rfl (Nat.le_of_ble_eq_true rfl) (Nat.le_of_ble_eq_true rfl) hl.1 rfl (Nat.le_of_ble_eq_true rfl) dX1_count_151) (fun r19 h H locs cells slots hf hI => ?_)
    cases gRet_e hf
    exact g_retI X hI rfl dX1_count_154
  have hf := g_f c1_9 hf
  by_cases c1_10 : x1 = (10 : Int32)
  · have hf := g_t c1_10 hf
    refine g_tsIn (k := (10 : Int32)) (off := 154) (tgt := 155) hx hb c1_10 dX1_count_1 (by decide) (by decide) rfl (by decide) ?_
    refine lv_aload_n hx hb dX1_count_155 rfl (lv_at hl 0 rfl) ?_
    refine g_fr X hI hf fX1_1 q461 rfl rfl dX1_count_156 (fun v20 hf => ?_)
    refine lv_iconst (v := (2 : Int32)) hx hb dX1_count_159 (by decide) ?_
    obtain ⟨hs, hf⟩ := gCk_b hf
    refine g_cBI hI hf (fun v9 h9 e9 l9 l9' => g_rV X hI l9 l9' ⟨Nat.le_refl _, Nat.le_refl _⟩ (As := [.int (2 : Int32)]) (m_X3_those X.2.2.2.2.2.2.2.2.2.2.1 e9) ydX3_those hs rfl rfl q774 q775 q776 q123 q777 rfl (Nat.le_of_ble_eq_true rfl) (Nat.le_of_ble_eq_true rfl) hl.1 rfl (Nat.le_of_ble_eq_true rfl) dX1_count_160) (fun r21 h H locs cells slots hf hI => ?_)
    cases gRet_e hf
    exact g_retI X hI rfl dX1_count_163
  have hf := g_f c1_10 hf
  by_cases c1_11 : x1 = (11 : Int32)
  · have hf := g_t c1_11 hf
    refine g_tsIn (k := (11 : Int32)) (off := 163) (tgt := 164) hx hb c1_11 dX1_count_1 (by decide) (by decide) rfl (by decide) ?_
    refine lv_aload_n hx hb dX1_count_164 rfl (lv_at hl 0 rfl) ?_
    refine g_fr X hI hf fX1_1 q461 rfl rfl dX1_count_165 (fun v22 hf => ?_)
    refine lv_iconst (v := (3 : Int32)) hx hb dX1_count_168 (by decide) ?_
    obtain ⟨hs, hf⟩ := gCk_b hf
    refine g_cBI hI hf (fun v9 h9 e9 l9 l9' => g_rV X hI l9 l9' ⟨Nat.le_refl _, Nat.le_refl _⟩ (As := [.int (3 : Int32)]) (m_X3_those X.2.2.2.2.2.2.2.2.2.2.1 e9) ydX3_those hs rfl rfl q774 q775 q776 q123 q777 rfl (Nat.le_of_ble_eq_true rfl) (Nat.le_of_ble_eq_true rfl) hl.1 rfl (Nat.le_of_ble_eq_true rfl) dX1_count_169) (fun r23 h H locs cells slots hf hI => ?_)
    cases gRet_e hf
    exact g_retI X hI rfl dX1_count_172
  have hf := g_f c1_11 hf
  by_cases c1_12 : x1 = (12 : Int32)
  · have hf := g_t c1_12 hf
    refine g_tsIn (k := (12 : Int32)) (off := 172) (tgt := 173) hx hb c1_12 dX1_count_1 (by decide) (by decide) rfl (by decide) ?_
    refine lv_aload_n hx hb dX1_count_173 rfl (lv_at hl 0 rfl) ?_
    obtain ⟨hs, hf⟩ := gCk_b hf
    refine g_cBI hI hf (fun v9 h9 e9 l9 l9' => g_rV X hI l9 l9' ⟨Nat.le_refl _, Nat.le_refl _⟩ (As := []) (m_X1_worn X.2.2.2.2.2.2.2.2.2.2.1 e9) ydX1_worn hs rfl rfl q778 q780 qs14 q121 q781 rfl (Nat.le_of_ble_eq_true rfl) (Nat.le_of_ble_eq_true rfl) hl.1 rfl (Nat.le_of_ble_eq_true rfl) dX1_count_174) (fun r24 h H locs cells slots hf hI => ?_)
    cases gRet_e hf
    exact g_retI X hI rfl dX1_count_177
  have hf := g_f c1_12 hf
  by_cases c1_13 : x1 = (13 : Int32)
  · have hf := g_t c1_13 hf
    refine g_tsIn (k := (13 : Int32)) (off := 177) (tgt := 178) hx hb c1_13 dX1_count_1 (by decide) (by decide) rfl (by decide) ?_
    refine lv_bipush (v := (60 : Int32)) hx hb dX1_count_178 (by decide) ?_
    refine lv_aload_n hx hb dX1_count_180 rfl (lv_at hl 0 rfl) ?_
    refine g_fr X hI hf fX1_1 q461 rfl rfl dX1_count_181 (fun v25 hf => ?_)
    refine g_fiN X hI hf fX3_14 q289 rfl rfl dX1_count_184 (fun v26 hf => ?_)
    refine g_cBI hI hf (fun v9 h9 e9 l9 l9' => g_rS (b := 0) X hI l9 l9' ⟨Nat.le_refl _, Nat.le_refl _⟩ (As := [.int (60 : Int32), .int v26]) (m_J13_min X.2.2.2.2.2.2.2.2.2.2.1 e9) ydJ13_min q739 q740 q151 q741 rfl (Nat.le_of_ble_eq_true rfl) (Nat.le_of_ble_eq_true rfl) hl.1 rfl (Nat.le_of_ble_eq_true rfl) dX1_count_187) (fun r27 h H locs cells slots hf hI => ?_)
    cases gRet_e hf
    exact g_retI X hI rfl dX1_count_190
  have hf := g_f c1_13 hf
  by_cases c1_14 : x1 = (14 : Int32)
  · have hf := g_t c1_14 hf
    refine g_tsIn (k := (14 : Int32)) (off := 190) (tgt := 191) hx hb c1_14 dX1_count_1 (by decide) (by decide) rfl (by decide) ?_
    refine lv_aload_n hx hb dX1_count_191 rfl (lv_at hl 0 rfl) ?_
    refine g_fi X hI hf fX1_12 q473 rfl rfl dX1_count_192 (fun v28 hf => ?_)
    cases gRet_e hf
    exact g_retI X hI rfl dX1_count_195
  have hf := g_f c1_14 hf
  refine lv_tableOut (tgt := 196) hx hb dX1_count_1 (by have := lv_neT c1_0 (a := 0) rfl; have := lv_neT c1_1 (a := 1) rfl; have := lv_neT c1_2 (a := 2) rfl; have := lv_neT c1_3 (a := 3) rfl; have := lv_neT c1_4 (a := 4) rfl; have := lv_neT c1_5 (a := 5) rfl; have := lv_neT c1_6 (a := 6) rfl; have := lv_neT c1_7 (a := 7) rfl; have := lv_neT c1_8 (a := 8) rfl; have := lv_neT c1_9 (a := 9) rfl; have := lv_neT c1_10 (a := 10) rfl; have := lv_neT c1_11 (a := 11) rfl; have := lv_neT c1_12 (a := 12) rfl; have := lv_neT c1_13 (a := 13) rfl; have := lv_neT c1_14 (a := 14) rfl; omega) (by decide) ?_
  refine lv_iconst (v := (-1 : Int32)) hx hb dX1_count_196 (by decide) ?_
  cases gRet_e hf
  exact g_retI X hI rfl dX1_count_197
/-! X8_props -/
def f_X8_props (a0 : Nat) : gM Int32 :=
    gB (gFR a0 7 1) fun v1 =>
    gB (gAI v1 0 (0 : Int32)) fun v2 =>
    (gRet v2)
set_option maxHeartbeats 4000000 in
set_option maxRecDepth 100000 in
theorem m_X8_props {G : gG} {l : Launch} (hfl : l.stackTraces = false) {a0 : Nat} {h h' : g_H} {r : Int32} (hf : (f_X8_props a0).1 h = some (r, h')) : gMet G l yX8_props (Cond.code yX8_props cX8_props 1 (some .int)) 1 20 [.ref a0] h (.inl (g_wI r)) h' := by
  refine g_head hfl ((f_X8_props a0).2 h r h' hf) (plainFor_of_name (by decide)) (Nat.le_of_ble_eq_true rfl) (fun p e s m below meth c H locs cells slots ls X hI hl9 => ?_)
  have hl : lv_has ls 1 [(0, .ref a0)] := hl9
  have hx := X.1
  have hb := X.2.1
  have hown := X.2.2.2.1
  have hts := X.2.2.2.2.1
  unfold f_X8_props at hf
  refine lv_aload_n hx hb dX8_props_0 rfl (lv_at hl 0 rfl) ?_
  refine g_fr X hI hf fX8_1 q1445 rfl rfl dX8_props_1 (fun v1 hf => ?_)
  refine lv_iconst (v := (0 : Int32)) hx hb dX8_props_4 (by decide) ?_
  refine g_ai0 X hI hf dX8_props_5 (fun v2 hf => ?_)
  cases gRet_e hf
  exact g_retI X hI rfl dX8_props_6
/-! X8_propAt -/
def f_X8_propAt (x0 : Int32) (x1 : Int32) : gM Int32 :=
    (gRet (((9 : Int32) + ((4 : Int32) * x0)) + x1))
set_option maxHeartbeats 4000000 in
set_option maxRecDepth 100000 in
theorem m_X8_propAt {G : gG} {l : Launch} (hfl : l.stackTraces = false) {x0 : Int32} {x1 : Int32} {h h' : g_H} {r : Int32} (hf : (f_X8_propAt x0 x1).1 h = some (r, h')) : gMet G l yX8_propAt (Cond.code yX8_propAt cX8_propAt 2 (some .int)) 1 20 [.int x0, .int x1] h (.inl (g_wI r)) h' := by
  refine g_head hfl ((f_X8_propAt x0 x1).2 h r h' hf) (plainFor_of_name (by decide)) (Nat.le_of_ble_eq_true rfl) (fun p e s m below meth c H locs cells slots ls X hI hl9 => ?_)
  have hl : lv_has ls 2 [(0, .int x0), (1, .int x1)] := hl9
  have hx := X.1
  have hb := X.2.1
  have hown := X.2.2.2.1
  have hts := X.2.2.2.2.1
  unfold f_X8_propAt at hf
  refine lv_bipush (v := (9 : Int32)) hx hb dX8_propAt_0 (by decide) ?_
  refine lv_iconst (v := (4 : Int32)) hx hb dX8_propAt_2 (by decide) ?_
  refine lv_iload_n hx hb dX8_propAt_3 rfl (lv_at hl 0 rfl) ?_
  refine lv_imul hx hb dX8_propAt_4 ?_
  refine lv_iadd hx hb dX8_propAt_5 ?_
  refine lv_iload_n hx hb dX8_propAt_6 rfl (lv_at hl 1 rfl) ?_
  refine lv_iadd hx hb dX8_propAt_7 ?_
  cases gRet_e hf
  exact g_retI X hI rfl dX8_propAt_8
/-! X8_ofProp -/
def f_X8_ofProp (a0 : Nat) (x1 : Int32) (x2 : Int32) : gM Int32 :=
    gB (gFR a0 7 1) fun v1 =>
    gB (f_X8_propAt x1 x2) fun r2 =>
    gB (gAI v1 0 r2) fun v3 =>
    (gRet v3)
set_option maxHeartbeats 4000000 in
set_option maxRecDepth 100000 in
theorem m_X8_ofProp {G : gG} {l : Launch} (hfl : l.stackTraces = false) {a0 : Nat} {x1 : Int32} {x2 : Int32} {h h' : g_H} {r : Int32} (hf : (f_X8_ofProp a0 x1 x2).1 h = some (r, h')) : gMet G l yX8_ofProp (Cond.code yX8_ofProp cX8_ofProp 3 (some .int)) 2 41 [.ref a0, .int x1, .int x2] h (.inl (g_wI r)) h' := by
  refine g_head hfl ((f_X8_ofProp a0 x1 x2).2 h r h' hf) (plainFor_of_name (by decide)) (Nat.le_of_ble_eq_true rfl) (fun p e s m below meth c H locs cells slots ls X hI hl9 => ?_)
  have hl : lv_has ls 3 [(0, .ref a0), (1, .int x1), (2, .int x2)] := hl9
  have hx := X.1
  have hb := X.2.1
  have hown := X.2.2.2.1
  have hts := X.2.2.2.2.1
  unfold f_X8_ofProp at hf
  refine lv_aload_n hx hb dX8_ofProp_0 rfl (lv_at hl 0 rfl) ?_
  refine g_fr X hI hf fX8_1 q1445 rfl rfl dX8_ofProp_1 (fun v1 hf => ?_)
  refine lv_iload_n hx hb dX8_ofProp_4 rfl (lv_at hl 1 rfl) ?_
  refine lv_iload_n hx hb dX8_ofProp_5 rfl (lv_at hl 2 rfl) ?_
  refine g_cBI hI hf (fun v9 h9 e9 l9 l9' => g_rS (b := 0) X hI l9 l9' ⟨Nat.le_refl _, Nat.le_refl _⟩ (As := [.int x1, .int x2]) (m_X8_propAt X.2.2.2.2.2.2.2.2.2.2.1 e9) ydX8_propAt q1663 q1664 q131 q1665 rfl (Nat.le_of_ble_eq_true rfl) (Nat.le_of_ble_eq_true rfl) hl.1 rfl (Nat.le_of_ble_eq_true rfl) dX8_ofProp_6) (fun r2 h H locs cells slots hf hI => ?_)
  refine g_ai0 X hI hf dX8_ofProp_9 (fun v3 hf => ?_)
  cases gRet_e hf
  exact g_retI X hI rfl dX8_ofProp_10
/-! X8_wornOfAll -/
abbrev w_X8_wornOfAll_27 (G : gG) (l : Launch) (p : Program) (e : Env) (s : State) (m : MethodId) (args : Array Value) (below : List Frame) (meth : Method) (c : Code) (h0 : g_H) (r : Int32) (h' : g_H) (k : Int32 → gM Int32) : Prop := ∀ (x1 : Int32) (h : g_H) (H : Heap) (locs : List Loc) (cells slots : Nat) (ls : Array Slot), (k x1).1 h = some (r, h') → gI G h0 h H locs cells slots → lv_has ls 3 [(1, .int x1)] → W p l e (g_rm 3 63 h0 h') s m args below meth c H locs cells slots (gQ G below args s h0 h' (.inl (g_wI r))) (F0 m 27 ls [])
abbrev w_X8_wornOfAll_4 (G : gG) (l : Launch) (p : Program) (e : Env) (s : State) (m : MethodId) (args : Array Value) (below : List Frame) (meth : Method) (c : Code) (h0 : g_H) (r : Int32) (h' : g_H) (k : Nat → Int32 → Int32 → gM Int32) : Prop := ∀ (a0 : Nat) (x1 : Int32) (x2 : Int32) (h : g_H) (H : Heap) (locs : List Loc) (cells slots : Nat) (ls : Array Slot), (k a0 x1 x2).1 h = some (r, h') → gI G h0 h H locs cells slots → lv_has ls 3 [(0, .ref a0), (1, .int x1), (2, .int x2)] → W p l e (g_rm 3 63 h0 h') s m args below meth c H locs cells slots (gQ G below args s h0 h' (.inl (g_wI r))) (F0 m 4 ls [])
def f_X8_wornOfAll_27 (x1 : Int32) : gM Int32 :=
    (gRet x1)
set_option maxHeartbeats 4000000 in
set_option maxRecDepth 100000 in
theorem b_X8_wornOfAll_27 {G : gG} {l : Launch} {p : Program} {e : Env} {s : State} {m : MethodId} {args : Array Value} {below : List Frame} {meth : Method} {c : Code} {h0 : g_H} {r : Int32} {h' : g_H} (X : gX G l yX8_wornOfAll.cls cX8_wornOfAll 3 (some .int) [] yX8_wornOfAll.name p s m args meth c) : w_X8_wornOfAll_27 G l p e s m args below meth c h0 r h' (f_X8_wornOfAll_27) := by
  have hx := X.1
  have hb := X.2.1
  have hown := X.2.2.2.1
  have hts := X.2.2.2.2.1
  intro x1 h H locs cells slots ls hf hI hl
  unfold f_X8_wornOfAll_27 at hf
  refine lv_iload_n hx hb dX8_wornOfAll_27 rfl (lv_at hl 0 rfl) ?_
  cases gRet_e hf
  exact g_retI X hI rfl dX8_wornOfAll_28
def f_X8_wornOfAll_4 : Nat → Nat → Int32 → Int32 → gM Int32
  | 0, _, _, _ => gFail
  | n + 1, a0, x1, x2 =>
    gB (gCk a0 7) fun _ =>
    gB (f_X8_props a0) fun r101 =>
    gIf (r101 ≤ x2)
    (f_X8_wornOfAll_27 x1)
    (gB (gCk a0 7) fun _ =>
    gB (f_X8_ofProp a0 x2 (2 : Int32)) fun r102 =>
    f_X8_wornOfAll_4 n a0 (x1 + r102) (x2 + (1 : Int32)))
set_option maxHeartbeats 4000000 in
set_option maxRecDepth 100000 in
theorem b_X8_wornOfAll_4 {G : gG} {l : Launch} {p : Program} {e : Env} {s : State} {m : MethodId} {args : Array Value} {below : List Frame} {meth : Method} {c : Code} {h0 : g_H} {r : Int32} {h' : g_H} (X : gX G l yX8_wornOfAll.cls cX8_wornOfAll 3 (some .int) [] yX8_wornOfAll.name p s m args meth c) : ∀ n : Nat, w_X8_wornOfAll_4 G l p e s m args below meth c h0 r h' (f_X8_wornOfAll_4 n) := by
  have hx := X.1
  have hb := X.2.1
  have hown := X.2.2.2.1
  have hts := X.2.2.2.2.1
  intro n
  induction n with
  | zero =>
    intro a0 x1 x2 h H locs cells slots ls hf hI hl
    exact (gFail_f hf).elim
  | succ n ih =>
    intro a0 x1 x2 h H locs cells slots ls hf hI hl
    rw [f_X8_wornOfAll_4] at hf
    refine lv_iload_n hx hb dX8_wornOfAll_4 rfl (lv_at hl 2 rfl) ?_
    refine lv_aload_n hx hb dX8_wornOfAll_5 rfl (lv_at hl 0 rfl) ?_
    obtain ⟨hs, hf⟩ := gCk_b hf
    refine g_cBI hI hf (fun v9 h9 e9 l9 l9' => g_rV X hI l9 l9' ⟨Nat.le_refl _, Nat.le_refl _⟩ (As := []) (m_X8_props X.2.2.2.2.2.2.2.2.2.2.1 e9) ydX8_props hs rfl rfl q1626 q1628 qs53 q131 q1629 rfl (Nat.le_of_ble_eq_true rfl) (Nat.le_of_ble_eq_true rfl) hl.1 rfl (Nat.le_of_ble_eq_true rfl) dX8_wornOfAll_6) (fun r101 h H locs cells slots hf hI => ?_)
    refine lv_icmp_ge (tgt := 27) hx hb dX8_wornOfAll_9 (by decide) (fun c9 => ?_) (fun c9 => ?_)
    · have hf := g_t c9 hf
      exact b_X8_wornOfAll_27 X _ _ _ _ _ _ _ hf hI (lv_sub hl [1] rfl)
    · have hf := g_f c9 hf
      refine lv_iload_n hx hb dX8_wornOfAll_12 rfl (lv_at hl 1 rfl) ?_
      refine lv_aload_n hx hb dX8_wornOfAll_13 rfl (lv_at hl 0 rfl) ?_
      refine lv_iload_n hx hb dX8_wornOfAll_14 rfl (lv_at hl 2 rfl) ?_
      refine lv_iconst (v := (2 : Int32)) hx hb dX8_wornOfAll_15 (by decide) ?_
      obtain ⟨hs, hf⟩ := gCk_b hf
      refine g_cBI hI hf (fun v9 h9 e9 l9 l9' => g_rV X hI l9 l9' ⟨Nat.le_refl _, Nat.le_refl _⟩ (As := [.int x2, .int (2 : Int32)]) (m_X8_ofProp X.2.2.2.2.2.2.2.2.2.2.1 e9) ydX8_ofProp hs rfl rfl q1659 q1661 qs59 q131 q1662 rfl (Nat.le_of_ble_eq_true rfl) (Nat.le_of_ble_eq_true rfl) hl.1 rfl (Nat.le_of_ble_eq_true rfl) dX8_wornOfAll_16) (fun r102 h H locs cells slots hf hI => ?_)
      refine lv_iadd hx hb dX8_wornOfAll_19 ?_
      refine lv_istore_n (lv' := [(1, .int (x1 + r102)), (0, .ref a0), (2, .int x2)]) hx hb dX8_wornOfAll_20 rfl hl (by decide) rfl (fun ls hl => ?_)
      refine lv_iinc (v := (x2 + (1 : Int32))) (lv' := [(2, .int (x2 + (1 : Int32))), (1, .int (x1 + r102)), (0, .ref a0)]) hx hb dX8_wornOfAll_21 hl (k := 2) rfl rfl (by decide) rfl (fun ls hl => ?_)
      refine lv_goto (tgt := 4) hx hb dX8_wornOfAll_24 (by decide) ?_
      exact ih _ _ _ _ _ _ _ _ _ hf hI (lv_sub hl [2, 1, 0] rfl)
def f_X8_wornOfAll (a0 : Nat) : gM Int32 :=
    f_X8_wornOfAll_4 gN a0 (0 : Int32) (0 : Int32)
set_option maxHeartbeats 4000000 in
set_option maxRecDepth 100000 in
theorem m_X8_wornOfAll {G : gG} {l : Launch} (hfl : l.stackTraces = false) {a0 : Nat} {h h' : g_H} {r : Int32} (hf : (f_X8_wornOfAll a0).1 h = some (r, h')) : gMet G l yX8_wornOfAll (Cond.code yX8_wornOfAll cX8_wornOfAll 3 (some .int)) 3 63 [.ref a0] h (.inl (g_wI r)) h' := by
  refine g_head hfl ((f_X8_wornOfAll a0).2 h r h' hf) (plainFor_of_name (by decide)) (Nat.le_of_ble_eq_true rfl) (fun p e s m below meth c H locs cells slots ls X hI hl9 => ?_)
  have hl : lv_has ls 3 [(0, .ref a0)] := hl9
  have hx := X.1
  have hb := X.2.1
  have hown := X.2.2.2.1
  have hts := X.2.2.2.2.1
  unfold f_X8_wornOfAll at hf
  refine lv_iconst (v := (0 : Int32)) hx hb dX8_wornOfAll_0 (by decide) ?_
  refine lv_istore_n (lv' := [(1, .int (0 : Int32)), (0, .ref a0)]) hx hb dX8_wornOfAll_1 rfl hl (by decide) rfl (fun ls hl => ?_)
  refine lv_iconst (v := (0 : Int32)) hx hb dX8_wornOfAll_2 (by decide) ?_
  refine lv_istore_n (lv' := [(2, .int (0 : Int32)), (1, .int (0 : Int32)), (0, .ref a0)]) hx hb dX8_wornOfAll_3 rfl hl (by decide) rfl (fun ls hl => ?_)
  exact b_X8_wornOfAll_4 X gN _ _ _ _ _ _ _ _ _ hf hI (lv_sub hl [2, 1, 0] rfl)
/-! X8_oneCount -/
def f_X8_oneCount (a0 : Nat) : gM Int32 :=
    gB (gFR a0 7 1) fun v1 =>
    gB (gAI v1 0 (1 : Int32)) fun v2 =>
    (gRet v2)
set_option maxHeartbeats 4000000 in
set_option maxRecDepth 100000 in
theorem m_X8_oneCount {G : gG} {l : Launch} (hfl : l.stackTraces = false) {a0 : Nat} {h h' : g_H} {r : Int32} (hf : (f_X8_oneCount a0).1 h = some (r, h')) : gMet G l yX8_oneCount (Cond.code yX8_oneCount cX8_oneCount 1 (some .int)) 1 20 [.ref a0] h (.inl (g_wI r)) h' := by
  refine g_head hfl ((f_X8_oneCount a0).2 h r h' hf) (plainFor_of_name (by decide)) (Nat.le_of_ble_eq_true rfl) (fun p e s m below meth c H locs cells slots ls X hI hl9 => ?_)
  have hl : lv_has ls 1 [(0, .ref a0)] := hl9
  have hx := X.1
  have hb := X.2.1
  have hown := X.2.2.2.1
  have hts := X.2.2.2.2.1
  unfold f_X8_oneCount at hf
  refine lv_aload_n hx hb dX8_oneCount_0 rfl (lv_at hl 0 rfl) ?_
  refine g_fr X hI hf fX8_1 q1445 rfl rfl dX8_oneCount_1 (fun v1 hf => ?_)
  refine lv_iconst (v := (1 : Int32)) hx hb dX8_oneCount_4 (by decide) ?_
  refine g_ai0 X hI hf dX8_oneCount_5 (fun v2 hf => ?_)
  cases gRet_e hf
  exact g_retI X hI rfl dX8_oneCount_6
/-! X8_oneAt -/
def f_X8_oneAt (x0 : Int32) (x1 : Int32) : gM Int32 :=
    (gRet (((41 : Int32) + ((4 : Int32) * x0)) + x1))
set_option maxHeartbeats 4000000 in
set_option maxRecDepth 100000 in
theorem m_X8_oneAt {G : gG} {l : Launch} (hfl : l.stackTraces = false) {x0 : Int32} {x1 : Int32} {h h' : g_H} {r : Int32} (hf : (f_X8_oneAt x0 x1).1 h = some (r, h')) : gMet G l yX8_oneAt (Cond.code yX8_oneAt cX8_oneAt 2 (some .int)) 1 20 [.int x0, .int x1] h (.inl (g_wI r)) h' := by
  refine g_head hfl ((f_X8_oneAt x0 x1).2 h r h' hf) (plainFor_of_name (by decide)) (Nat.le_of_ble_eq_true rfl) (fun p e s m below meth c H locs cells slots ls X hI hl9 => ?_)
  have hl : lv_has ls 2 [(0, .int x0), (1, .int x1)] := hl9
  have hx := X.1
  have hb := X.2.1
  have hown := X.2.2.2.1
  have hts := X.2.2.2.2.1
  unfold f_X8_oneAt at hf
  refine lv_bipush (v := (41 : Int32)) hx hb dX8_oneAt_0 (by decide) ?_
  refine lv_iconst (v := (4 : Int32)) hx hb dX8_oneAt_2 (by decide) ?_
  refine lv_iload_n hx hb dX8_oneAt_3 rfl (lv_at hl 0 rfl) ?_
  refine lv_imul hx hb dX8_oneAt_4 ?_
  refine lv_iadd hx hb dX8_oneAt_5 ?_
  refine lv_iload_n hx hb dX8_oneAt_6 rfl (lv_at hl 1 rfl) ?_
  refine lv_iadd hx hb dX8_oneAt_7 ?_
  cases gRet_e hf
  exact g_retI X hI rfl dX8_oneAt_8
/-! X8_of -/
def f_X8_of (a0 : Nat) (x1 : Int32) (x2 : Int32) : gM Int32 :=
    gB (gFR a0 7 1) fun v1 =>
    gB (f_X8_oneAt x1 x2) fun r2 =>
    gB (gAI v1 0 r2) fun v3 =>
    (gRet v3)
set_option maxHeartbeats 4000000 in
set_option maxRecDepth 100000 in
theorem m_X8_of {G : gG} {l : Launch} (hfl : l.stackTraces = false) {a0 : Nat} {x1 : Int32} {x2 : Int32} {h h' : g_H} {r : Int32} (hf : (f_X8_of a0 x1 x2).1 h = some (r, h')) : gMet G l yX8_of (Cond.code yX8_of cX8_of 3 (some .int)) 2 41 [.ref a0, .int x1, .int x2] h (.inl (g_wI r)) h' := by
  refine g_head hfl ((f_X8_of a0 x1 x2).2 h r h' hf) (plainFor_of_name (by decide)) (Nat.le_of_ble_eq_true rfl) (fun p e s m below meth c H locs cells slots ls X hI hl9 => ?_)
  have hl : lv_has ls 3 [(0, .ref a0), (1, .int x1), (2, .int x2)] := hl9
  have hx := X.1
  have hb := X.2.1
  have hown := X.2.2.2.1
  have hts := X.2.2.2.2.1
  unfold f_X8_of at hf
  refine lv_aload_n hx hb dX8_of_0 rfl (lv_at hl 0 rfl) ?_
  refine g_fr X hI hf fX8_1 q1445 rfl rfl dX8_of_1 (fun v1 hf => ?_)
  refine lv_iload_n hx hb dX8_of_4 rfl (lv_at hl 1 rfl) ?_
  refine lv_iload_n hx hb dX8_of_5 rfl (lv_at hl 2 rfl) ?_
  refine g_cBI hI hf (fun v9 h9 e9 l9 l9' => g_rS (b := 0) X hI l9 l9' ⟨Nat.le_refl _, Nat.le_refl _⟩ (As := [.int x1, .int x2]) (m_X8_oneAt X.2.2.2.2.2.2.2.2.2.2.1 e9) ydX8_oneAt q1680 q1681 q131 q1682 rfl (Nat.le_of_ble_eq_true rfl) (Nat.le_of_ble_eq_true rfl) hl.1 rfl (Nat.le_of_ble_eq_true rfl) dX8_of_6) (fun r2 h H locs cells slots hf hI => ?_)
  refine g_ai0 X hI hf dX8_of_9 (fun v3 hf => ?_)
  cases gRet_e hf
  exact g_retI X hI rfl dX8_of_10
/-! X8_ofState -/
abbrev w_X8_ofState_30 (G : gG) (l : Launch) (p : Program) (e : Env) (s : State) (m : MethodId) (args : Array Value) (below : List Frame) (meth : Method) (c : Code) (h0 : g_H) (r : Int32) (h' : g_H) (k : Nat → Int32 → Int32 → Int32 → Int32 → gM Int32) : Prop := ∀ (a0 : Nat) (x1 : Int32) (x3 : Int32) (u0 : Int32) (u1 : Int32) (h : g_H) (H : Heap) (locs : List Loc) (cells slots : Nat) (ls : Array Slot), (k a0 x1 x3 u0 u1).1 h = some (r, h') → gI G h0 h H locs cells slots → lv_has ls 4 [(0, .ref a0), (1, .int x1), (3, .int x3)] → W p l e (g_rm 3 63 h0 h') s m args below meth c H locs cells slots (gQ G below args s h0 h' (.inl (g_wI r))) (F0 m 30 ls [.int u1, .int u0])
abbrev w_X8_ofState_38 (G : gG) (l : Launch) (p : Program) (e : Env) (s : State) (m : MethodId) (args : Array Value) (below : List Frame) (meth : Method) (c : Code) (h0 : g_H) (r : Int32) (h' : g_H) (k : Int32 → gM Int32) : Prop := ∀ (x2 : Int32) (h : g_H) (H : Heap) (locs : List Loc) (cells slots : Nat) (ls : Array Slot), (k x2).1 h = some (r, h') → gI G h0 h H locs cells slots → lv_has ls 4 [(2, .int x2)] → W p l e (g_rm 3 63 h0 h') s m args below meth c H locs cells slots (gQ G below args s h0 h' (.inl (g_wI r))) (F0 m 38 ls [])
abbrev w_X8_ofState_4 (G : gG) (l : Launch) (p : Program) (e : Env) (s : State) (m : MethodId) (args : Array Value) (below : List Frame) (meth : Method) (c : Code) (h0 : g_H) (r : Int32) (h' : g_H) (k : Nat → Int32 → Int32 → Int32 → gM Int32) : Prop := ∀ (a0 : Nat) (x1 : Int32) (x2 : Int32) (x3 : Int32) (h : g_H) (H : Heap) (locs : List Loc) (cells slots : Nat) (ls : Array Slot), (k a0 x1 x2 x3).1 h = some (r, h') → gI G h0 h H locs cells slots → lv_has ls 4 [(0, .ref a0), (1, .int x1), (2, .int x2), (3, .int x3)] → W p l e (g_rm 3 63 h0 h') s m args below meth c H locs cells slots (gQ G below args s h0 h' (.inl (g_wI r))) (F0 m 4 ls [])
def f_X8_ofState_30 (k4 : Nat → Int32 → Int32 → Int32 → gM Int32) (a0 : Nat) (x1 : Int32) (x3 : Int32) (u0 : Int32) (u1 : Int32) : gM Int32 :=
    k4 a0 x1 (u0 ||| u1) (x3 + (1 : Int32))
set_option maxHeartbeats 4000000 in
set_option maxRecDepth 100000 in
theorem b_X8_ofState_30 {G : gG} {l : Launch} {p : Program} {e : Env} {s : State} {m : MethodId} {args : Array Value} {below : List Frame} {meth : Method} {c : Code} {h0 : g_H} {r : Int32} {h' : g_H} (X : gX G l yX8_ofState.cls cX8_ofState 4 (some .int) [] yX8_ofState.name p s m args meth c) {k4 : Nat → Int32 → Int32 → Int32 → gM Int32} (K4 : w_X8_ofState_4 G l p e s m args below meth c h0 r h' k4) : w_X8_ofState_30 G l p e s m args below meth c h0 r h' (f_X8_ofState_30 k4) := by
  have hx := X.1
  have hb := X.2.1
  have hown := X.2.2.2.1
  have hts := X.2.2.2.2.1
  intro a0 x1 x3 u0 u1 h H locs cells slots ls hf hI hl
  unfold f_X8_ofState_30 at hf
  refine lv_ior hx hb dX8_ofState_30 ?_
  refine lv_istore_n (lv' := [(2, .int (u0 ||| u1)), (0, .ref a0), (1, .int x1), (3, .int x3)]) hx hb dX8_ofState_31 rfl hl (by decide) rfl (fun ls hl => ?_)
  refine lv_iinc (v := (x3 + (1 : Int32))) (lv' := [(3, .int (x3 + (1 : Int32))), (2, .int (u0 ||| u1)), (0, .ref a0), (1, .int x1)]) hx hb dX8_ofState_32 hl (k := 3) rfl rfl (by decide) rfl (fun ls hl => ?_)
  refine lv_goto (tgt := 4) hx hb dX8_ofState_35 (by decide) ?_
  exact K4 _ _ _ _ _ _ _ _ _ _ hf hI (lv_sub hl [2, 3, 1, 0] rfl)
def f_X8_ofState_38 (x2 : Int32) : gM Int32 :=
    (gRet x2)
set_option maxHeartbeats 4000000 in
set_option maxRecDepth 100000 in
theorem b_X8_ofState_38 {G : gG} {l : Launch} {p : Program} {e : Env} {s : State} {m : MethodId} {args : Array Value} {below : List Frame} {meth : Method} {c : Code} {h0 : g_H} {r : Int32} {h' : g_H} (X : gX G l yX8_ofState.cls cX8_ofState 4 (some .int) [] yX8_ofState.name p s m args meth c) : w_X8_ofState_38 G l p e s m args below meth c h0 r h' (f_X8_ofState_38) := by
  have hx := X.1
  have hb := X.2.1
  have hown := X.2.2.2.1
  have hts := X.2.2.2.2.1
  intro x2 h H locs cells slots ls hf hI hl
  unfold f_X8_ofState_38 at hf
  refine lv_iload_n hx hb dX8_ofState_38 rfl (lv_at hl 0 rfl) ?_
  cases gRet_e hf
  exact g_retI X hI rfl dX8_ofState_39
def f_X8_ofState_4 : Nat → Nat → Int32 → Int32 → Int32 → gM Int32
  | 0, _, _, _, _ => gFail
  | n + 1, a0, x1, x2, x3 =>
    gB (gCk a0 7) fun _ =>
    gB (f_X8_oneCount a0) fun r101 =>
    gIf (r101 ≤ x3)
    (f_X8_ofState_38 x2)
    (gB (gCk a0 7) fun _ =>
    gB (f_X8_of a0 x3 (3 : Int32)) fun r102 =>
    gIf (r102 = x1)
    (f_X8_ofState_30 (f_X8_ofState_4 n) a0 x1 x3 x2 ((1 : Int32) <<< (x3 &&& 31)))
    (f_X8_ofState_30 (f_X8_ofState_4 n) a0 x1 x3 x2 (0 : Int32)))
set_option maxHeartbeats 4000000 in
set_option maxRecDepth 100000 in
theorem b_X8_ofState_4 {G : gG} {l : Launch} {p : Program} {e : Env} {s : State} {m : MethodId} {args : Array Value} {below : List Frame} {meth : Method} {c : Code} {h0 : g_H} {r : Int32} {h' : g_H} (X : gX G l yX8_ofState.cls cX8_ofState 4 (some .int) [] yX8_ofState.name p s m args meth c) : ∀ n : Nat, w_X8_ofState_4 G l p e s m args below meth c h0 r h' (f_X8_ofState_4 n) := by
  have hx := X.1
  have hb := X.2.1
  have hown := X.2.2.2.1
  have hts := X.2.2.2.2.1
  intro n
  induction n with
  | zero =>
    intro a0 x1 x2 x3 h H locs cells slots ls hf hI hl
    exact (gFail_f hf).elim
  | succ n ih =>
    intro a0 x1 x2 x3 h H locs cells slots ls hf hI hl
    rw [f_X8_ofState_4] at hf
    refine lv_iload_n hx hb dX8_ofState_4 rfl (lv_at hl 3 rfl) ?_
    refine lv_aload_n hx hb dX8_ofState_5 rfl (lv_at hl 0 rfl) ?_
    obtain ⟨hs, hf⟩ := gCk_b hf
    refine g_cBI hI hf (fun v9 h9 e9 l9 l9' => g_rV X hI l9 l9' ⟨Nat.le_refl _, Nat.le_refl _⟩ (As := []) (m_X8_oneCount X.2.2.2.2.2.2.2.2.2.2.1 e9) ydX8_oneCount hs rfl rfl q1673 q1675 qs61 q131 q1676 rfl (Nat.le_of_ble_eq_true rfl) (Nat.le_of_ble_eq_true rfl) hl.1 rfl (Nat.le_of_ble_eq_true rfl) dX8_ofState_6) (fun r101 h H locs cells slots hf hI => ?_)
    refine lv_icmp_ge (tgt := 38) hx hb dX8_ofState_9 (by decide) (fun c9 => ?_) (fun c9 => ?_)
    · have hf := g_t c9 hf
      exact b_X8_ofState_38 X _ _ _ _ _ _ _ hf hI (lv_sub hl [2] rfl)
    · have hf := g_f c9 hf
      refine lv_iload_n hx hb dX8_ofState_12 rfl (lv_at hl 2 rfl) ?_
      refine lv_aload_n hx hb dX8_ofState_13 rfl (lv_at hl 0 rfl) ?_
      refine lv_iload_n hx hb dX8_ofState_14 rfl (lv_at hl 3 rfl) ?_
      refine lv_iconst (v := (3 : Int32)) hx hb dX8_ofState_15 (by decide) ?_
      obtain ⟨hs, hf⟩ := gCk_b hf
      refine g_cBI hI hf (fun v9 h9 e9 l9 l9' => g_rV X hI l9 l9' ⟨Nat.le_refl _, Nat.le_refl _⟩ (As := [.int x3, .int (3 : Int32)]) (m_X8_of X.2.2.2.2.2.2.2.2.2.2.1 e9) ydX8_of hs rfl rfl q1767 q1769 qs75 q131 q1770 rfl (Nat.le_of_ble_eq_true rfl) (Nat.le_of_ble_eq_true rfl) hl.1 rfl (Nat.le_of_ble_eq_true rfl) dX8_ofState_16) (fun r102 h H locs cells slots hf hI => ?_)
      refine lv_iload_n hx hb dX8_ofState_19 rfl (lv_at hl 1 rfl) ?_
      refine lv_icmp_ne (tgt := 29) hx hb dX8_ofState_20 (by decide) (fun c20 => ?_) (fun c20 => ?_)
      · have hf := g_f c20 hf
        refine lv_iconst (v := (0 : Int32)) hx hb dX8_ofState_29 (by decide) ?_
        exact b_X8_ofState_30 X ih _ _ _ _ _ _ _ _ _ _ _ hf hI (lv_sub hl [0, 1, 3] rfl)
      · have hf := g_t c20 hf
        refine lv_iconst (v := (1 : Int32)) hx hb dX8_ofState_23 (by decide) ?_
        refine lv_iload_n hx hb dX8_ofState_24 rfl (lv_at hl 3 rfl) ?_
        refine lv_ishl hx hb dX8_ofState_25 ?_
        refine lv_goto (tgt := 30) hx hb dX8_ofState_26 (by decide) ?_
        exact b_X8_ofState_30 X ih _ _ _ _ _ _ _ _ _ _ _ hf hI (lv_sub hl [0, 1, 3] rfl)
def f_X8_ofState (a0 : Nat) (x1 : Int32) : gM Int32 :=
    f_X8_ofState_4 gN a0 x1 (0 : Int32) (0 : Int32)
set_option maxHeartbeats 4000000 in
set_option maxRecDepth 100000 in
theorem m_X8_ofState {G : gG} {l : Launch} (hfl : l.stackTraces = false) {a0 : Nat} {x1 : Int32} {h h' : g_H} {r : Int32} (hf : (f_X8_ofState a0 x1).1 h = some (r, h')) : gMet G l yX8_ofState (Cond.code yX8_ofState cX8_ofState 4 (some .int)) 3 63 [.ref a0, .int x1] h (.inl (g_wI r)) h' := by
  refine g_head hfl ((f_X8_ofState a0 x1).2 h r h' hf) (plainFor_of_name (by decide)) (Nat.le_of_ble_eq_true rfl) (fun p e s m below meth c H locs cells slots ls X hI hl9 => ?_)
  have hl : lv_has ls 4 [(0, .ref a0), (1, .int x1)] := hl9
  have hx := X.1
  have hb := X.2.1
  have hown := X.2.2.2.1
  have hts := X.2.2.2.2.1
  unfold f_X8_ofState at hf
  refine lv_iconst (v := (0 : Int32)) hx hb dX8_ofState_0 (by decide) ?_
  refine lv_istore_n (lv' := [(2, .int (0 : Int32)), (0, .ref a0), (1, .int x1)]) hx hb dX8_ofState_1 rfl hl (by decide) rfl (fun ls hl => ?_)
  refine lv_iconst (v := (0 : Int32)) hx hb dX8_ofState_2 (by decide) ?_
  refine lv_istore_n (lv' := [(3, .int (0 : Int32)), (2, .int (0 : Int32)), (0, .ref a0), (1, .int x1)]) hx hb dX8_ofState_3 rfl hl (by decide) rfl (fun ls hl => ?_)
  exact b_X8_ofState_4 X gN _ _ _ _ _ _ _ _ _ _ hf hI (lv_sub hl [2, 3, 1, 0] rfl)
/-! X8_propIn -/
abbrev w_X8_propIn_20 (G : gG) (l : Launch) (p : Program) (e : Env) (s : State) (m : MethodId) (args : Array Value) (below : List Frame) (meth : Method) (c : Code) (h0 : g_H) (r : Int32) (h' : g_H) (k : Int32 → gM Int32) : Prop := ∀ (x2 : Int32) (h : g_H) (H : Heap) (locs : List Loc) (cells slots : Nat) (ls : Array Slot), (k x2).1 h = some (r, h') → gI G h0 h H locs cells slots → lv_has ls 3 [(2, .int x2)] → W p l e (g_rm 3 63 h0 h') s m args below meth c H locs cells slots (gQ G below args s h0 h' (.inl (g_wI r))) (F0 m 20 ls [])
abbrev w_X8_propIn_28 (G : gG) (l : Launch) (p : Program) (e : Env) (s : State) (m : MethodId) (args : Array Value) (below : List Frame) (meth : Method) (c : Code) (h0 : g_H) (r : Int32) (h' : g_H) (k : gM Int32) : Prop := ∀ (h : g_H) (H : Heap) (locs : List Loc) (cells slots : Nat) (ls : Array Slot), (k).1 h = some (r, h') → gI G h0 h H locs cells slots → lv_has ls 3 [] → W p l e (g_rm 3 63 h0 h') s m args below meth c H locs cells slots (gQ G below args s h0 h' (.inl (g_wI r))) (F0 m 28 ls [])
abbrev w_X8_propIn_2 (G : gG) (l : Launch) (p : Program) (e : Env) (s : State) (m : MethodId) (args : Array Value) (below : List Frame) (meth : Method) (c : Code) (h0 : g_H) (r : Int32) (h' : g_H) (k : Nat → Int32 → Int32 → gM Int32) : Prop := ∀ (a0 : Nat) (x1 : Int32) (x2 : Int32) (h : g_H) (H : Heap) (locs : List Loc) (cells slots : Nat) (ls : Array Slot), (k a0 x1 x2).1 h = some (r, h') → gI G h0 h H locs cells slots → lv_has ls 3 [(0, .ref a0), (1, .int x1), (2, .int x2)] → W p l e (g_rm 3 63 h0 h') s m args below meth c H locs cells slots (gQ G below args s h0 h' (.inl (g_wI r))) (F0 m 2 ls [])
def f_X8_propIn_20 (x2 : Int32) : gM Int32 :=
    (gRet x2)
set_option maxHeartbeats 4000000 in
set_option maxRecDepth 100000 in
theorem b_X8_propIn_20 {G : gG} {l : Launch} {p : Program} {e : Env} {s : State} {m : MethodId} {args : Array Value} {below : List Frame} {meth : Method} {c : Code} {h0 : g_H} {r : Int32} {h' : g_H} (X : gX G l yX8_propIn.cls cX8_propIn 3 (some .int) [] yX8_propIn.name p s m args meth c) : w_X8_propIn_20 G l p e s m args below meth c h0 r h' (f_X8_propIn_20) := by
  have hx := X.1
  have hb := X.2.1
  have hown := X.2.2.2.1
  have hts := X.2.2.2.2.1
  intro x2 h H locs cells slots ls hf hI hl
  unfold f_X8_propIn_20 at hf
  refine lv_iload_n hx hb dX8_propIn_20 rfl (lv_at hl 0 rfl) ?_
  cases gRet_e hf
  exact g_retI X hI rfl dX8_propIn_21
def f_X8_propIn_28 : gM Int32 :=
    (gRet (-1 : Int32))
set_option maxHeartbeats 4000000 in
set_option maxRecDepth 100000 in
theorem b_X8_propIn_28 {G : gG} {l : Launch} {p : Program} {e : Env} {s : State} {m : MethodId} {args : Array Value} {below : List Frame} {meth : Method} {c : Code} {h0 : g_H} {r : Int32} {h' : g_H} (X : gX G l yX8_propIn.cls cX8_propIn 3 (some .int) [] yX8_propIn.name p s m args meth c) : w_X8_propIn_28 G l p e s m args below meth c h0 r h' (f_X8_propIn_28) := by
  have hx := X.1
  have hb := X.2.1
  have hown := X.2.2.2.1
  have hts := X.2.2.2.2.1
  intro h H locs cells slots ls hf hI hl
  unfold f_X8_propIn_28 at hf
  refine lv_iconst (v := (-1 : Int32)) hx hb dX8_propIn_28 (by decide) ?_
  cases gRet_e hf
  exact g_retI X hI rfl dX8_propIn_29
def f_X8_propIn_2 : Nat → Nat → Int32 → Int32 → gM Int32
  | 0, _, _, _ => gFail
  | n + 1, a0, x1, x2 =>
    gB (gCk a0 7) fun _ =>
    gB (f_X8_props a0) fun r101 =>
    gIf (r101 ≤ x2)
    (f_X8_propIn_28)
    (gB (gCk a0 7) fun _ =>
    gB (f_X8_ofProp a0 x2 (3 : Int32)) fun r102 =>
    gIf (r102 = x1)
    (f_X8_propIn_20 x2)
    (f_X8_propIn_2 n a0 x1 (x2 + (1 : Int32))))
set_option maxHeartbeats 4000000 in
set_option maxRecDepth 100000 in
theorem b_X8_propIn_2 {G : gG} {l : Launch} {p : Program} {e : Env} {s : State} {m : MethodId} {args : Array Value} {below : List Frame} {meth : Method} {c : Code} {h0 : g_H} {r : Int32} {h' : g_H} (X : gX G l yX8_propIn.cls cX8_propIn 3 (some .int) [] yX8_propIn.name p s m args meth c) : ∀ n : Nat, w_X8_propIn_2 G l p e s m args below meth c h0 r h' (f_X8_propIn_2 n) := by
  have hx := X.1
  have hb := X.2.1
  have hown := X.2.2.2.1
  have hts := X.2.2.2.2.1
  intro n
  induction n with
  | zero =>
    intro a0 x1 x2 h H locs cells slots ls hf hI hl
    exact (gFail_f hf).elim
  | succ n ih =>
    intro a0 x1 x2 h H locs cells slots ls hf hI hl
    rw [f_X8_propIn_2] at hf
    refine lv_iload_n hx hb dX8_propIn_2 rfl (lv_at hl 2 rfl) ?_
    refine lv_aload_n hx hb dX8_propIn_3 rfl (lv_at hl 0 rfl) ?_
    obtain ⟨hs, hf⟩ := gCk_b hf
    refine g_cBI hI hf (fun v9 h9 e9 l9 l9' => g_rV X hI l9 l9' ⟨Nat.le_refl _, Nat.le_refl _⟩ (As := []) (m_X8_props X.2.2.2.2.2.2.2.2.2.2.1 e9) ydX8_props hs rfl rfl q1626 q1628 qs53 q131 q1629 rfl (Nat.le_of_ble_eq_true rfl) (Nat.le_of_ble_eq_true rfl) hl.1 rfl (Nat.le_of_ble_eq_true rfl) dX8_propIn_4) (fun r101 h H locs cells slots hf hI => ?_)
    refine lv_icmp_ge (tgt := 28) hx hb dX8_propIn_7 (by decide) (fun c7 => ?_) (fun c7 => ?_)
    · have hf := g_t c7 hf
      exact b_X8_propIn_28 X _ _ _ _ _ _ hf hI (lv_sub hl [] rfl)
    · have hf := g_f c7 hf
      refine lv_aload_n hx hb dX8_propIn_10 rfl (lv_at hl 0 rfl) ?_
      refine lv_iload_n hx hb dX8_propIn_11 rfl (lv_at hl 2 rfl) ?_
      refine lv_iconst (v := (3 : Int32)) hx hb dX8_propIn_12 (by decide) ?_
      obtain ⟨hs, hf⟩ := gCk_b hf
      refine g_cBI hI hf (fun v9 h9 e9 l9 l9' => g_rV X hI l9 l9' ⟨Nat.le_refl _, Nat.le_refl _⟩ (As := [.int x2, .int (3 : Int32)]) (m_X8_ofProp X.2.2.2.2.2.2.2.2.2.2.1 e9) ydX8_ofProp hs rfl rfl q1659 q1661 qs59 q131 q1662 rfl (Nat.le_of_ble_eq_true rfl) (Nat.le_of_ble_eq_true rfl) hl.1 rfl (Nat.le_of_ble_eq_true rfl) dX8_propIn_13) (fun r102 h H locs cells slots hf hI => ?_)
      refine lv_iload_n hx hb dX8_propIn_16 rfl (lv_at hl 1 rfl) ?_
      refine lv_icmp_ne (tgt := 22) hx hb dX8_propIn_17 (by decide) (fun c17 => ?_) (fun c17 => ?_)
      · have hf := g_f c17 hf
        refine lv_iinc (v := (x2 + (1 : Int32))) (lv' := [(2, .int (x2 + (1 : Int32))), (0, .ref a0), (1, .int x1)]) hx hb dX8_propIn_22 hl (k := 2) rfl rfl (by decide) rfl (fun ls hl => ?_)
        refine lv_goto (tgt := 2) hx hb dX8_propIn_25 (by decide) ?_
        exact ih _ _ _ _ _ _ _ _ _ hf hI (lv_sub hl [1, 2, 0] rfl)
      · have hf := g_t c17 hf
        exact b_X8_propIn_20 X _ _ _ _ _ _ _ hf hI (lv_sub hl [2] rfl)
def f_X8_propIn (a0 : Nat) (x1 : Int32) : gM Int32 :=
    f_X8_propIn_2 gN a0 x1 (0 : Int32)
set_option maxHeartbeats 4000000 in
set_option maxRecDepth 100000 in
theorem m_X8_propIn {G : gG} {l : Launch} (hfl : l.stackTraces = false) {a0 : Nat} {x1 : Int32} {h h' : g_H} {r : Int32} (hf : (f_X8_propIn a0 x1).1 h = some (r, h')) : gMet G l yX8_propIn (Cond.code yX8_propIn cX8_propIn 3 (some .int)) 3 63 [.ref a0, .int x1] h (.inl (g_wI r)) h' := by
  refine g_head hfl ((f_X8_propIn a0 x1).2 h r h' hf) (plainFor_of_name (by decide)) (Nat.le_of_ble_eq_true rfl) (fun p e s m below meth c H locs cells slots ls X hI hl9 => ?_)
  have hl : lv_has ls 3 [(0, .ref a0), (1, .int x1)] := hl9
  have hx := X.1
  have hb := X.2.1
  have hown := X.2.2.2.1
  have hts := X.2.2.2.2.1
  unfold f_X8_propIn at hf
  refine lv_iconst (v := (0 : Int32)) hx hb dX8_propIn_0 (by decide) ?_
  refine lv_istore_n (lv' := [(2, .int (0 : Int32)), (0, .ref a0), (1, .int x1)]) hx hb dX8_propIn_1 rfl hl (by decide) rfl (fun ls hl => ?_)
  exact b_X8_propIn_2 X gN _ _ _ _ _ _ _ _ _ hf hI (lv_sub hl [1, 2, 0] rfl)
/-! X8_slotsWithProps -/
abbrev w_X8_slotsWithProps_27 (G : gG) (l : Launch) (p : Program) (e : Env) (s : State) (m : MethodId) (args : Array Value) (below : List Frame) (meth : Method) (c : Code) (h0 : g_H) (r : Int32) (h' : g_H) (k : Nat → Int32 → Int32 → Int32 → gM Int32) : Prop := ∀ (a0 : Nat) (x2 : Int32) (u0 : Int32) (u1 : Int32) (h : g_H) (H : Heap) (locs : List Loc) (cells slots : Nat) (ls : Array Slot), (k a0 x2 u0 u1).1 h = some (r, h') → gI G h0 h H locs cells slots → lv_has ls 3 [(0, .ref a0), (2, .int x2)] → W p l e (g_rm 4 85 h0 h') s m args below meth c H locs cells slots (gQ G below args s h0 h' (.inl (g_wI r))) (F0 m 27 ls [.int u1, .int u0])
abbrev w_X8_slotsWithProps_35 (G : gG) (l : Launch) (p : Program) (e : Env) (s : State) (m : MethodId) (args : Array Value) (below : List Frame) (meth : Method) (c : Code) (h0 : g_H) (r : Int32) (h' : g_H) (k : Int32 → gM Int32) : Prop := ∀ (x1 : Int32) (h : g_H) (H : Heap) (locs : List Loc) (cells slots : Nat) (ls : Array Slot), (k x1).1 h = some (r, h') → gI G h0 h H locs cells slots → lv_has ls 3 [(1, .int x1)] → W p l e (g_rm 4 85 h0 h') s m args below meth c H locs cells slots (gQ G below args s h0 h' (.inl (g_wI r))) (F0 m 35 ls [])
abbrev w_X8_slotsWithProps_4 (G : gG) (l : Launch) (p : Program) (e : Env) (s : State) (m : MethodId) (args : Array Value) (below : List Frame) (meth : Method) (c : Code) (h0 : g_H) (r : Int32) (h' : g_H) (k : Nat → Int32 → Int32 → gM Int32) : Prop := ∀ (a0 : Nat) (x1 : Int32) (x2 : Int32) (h : g_H) (H : Heap) (locs : List Loc) (cells slots : Nat) (ls : Array Slot), (k a0 x1 x2).1 h = some (r, h') → gI G h0 h H locs cells slots → lv_has ls 3 [(0, .ref a0), (1, .int x1), (2, .int x2)] → W p l e (g_rm 4 85 h0 h') s m args below meth c H locs cells slots (gQ G below args s h0 h' (.inl (g_wI r))) (F0 m 4 ls [])
def f_X8_slotsWithProps_27 (k4 : Nat → Int32 → Int32 → gM Int32) (a0 : Nat) (x2 : Int32) (u0 : Int32) (u1 : Int32) : gM Int32 :=
    k4 a0 (u0 ||| u1) (x2 + (1 : Int32))
set_option maxHeartbeats 4000000 in
set_option maxRecDepth 100000 in
theorem b_X8_slotsWithProps_27 {G : gG} {l : Launch} {p : Program} {e : Env} {s : State} {m : MethodId} {args : Array Value} {below : List Frame} {meth : Method} {c : Code} {h0 : g_H} {r : Int32} {h' : g_H} (X : gX G l yX8_slotsWithProps.cls cX8_slotsWithProps 3 (some .int) [] yX8_slotsWithProps.name p s m args meth c) {k4 : Nat → Int32 → Int32 → gM Int32} (K4 : w_X8_slotsWithProps_4 G l p e s m args below meth c h0 r h' k4) : w_X8_slotsWithProps_27 G l p e s m args below meth c h0 r h' (f_X8_slotsWithProps_27 k4) := by
  have hx := X.1
  have hb := X.2.1
  have hown := X.2.2.2.1
  have hts := X.2.2.2.2.1
  intro a0 x2 u0 u1 h H locs cells slots ls hf hI hl
  unfold f_X8_slotsWithProps_27 at hf
  refine lv_ior hx hb dX8_slotsWithProps_27 ?_
  refine lv_istore_n (lv' := [(1, .int (u0 ||| u1)), (0, .ref a0), (2, .int x2)]) hx hb dX8_slotsWithProps_28 rfl hl (by decide) rfl (fun ls hl => ?_)
  refine lv_iinc (v := (x2 + (1 : Int32))) (lv' := [(2, .int (x2 + (1 : Int32))), (1, .int (u0 ||| u1)), (0, .ref a0)]) hx hb dX8_slotsWithProps_29 hl (k := 2) rfl rfl (by decide) rfl (fun ls hl => ?_)
  refine lv_goto (tgt := 4) hx hb dX8_slotsWithProps_32 (by decide) ?_
  exact K4 _ _ _ _ _ _ _ _ _ hf hI (lv_sub hl [2, 1, 0] rfl)
def f_X8_slotsWithProps_35 (x1 : Int32) : gM Int32 :=
    (gRet x1)
set_option maxHeartbeats 4000000 in
set_option maxRecDepth 100000 in
theorem b_X8_slotsWithProps_35 {G : gG} {l : Launch} {p : Program} {e : Env} {s : State} {m : MethodId} {args : Array Value} {below : List Frame} {meth : Method} {c : Code} {h0 : g_H} {r : Int32} {h' : g_H} (X : gX G l yX8_slotsWithProps.cls cX8_slotsWithProps 3 (some .int) [] yX8_slotsWithProps.name p s m args meth c) : w_X8_slotsWithProps_35 G l p e s m args below meth c h0 r h' (f_X8_slotsWithProps_35) := by
  have hx := X.1
  have hb := X.2.1
  have hown := X.2.2.2.1
  have hts := X.2.2.2.2.1
  intro x1 h H locs cells slots ls hf hI hl
  unfold f_X8_slotsWithProps_35 at hf
  refine lv_iload_n hx hb dX8_slotsWithProps_35 rfl (lv_at hl 0 rfl) ?_
  cases gRet_e hf
  exact g_retI X hI rfl dX8_slotsWithProps_36
def f_X8_slotsWithProps_4 : Nat → Nat → Int32 → Int32 → gM Int32
  | 0, _, _, _ => gFail
  | n + 1, a0, x1, x2 =>
    gIf ((10 : Int32) ≤ x2)
    (f_X8_slotsWithProps_35 x1)
    (gB (gCk a0 7) fun _ =>
    gB (f_X8_propIn a0 x2) fun r101 =>
    gIf (r101 = (-1 : Int32))
    (f_X8_slotsWithProps_27 (f_X8_slotsWithProps_4 n) a0 x2 x1 (0 : Int32))
    (f_X8_slotsWithProps_27 (f_X8_slotsWithProps_4 n) a0 x2 x1 ((1 : Int32) <<< (x2 &&& 31))))
set_option maxHeartbeats 4000000 in
set_option maxRecDepth 100000 in
theorem b_X8_slotsWithProps_4 {G : gG} {l : Launch} {p : Program} {e : Env} {s : State} {m : MethodId} {args : Array Value} {below : List Frame} {meth : Method} {c : Code} {h0 : g_H} {r : Int32} {h' : g_H} (X : gX G l yX8_slotsWithProps.cls cX8_slotsWithProps 3 (some .int) [] yX8_slotsWithProps.name p s m args meth c) : ∀ n : Nat, w_X8_slotsWithProps_4 G l p e s m args below meth c h0 r h' (f_X8_slotsWithProps_4 n) := by
  have hx := X.1
  have hb := X.2.1
  have hown := X.2.2.2.1
  have hts := X.2.2.2.2.1
  intro n
  induction n with
  | zero =>
    intro a0 x1 x2 h H locs cells slots ls hf hI hl
    exact (gFail_f hf).elim
  | succ n ih =>
    intro a0 x1 x2 h H locs cells slots ls hf hI hl
    rw [f_X8_slotsWithProps_4] at hf
    refine lv_iload_n hx hb dX8_slotsWithProps_4 rfl (lv_at hl 2 rfl) ?_
    refine lv_bipush (v := (10 : Int32)) hx hb dX8_slotsWithProps_5 (by decide) ?_
    refine lv_icmp_ge (tgt := 35) hx hb dX8_slotsWithProps_7 (by decide) (fun c7 => ?_) (fun c7 => ?_)
    · have hf := g_t c7 hf
      exact b_X8_slotsWithProps_35 X _ _ _ _ _ _ _ hf hI (lv_sub hl [1] rfl)
    · have hf := g_f c7 hf
      refine lv_iload_n hx hb dX8_slotsWithProps_10 rfl (lv_at hl 1 rfl) ?_
      refine lv_aload_n hx hb dX8_slotsWithProps_11 rfl (lv_at hl 0 rfl) ?_
      refine lv_iload_n hx hb dX8_slotsWithProps_12 rfl (lv_at hl 2 rfl) ?_
      obtain ⟨hs, hf⟩ := gCk_b hf
      refine g_cBI hI hf (fun v9 h9 e9 l9 l9' => g_rV X hI l9 l9' ⟨Nat.le_refl _, Nat.le_refl _⟩ (As := [.int x2]) (m_X8_propIn X.2.2.2.2.2.2.2.2.2.2.1 e9) ydX8_propIn hs rfl rfl q1655 q1657 qs58 q131 q1658 rfl (Nat.le_of_ble_eq_true rfl) (Nat.le_of_ble_eq_true rfl) hl.1 rfl (Nat.le_of_ble_eq_true rfl) dX8_slotsWithProps_13) (fun r101 h H locs cells slots hf hI => ?_)
      refine lv_iconst (v := (-1 : Int32)) hx hb dX8_slotsWithProps_16 (by decide) ?_
      refine lv_icmp_eq (tgt := 26) hx hb dX8_slotsWithProps_17 (by decide) (fun c17 => ?_) (fun c17 => ?_)
      · have hf := g_t c17 hf
        refine lv_iconst (v := (0 : Int32)) hx hb dX8_slotsWithProps_26 (by decide) ?_
        exact b_X8_slotsWithProps_27 X ih _ _ _ _ _ _ _ _ _ _ hf hI (lv_sub hl [0, 2] rfl)
      · have hf := g_f c17 hf
        refine lv_iconst (v := (1 : Int32)) hx hb dX8_slotsWithProps_20 (by decide) ?_
        refine lv_iload_n hx hb dX8_slotsWithProps_21 rfl (lv_at hl 2 rfl) ?_
        refine lv_ishl hx hb dX8_slotsWithProps_22 ?_
        refine lv_goto (tgt := 27) hx hb dX8_slotsWithProps_23 (by decide) ?_
        exact b_X8_slotsWithProps_27 X ih _ _ _ _ _ _ _ _ _ _ hf hI (lv_sub hl [0, 2] rfl)
def f_X8_slotsWithProps (a0 : Nat) : gM Int32 :=
    f_X8_slotsWithProps_4 gN a0 (0 : Int32) (0 : Int32)
set_option maxHeartbeats 4000000 in
set_option maxRecDepth 100000 in
theorem m_X8_slotsWithProps {G : gG} {l : Launch} (hfl : l.stackTraces = false) {a0 : Nat} {h h' : g_H} {r : Int32} (hf : (f_X8_slotsWithProps a0).1 h = some (r, h')) : gMet G l yX8_slotsWithProps (Cond.code yX8_slotsWithProps cX8_slotsWithProps 3 (some .int)) 4 85 [.ref a0] h (.inl (g_wI r)) h' := by
  refine g_head hfl ((f_X8_slotsWithProps a0).2 h r h' hf) (plainFor_of_name (by decide)) (Nat.le_of_ble_eq_true rfl) (fun p e s m below meth c H locs cells slots ls X hI hl9 => ?_)
  have hl : lv_has ls 3 [(0, .ref a0)] := hl9
  have hx := X.1
  have hb := X.2.1
  have hown := X.2.2.2.1
  have hts := X.2.2.2.2.1
  unfold f_X8_slotsWithProps at hf
  refine lv_iconst (v := (0 : Int32)) hx hb dX8_slotsWithProps_0 (by decide) ?_
  refine lv_istore_n (lv' := [(1, .int (0 : Int32)), (0, .ref a0)]) hx hb dX8_slotsWithProps_1 rfl hl (by decide) rfl (fun ls hl => ?_)
  refine lv_iconst (v := (0 : Int32)) hx hb dX8_slotsWithProps_2 (by decide) ?_
  refine lv_istore_n (lv' := [(2, .int (0 : Int32)), (1, .int (0 : Int32)), (0, .ref a0)]) hx hb dX8_slotsWithProps_3 rfl hl (by decide) rfl (fun ls hl => ?_)
  exact b_X8_slotsWithProps_4 X gN _ _ _ _ _ _ _ _ _ hf hI (lv_sub hl [2, 1, 0] rfl)
/-! X8_in -/
abbrev w_X8_in_15 (G : gG) (l : Launch) (p : Program) (e : Env) (s : State) (m : MethodId) (args : Array Value) (below : List Frame) (meth : Method) (c : Code) (h0 : g_H) (r : Int32) (h' : g_H) (k : Int32 → gM Int32) : Prop := ∀ (u0 : Int32) (h : g_H) (H : Heap) (locs : List Loc) (cells slots : Nat) (ls : Array Slot), (k u0).1 h = some (r, h') → gI G h0 h H locs cells slots → lv_has ls 3 [] → W p l e (g_rm 1 20 h0 h') s m args below meth c H locs cells slots (gQ G below args s h0 h' (.inl (g_wI r))) (F0 m 15 ls [.int u0])
abbrev w_X8_in_14 (G : gG) (l : Launch) (p : Program) (e : Env) (s : State) (m : MethodId) (args : Array Value) (below : List Frame) (meth : Method) (c : Code) (h0 : g_H) (r : Int32) (h' : g_H) (k : gM Int32) : Prop := ∀ (h : g_H) (H : Heap) (locs : List Loc) (cells slots : Nat) (ls : Array Slot), (k).1 h = some (r, h') → gI G h0 h H locs cells slots → lv_has ls 3 [] → W p l e (g_rm 1 20 h0 h') s m args below meth c H locs cells slots (gQ G below args s h0 h' (.inl (g_wI r))) (F0 m 14 ls [])
def f_X8_in_15 (u0 : Int32) : gM Int32 :=
    gB (gGd (u0 = 0 ∨ u0 = 1)) fun _ =>
    (gRet u0)
set_option maxHeartbeats 4000000 in
set_option maxRecDepth 100000 in
theorem b_X8_in_15 {G : gG} {l : Launch} {p : Program} {e : Env} {s : State} {m : MethodId} {args : Array Value} {below : List Frame} {meth : Method} {c : Code} {h0 : g_H} {r : Int32} {h' : g_H} (X : gX G l yX8_in.cls cX8_in 3 (some .boolean) [] yX8_in.name p s m args meth c) : w_X8_in_15 G l p e s m args below meth c h0 r h' (f_X8_in_15) := by
  have hx := X.1
  have hb := X.2.1
  have hown := X.2.2.2.1
  have hts := X.2.2.2.2.1
  intro u0 h H locs cells slots ls hf hI hl
  unfold f_X8_in_15 at hf
  obtain ⟨hz, hf⟩ := gB_gd hf
  cases gRet_e hf
  exact g_retZ X hI hz rfl dX8_in_15
def f_X8_in_14 : gM Int32 :=
    f_X8_in_15 (0 : Int32)
set_option maxHeartbeats 4000000 in
set_option maxRecDepth 100000 in
theorem b_X8_in_14 {G : gG} {l : Launch} {p : Program} {e : Env} {s : State} {m : MethodId} {args : Array Value} {below : List Frame} {meth : Method} {c : Code} {h0 : g_H} {r : Int32} {h' : g_H} (X : gX G l yX8_in.cls cX8_in 3 (some .boolean) [] yX8_in.name p s m args meth c) : w_X8_in_14 G l p e s m args below meth c h0 r h' (f_X8_in_14) := by
  have hx := X.1
  have hb := X.2.1
  have hown := X.2.2.2.1
  have hts := X.2.2.2.2.1
  intro h H locs cells slots ls hf hI hl
  unfold f_X8_in_14 at hf
  refine lv_iconst (v := (0 : Int32)) hx hb dX8_in_14 (by decide) ?_
  exact b_X8_in_15 X _ _ _ _ _ _ _ hf hI (lv_sub hl [] rfl)
def f_X8_in (x0 : Int32) (x1 : Int32) (x2 : Int32) : gM Int32 :=
    gIf (x0 < x1)
    (f_X8_in_14)
    (gIf (x2 < x0)
    (f_X8_in_14)
    (f_X8_in_15 (1 : Int32)))
set_option maxHeartbeats 4000000 in
set_option maxRecDepth 100000 in
theorem m_X8_in {G : gG} {l : Launch} (hfl : l.stackTraces = false) {x0 : Int32} {x1 : Int32} {x2 : Int32} {h h' : g_H} {r : Int32} (hf : (f_X8_in x0 x1 x2).1 h = some (r, h')) : gMet G l yX8_in (Cond.code yX8_in cX8_in 3 (some .boolean)) 1 20 [.int x0, .int x1, .int x2] h (.inl (g_wI r)) h' := by
  refine g_head hfl ((f_X8_in x0 x1 x2).2 h r h' hf) (plainFor_of_name (by decide)) (Nat.le_of_ble_eq_true rfl) (fun p e s m below meth c H locs cells slots ls X hI hl9 => ?_)
  have hl : lv_has ls 3 [(0, .int x0), (1, .int x1), (2, .int x2)] := hl9
  have hx := X.1
  have hb := X.2.1
  have hown := X.2.2.2.1
  have hts := X.2.2.2.2.1
  unfold f_X8_in at hf
  refine lv_iload_n hx hb dX8_in_0 rfl (lv_at hl 0 rfl) ?_
  refine lv_iload_n hx hb dX8_in_1 rfl (lv_at hl 1 rfl) ?_
  refine lv_icmp_lt (tgt := 14) hx hb dX8_in_2 (by decide) (fun c2 => ?_) (fun c2 => ?_)
  · have hf := g_t c2 hf
    exact b_X8_in_14 X _ _ _ _ _ _ hf hI (lv_sub hl [] rfl)
  · have hf := g_f c2 hf
    refine lv_iload_n hx hb dX8_in_5 rfl (lv_at hl 0 rfl) ?_
    refine lv_iload_n hx hb dX8_in_6 rfl (lv_at hl 2 rfl) ?_
    refine lv_icmp_gt (tgt := 14) hx hb dX8_in_7 (by decide) (fun c7 => ?_) (fun c7 => ?_)
    · have hf := g_t c7 hf
      exact b_X8_in_14 X _ _ _ _ _ _ hf hI (lv_sub hl [] rfl)
    · have hf := g_f c7 hf
      refine lv_iconst (v := (1 : Int32)) hx hb dX8_in_10 (by decide) ?_
      refine lv_goto (tgt := 15) hx hb dX8_in_11 (by decide) ?_
      exact b_X8_in_15 X _ _ _ _ _ _ _ hf hI (lv_sub hl [] rfl)
/-! X8_count -/
abbrev w_X8_count_90 (G : gG) (l : Launch) (p : Program) (e : Env) (s : State) (m : MethodId) (args : Array Value) (below : List Frame) (meth : Method) (c : Code) (h0 : g_H) (r : Int32) (h' : g_H) (k : Int32 → gM Int32) : Prop := ∀ (u0 : Int32) (h : g_H) (H : Heap) (locs : List Loc) (cells slots : Nat) (ls : Array Slot), (k u0).1 h = some (r, h') → gI G h0 h H locs cells slots → lv_has ls 2 [] → W p l e (g_rm 5 107 h0 h') s m args below meth c H locs cells slots (gQ G below args s h0 h' (.inl (g_wI r))) (F0 m 90 ls [.int u0])
abbrev w_X8_count_143 (G : gG) (l : Launch) (p : Program) (e : Env) (s : State) (m : MethodId) (args : Array Value) (below : List Frame) (meth : Method) (c : Code) (h0 : g_H) (r : Int32) (h' : g_H) (k : Int32 → gM Int32) : Prop := ∀ (u0 : Int32) (h : g_H) (H : Heap) (locs : List Loc) (cells slots : Nat) (ls : Array Slot), (k u0).1 h = some (r, h') → gI G h0 h H locs cells slots → lv_has ls 2 [] → W p l e (g_rm 5 107 h0 h') s m args below meth c H locs cells slots (gQ G below args s h0 h' (.inl (g_wI r))) (F0 m 143 ls [.int u0])
def f_X8_count_90 (u0 : Int32) : gM Int32 :=
    (gRet u0)
set_option maxHeartbeats 4000000 in
set_option maxRecDepth 100000 in
theorem b_X8_count_90 {G : gG} {l : Launch} {p : Program} {e : Env} {s : State} {m : MethodId} {args : Array Value} {below : List Frame} {meth : Method} {c : Code} {h0 : g_H} {r : Int32} {h' : g_H} (X : gX G l yX8_count.cls cX8_count 2 (some .int) [] yX8_count.name p s m args meth c) : w_X8_count_90 G l p e s m args below meth c h0 r h' (f_X8_count_90) := by
  have hx := X.1
  have hb := X.2.1
  have hown := X.2.2.2.1
  have hts := X.2.2.2.2.1
  intro u0 h H locs cells slots ls hf hI hl
  unfold f_X8_count_90 at hf
  cases gRet_e hf
  exact g_retI X hI rfl dX8_count_90
def f_X8_count_143 (u0 : Int32) : gM Int32 :=
    (gRet u0)
set_option maxHeartbeats 4000000 in
set_option maxRecDepth 100000 in
theorem b_X8_count_143 {G : gG} {l : Launch} {p : Program} {e : Env} {s : State} {m : MethodId} {args : Array Value} {below : List Frame} {meth : Method} {c : Code} {h0 : g_H} {r : Int32} {h' : g_H} (X : gX G l yX8_count.cls cX8_count 2 (some .int) [] yX8_count.name p s m args meth c) : w_X8_count_143 G l p e s m args below meth c h0 r h' (f_X8_count_143) := by
  have hx := X.1
  have hb := X.2.1
  have hown := X.2.2.2.1
  have hts := X.2.2.2.2.1
  intro u0 h H locs cells slots ls hf hI hl
  unfold f_X8_count_143 at hf
  cases gRet_e hf
  exact g_retI X hI rfl dX8_count_143
def f_X8_count (a0 : Nat) (x1 : Int32) : gM Int32 :=
    gB (gPI a0 7 0 (0 : Int32)) fun _ =>
    gIf (x1 = (3 : Int32))
    (gB (gFR a0 7 1) fun v1 =>
    gB (gAI v1 0 (3 : Int32)) fun v2 =>
    gIf (v2 = (1 : Int32))
    (gB (gFR a0 7 1) fun v3 =>
    gB (gAI v3 0 (305 : Int32)) fun v4 =>
    f_X8_count_90 v4)
    (f_X8_count_90 (-1 : Int32)))
    (gIf (x1 = (7 : Int32))
    (gB (gCk a0 7) fun _ =>
    gB (f_X8_slotsWithProps a0) fun r5 =>
    (gRet r5))
    (gIf (x1 = (8 : Int32))
    (gB (gCk a0 7) fun _ =>
    gB (f_X8_ofState a0 (x1 - (8 : Int32))) fun r6 =>
    (gRet r6))
    (gIf (x1 = (9 : Int32))
    (gB (gCk a0 7) fun _ =>
    gB (f_X8_ofState a0 (x1 - (8 : Int32))) fun r7 =>
    (gRet r7))
    (gIf (x1 = (10 : Int32))
    (gB (gCk a0 7) fun _ =>
    gB (f_X8_ofState a0 (x1 - (8 : Int32))) fun r8 =>
    (gRet r8))
    (gIf (x1 = (11 : Int32))
    (gB (gCk a0 7) fun _ =>
    gB (f_X8_ofState a0 (x1 - (8 : Int32))) fun r9 =>
    (gRet r9))
    (gIf (x1 = (12 : Int32))
    (gB (gCk a0 7) fun _ =>
    gB (f_X8_wornOfAll a0) fun r10 =>
    (gRet r10))
    (gIf (x1 = (13 : Int32))
    (gB (gFR a0 7 1) fun v11 =>
    gB (gAI v11 0 (7 : Int32)) fun v12 =>
    (gRet v12))
    (gIf (x1 = (14 : Int32))
    (gB (gFI a0 7 7) fun v13 =>
    (gRet v13))
    (gB (f_X8_in x1 (0 : Int32) (6 : Int32)) fun r23 =>
    gIf (r23 = 0)
    (f_X8_count_143 (-1 : Int32))
    (gB (gFR a0 7 1) fun v24 =>
    gB (gAI v24 0 x1) fun v25 =>
    f_X8_count_143 v25))))))))))
set_option maxHeartbeats 4000000 in
set_option maxRecDepth 100000 in
theorem m_X8_count {G : gG} {l : Launch} (hfl : l.stackTraces = false) {a0 : Nat} {x1 : Int32} {h h' : g_H} {r : Int32} (hf : (f_X8_count a0 x1).1 h = some (r, h')) : gMet G l yX8_count (Cond.code yX8_count cX8_count 2 (some .int)) 5 107 [.ref a0, .int x1] h (.inl (g_wI r)) h' := by
  refine g_head hfl ((f_X8_count a0 x1).2 h r h' hf) (plainFor_of_name (by decide)) (Nat.le_of_ble_eq_true rfl) (fun p e s m below meth c H locs cells slots ls X hI hl9 => ?_)
  have hl : lv_has ls 2 [(0, .ref a0), (1, .int x1)] := hl9
  have hx := X.1
  have hb := X.2.1
  have hown := X.2.2.2.1
  have hts := X.2.2.2.2.1
  unfold f_X8_count at hf
  refine lv_aload_n hx hb dX8_count_0 rfl (lv_at hl 0 rfl) ?_
  refine lv_iconst (v := (0 : Int32)) hx hb dX8_count_1 (by decide) ?_
  refine g_pi X hI hf fX8_0 q1444 rfl dX8_count_2 (fun h H locs hf hI => ?_)
  refine lv_iload_n hx hb dX8_count_5 rfl (lv_at hl 1 rfl) ?_
  by_cases c6_0 : x1 = (3 : Int32)
  · have hf := g_t c6_0 hf
    refine g_tsIn (k := (3 : Int32)) (off := 62) (tgt := 68) hx hb c6_0 dX8_count_6 (by decide) (by decide) rfl (by decide) ?_
    refine lv_aload_n hx hb dX8_count_68 rfl (lv_at hl 0 rfl) ?_
    refine g_fr X hI hf fX8_1 q1445 rfl rfl dX8_count_69 (fun v1 hf => ?_)
    refine lv_iconst (v := (3 : Int32)) hx hb dX8_count_72 (by decide) ?_
    refine g_ai0 X hI hf dX8_count_73 (fun v2 hf => ?_)
    refine lv_iconst (v := (1 : Int32)) hx hb dX8_count_74 (by decide) ?_
    refine lv_icmp_ne (tgt := 89) hx hb dX8_count_75 (by decide) (fun c75 => ?_) (fun c75 => ?_)
    · have hf := g_f c75 hf
      refine lv_iconst (v := (-1 : Int32)) hx hb dX8_count_89 (by decide) ?_
      exact b_X8_count_90 X _ _ _ _ _ _ _ hf hI (lv_sub hl [] rfl)
    · have hf := g_t c75 hf
      refine lv_aload_n hx hb dX8_count_78 rfl (lv_at hl 0 rfl) ?_
      refine g_fr X hI hf fX8_1 q1445 rfl rfl dX8_count_79 (fun v3 hf => ?_)
      refine lv_sipush (v := (305 : Int32)) hx hb dX8_count_82 (by decide) ?_
      refine g_ai0 X hI hf dX8_count_85 (fun v4 hf => ?_)
      refine lv_goto (tgt := 90) hx hb dX8_count_86 (by decide) ?_
      exact b_X8_count_90 X _ _ _ _ _ _ _ hf hI (lv_sub hl [] rfl)
  have hf := g_f c6_0 hf
  by_cases c6_4 : x1 = (7 : Int32)
  · have hf := g_t c6_4 hf
    refine g_tsIn (k := (7 : Int32)) (off := 85) (tgt := 91) hx hb c6_4 dX8_count_6 (by decide) (by decide) rfl (by decide) ?_
    refine lv_aload_n hx hb dX8_count_91 rfl (lv_at hl 0 rfl) ?_
    obtain ⟨hs, hf⟩ := gCk_b hf
    refine g_cBI hI hf (fun v9 h9 e9 l9 l9' => g_rV X hI l9 l9' ⟨Nat.le_refl _, Nat.le_refl _⟩ (As := []) (m_X8_slotsWithProps X.2.2.2.2.2.2.2.2.2.2.1 e9) ydX8_slotsWithProps hs rfl rfl q2093 q2095 qs118 q131 q2096 rfl (Nat.le_of_ble_eq_true rfl) (Nat.le_of_ble_eq_true rfl) hl.1 rfl (Nat.le_of_ble_eq_true rfl) dX8_count_92) (fun r5 h H locs cells slots hf hI => ?_)
    cases gRet_e hf
    exact g_retI X hI rfl dX8_count_95
  have hf := g_f c6_4 hf
  by_cases c6_5 : x1 = (8 : Int32)
  · have hf := g_t c6_5 hf
    refine g_tsIn (k := (8 : Int32)) (off := 90) (tgt := 96) hx hb c6_5 dX8_count_6 (by decide) (by decide) rfl (by decide) ?_
    refine lv_aload_n hx hb dX8_count_96 rfl (lv_at hl 0 rfl) ?_
    refine lv_iload_n hx hb dX8_count_97 rfl (lv_at hl 1 rfl) ?_
    refine lv_bipush (v := (8 : Int32)) hx hb dX8_count_98 (by decide) ?_
    refine lv_isub hx hb dX8_count_100 ?_
    obtain ⟨hs, hf⟩ := gCk_b hf
    refine g_cBI hI hf (fun v9 h9 e9 l9 l9' => g_rV X hI l9 l9' ⟨Nat.le_refl _, Nat.le_refl _⟩ (As := [.int (x1 - (8 : Int32))]) (m_X8_ofState X.2.2.2.2.2.2.2.2.2.2.1 e9) ydX8_ofState hs rfl rfl q1870 q1872 qs93 q131 q1873 rfl (Nat.le_of_ble_eq_true rfl) (Nat.le_of_ble_eq_true rfl) hl.1 rfl (Nat.le_of_ble_eq_true rfl) dX8_count_101) (fun r6 h H locs cells slots hf hI => ?_)
    cases gRet_e hf
    exact g_retI X hI rfl dX8_count_104
  have hf := g_f c6_5 hf
  by_cases c6_6 : x1 = (9 : Int32)
  · have hf := g_t c6_6 hf
    refine g_tsIn (k := (9 : Int32)) (off := 90) (tgt := 96) hx hb c6_6 dX8_count_6 (by decide) (by decide) rfl (by decide) ?_
    refine lv_aload_n hx hb dX8_count_96 rfl (lv_at hl 0 rfl) ?_
    refine lv_iload_n hx hb dX8_count_97 rfl (lv_at hl 1 rfl) ?_
    refine lv_bipush (v := (8 : Int32)) hx hb dX8_count_98 (by decide) ?_
    refine lv_isub hx hb dX8_count_100 ?_
    obtain ⟨hs, hf⟩ := gCk_b hf
    refine g_cBI hI hf (fun v9 h9 e9 l9 l9' => g_rV X hI l9 l9' ⟨Nat.le_refl _, Nat.le_refl _⟩ (As := [.int (x1 - (8 : Int32))]) (m_X8_ofState X.2.2.2.2.2.2.2.2.2.2.1 e9) ydX8_ofState hs rfl rfl q1870 q1872 qs93 q131 q1873 rfl (Nat.le_of_ble_eq_true rfl) (Nat.le_of_ble_eq_true rfl) hl.1 rfl (Nat.le_of_ble_eq_true rfl) dX8_count_101) (fun r7 h H locs cells slots hf hI => ?_)
    cases gRet_e hf
    exact g_retI X hI rfl dX8_count_104
  have hf := g_f c6_6 hf
  by_cases c6_7 : x1 = (10 : Int32)
  · have hf := g_t c6_7 hf
    refine g_tsIn (k := (10 : Int32)) (off := 90) (tgt := 96) hx hb c6_7 dX8_count_6 (by decide) (by decide) rfl (by decide) ?_
    refine lv_aload_n hx hb dX8_count_96 rfl (lv_at hl 0 rfl) ?_
    refine lv_iload_n hx hb dX8_count_97 rfl (lv_at hl 1 rfl) ?_
    refine lv_bipush (v := (8 : Int32)) hx hb dX8_count_98 (by decide) ?_
    refine lv_isub hx hb dX8_count_100 ?_
    obtain ⟨hs, hf⟩ := gCk_b hf
    refine g_cBI hI hf (fun v9 h9 e9 l9 l9' => g_rV X hI l9 l9' ⟨Nat.le_refl _, Nat.le_refl _⟩ (As := [.int (x1 - (8 : Int32))]) (m_X8_ofState X.2.2.2.2.2.2.2.2.2.2.1 e9) ydX8_ofState hs rfl rfl q1870 q1872 qs93 q131 q1873 rfl (Nat.le_of_ble_eq_true rfl) (Nat.le_of_ble_eq_true rfl) hl.1 rfl (Nat.le_of_ble_eq_true rfl) dX8_count_101) (fun r8 h H locs cells slots hf hI => ?_)
    cases gRet_e hf
    exact g_retI X hI rfl dX8_count_104
  have hf := g_f c6_7 hf
  by_cases c6_8 : x1 = (11 : Int32)
  · have hf := g_t c6_8 hf
    refine g_tsIn (k := (11 : Int32)) (off := 90) (tgt := 96) hx hb c6_8 dX8_count_6 (by decide) (by decide) rfl (by decide) ?_
    refine lv_aload_n hx hb dX8_count_96 rfl (lv_at hl 0 rfl) ?_
    refine lv_iload_n hx hb dX8_count_97 rfl (lv_at hl 1 rfl) ?_
    refine lv_bipush (v := (8 : Int32)) hx hb dX8_count_98 (by decide) ?_
    refine lv_isub hx hb dX8_count_100 ?_
    obtain ⟨hs, hf⟩ := gCk_b hf
    refine g_cBI hI hf (fun v9 h9 e9 l9 l9' => g_rV X hI l9 l9' ⟨Nat.le_refl _, Nat.le_refl _⟩ (As := [.int (x1 - (8 : Int32))]) (m_X8_ofState X.2.2.2.2.2.2.2.2.2.2.1 e9) ydX8_ofState hs rfl rfl q1870 q1872 qs93 q131 q1873 rfl (Nat.le_of_ble_eq_true rfl) (Nat.le_of_ble_eq_true rfl) hl.1 rfl (Nat.le_of_ble_eq_true rfl) dX8_count_101) (fun r9 h H locs cells slots hf hI => ?_)
    cases gRet_e hf
    exact g_retI X hI rfl dX8_count_104
  have hf := g_f c6_8 hf
  by_cases c6_9 : x1 = (12 : Int32)
  · have hf := g_t c6_9 hf
    refine g_tsIn (k := (12 : Int32)) (off := 99) (tgt := 105) hx hb c6_9 dX8_count_6 (by decide) (by decide) rfl (by decide) ?_
    refine lv_aload_n hx hb dX8_count_105 rfl (lv_at hl 0 rfl) ?_
    obtain ⟨hs, hf⟩ := gCk_b hf
    refine g_cBI hI hf (fun v9 h9 e9 l9 l9' => g_rV X hI l9 l9' ⟨Nat.le_refl _, Nat.le_refl _⟩ (As := []) (m_X8_wornOfAll X.2.2.2.2.2.2.2.2.2.2.1 e9) ydX8_wornOfAll hs rfl rfl q2097 q2099 qs119 q131 q2100 rfl (Nat.le_of_ble_eq_true rfl) (Nat.le_of_ble_eq_true rfl) hl.1 rfl (Nat.le_of_ble_eq_true rfl) dX8_count_106) (fun r10 h H locs cells slots hf hI => ?_)
    cases gRet_e hf
    exact g_retI X hI rfl dX8_count_109
  have hf := g_f c6_9 hf
  by_cases c6_10 : x1 = (13 : Int32)
  · have hf := g_t c6_10 hf
    refine g_tsIn (k := (13 : Int32)) (off := 104) (tgt := 110) hx hb c6_10 dX8_count_6 (by decide) (by decide) rfl (by decide) ?_
    refine lv_aload_n hx hb dX8_count_110 rfl (lv_at hl 0 rfl) ?_
    refine g_fr X hI hf fX8_1 q1445 rfl rfl dX8_count_111 (fun v11 hf => ?_)
    refine lv_bipush (v := (7 : Int32)) hx hb dX8_count_114 (by decide) ?_
    refine g_ai0 X hI hf dX8_count_116 (fun v12 hf => ?_)
    cases gRet_e hf
    exact g_retI X hI rfl dX8_count_117
  have hf := g_f c6_10 hf
  by_cases c6_11 : x1 = (14 : Int32)
  · have hf := g_t c6_11 hf
    refine g_tsIn (k := (14 : Int32)) (off := 112) (tgt := 118) hx hb c6_11 dX8_count_6 (by decide) (by decide) rfl (by decide) ?_
    refine lv_aload_n hx hb dX8_count_118 rfl (lv_at hl 0 rfl) ?_
    refine g_fi X hI hf fX8_7 q1451 rfl rfl dX8_count_119 (fun v13 hf => ?_)
    cases gRet_e hf
    exact g_retI X hI rfl dX8_count_122
  have hf := g_f c6_11 hf
  by_cases c6_1 : x1 = (4 : Int32)
  · refine g_tsIn (k := (4 : Int32)) (off := 117) (tgt := 123) hx hb c6_1 dX8_count_6 (by decide) (by decide) rfl (by decide) ?_
    refine lv_iload_n hx hb dX8_count_123 rfl (lv_at hl 1 rfl) ?_
    refine lv_iconst (v := (0 : Int32)) hx hb dX8_count_124 (by decide) ?_
    refine lv_bipush (v := (6 : Int32)) hx hb dX8_count_125 (by decide) ?_
    refine g_cBI hI hf (fun v9 h9 e9 l9 l9' => g_rS (b := 0) X hI l9 l9' ⟨Nat.le_refl _, Nat.le_refl _⟩ (As := [.int x1, .int (0 : Int32), .int (6 : Int32)]) (m_X8_in X.2.2.2.2.2.2.2.2.2.2.1 e9) ydX8_in q1634 q1635 q131 q1636 rfl (Nat.le_of_ble_eq_true rfl) (Nat.le_of_ble_eq_true rfl) hl.1 rfl (Nat.le_of_ble_eq_true rfl) dX8_count_127) (fun r17 h H locs cells slots hf hI => ?_)
    refine lv_if_eq (tgt := 142) hx hb dX8_count_130 (by decide) (fun c130 => ?_) (fun c130 => ?_)
    · have hf := g_t c130 hf
      refine lv_iconst (v := (-1 : Int32)) hx hb dX8_count_142 (by decide) ?_
      exact b_X8_count_143 X _ _ _ _ _ _ _ hf hI (lv_sub hl [] rfl)
    · have hf := g_f c130 hf
      refine lv_aload_n hx hb dX8_count_133 rfl (lv_at hl 0 rfl) ?_
      refine g_fr X hI hf fX8_1 q1445 rfl rfl dX8_count_134 (fun v18 hf => ?_)
      refine lv_iload_n hx hb dX8_count_137 rfl (lv_at hl 1 rfl) ?_
      refine g_ai0 X hI hf dX8_count_138 (fun v19 hf => ?_)
      refine lv_goto (tgt := 143) hx hb dX8_count_139 (by decide) ?_
      exact b_X8_count_143 X _ _ _ _ _ _ _ hf hI (lv_sub hl [] rfl)
  by_cases c6_2 : x1 = (5 : Int32)
  · refine g_tsIn (k := (5 : Int32)) (off := 117) (tgt := 123) hx hb c6_2 dX8_count_6 (by decide) (by decide) rfl (by decide) ?_
    refine lv_iload_n hx hb dX8_count_123 rfl (lv_at hl 1 rfl) ?_
    refine lv_iconst (v := (0 : Int32)) hx hb dX8_count_124 (by decide) ?_
    refine lv_bipush (v := (6 : Int32)) hx hb dX8_count_125 (by decide) ?_
    refine g_cBI hI hf (fun v9 h9 e9 l9 l9' => g_rS (b := 0) X hI l9 l9' ⟨Nat.le_refl _, Nat.le_refl _⟩ (As := [.int x1, .int (0 : Int32), .int (6 : Int32)]) (m_X8_in X.2.2.2.2.2.2.2.2.2.2.1 e9) ydX8_in q1634 q1635 q131 q1636 rfl (Nat.le_of_ble_eq_true rfl) (Nat.le_of_ble_eq_true rfl) hl.1 rfl (Nat.le_of_ble_eq_true rfl) dX8_count_127) (fun r20 h H locs cells slots hf hI => ?_)
    refine lv_if_eq (tgt := 142) hx hb dX8_count_130 (by decide) (fun c130 => ?_) (fun c130 => ?_)
    · have hf := g_t c130 hf
      refine lv_iconst (v := (-1 : Int32)) hx hb dX8_count_142 (by decide) ?_
      exact b_X8_count_143 X _ _ _ _ _ _ _ hf hI (lv_sub hl [] rfl)
    · have hf := g_f c130 hf
      refine lv_aload_n hx hb dX8_count_133 rfl (lv_at hl 0 rfl) ?_
      refine g_fr X hI hf fX8_1 q1445 rfl rfl dX8_count_134 (fun v21 hf => ?_)
      refine lv_iload_n hx hb dX8_count_137 rfl (lv_at hl 1 rfl) ?_
      refine g_ai0 X hI hf dX8_count_138 (fun v22 hf => ?_)
      refine lv_goto (tgt := 143) hx hb dX8_count_139 (by decide) ?_
      exact b_X8_count_143 X _ _ _ _ _ _ _ hf hI (lv_sub hl [] rfl)
  by_cases c6_3 : x1 = (6 : Int32)
  · refine g_tsIn (k := (6 : Int32)) (off := 117) (tgt := 123) hx hb c6_3 dX8_count_6 (by decide) (by decide) rfl (by decide) ?_
    refine lv_iload_n hx hb dX8_count_123 rfl (lv_at hl 1 rfl) ?_
    refine lv_iconst (v := (0 : Int32)) hx hb dX8_count_124 (by decide) ?_
    refine lv_bipush (v := (6 : Int32)) hx hb dX8_count_125 (by decide) ?_
    refine g_cBI hI hf (fun v9 h9 e9 l9 l9' => g_rS (b := 0) X hI l9 l9' ⟨Nat.le_refl _, Nat.le_refl _⟩ (As := [.int x1, .int (0 : Int32), .int (6 : Int32)]) (m_X8_in X.2.2.2.2.2.2.2.2.2.2.1 e9) ydX8_in q1634 q1635 q131 q1636 rfl (Nat.le_of_ble_eq_true rfl) (Nat.le_of_ble_eq_true rfl) hl.1 rfl (Nat.le_of_ble_eq_true rfl) dX8_count_127) (fun r23 h H locs cells slots hf hI => ?_)
    refine lv_if_eq (tgt := 142) hx hb dX8_count_130 (by decide) (fun c130 => ?_) (fun c130 => ?_)
    · have hf := g_t c130 hf
      refine lv_iconst (v := (-1 : Int32)) hx hb dX8_count_142 (by decide) ?_
      exact b_X8_count_143 X _ _ _ _ _ _ _ hf hI (lv_sub hl [] rfl)
    · have hf := g_f c130 hf
      refine lv_aload_n hx hb dX8_count_133 rfl (lv_at hl 0 rfl) ?_
      refine g_fr X hI hf fX8_1 q1445 rfl rfl dX8_count_134 (fun v24 hf => ?_)
      refine lv_iload_n hx hb dX8_count_137 rfl (lv_at hl 1 rfl) ?_
      refine g_ai0 X hI hf dX8_count_138 (fun v25 hf => ?_)
      refine lv_goto (tgt := 143) hx hb dX8_count_139 (by decide) ?_
      exact b_X8_count_143 X _ _ _ _ _ _ _ hf hI (lv_sub hl [] rfl)
  refine lv_tableOut (tgt := 123) hx hb dX8_count_6 (by have := lv_neT c6_0 (a := 3) rfl; have := lv_neT c6_4 (a := 7) rfl; have := lv_neT c6_5 (a := 8) rfl; have := lv_neT c6_6 (a := 9) rfl; have := lv_neT c6_7 (a := 10) rfl; have := lv_neT c6_8 (a := 11) rfl; have := lv_neT c6_9 (a := 12) rfl; have := lv_neT c6_10 (a := 13) rfl; have := lv_neT c6_11 (a := 14) rfl; have := lv_neT c6_1 (a := 4) rfl; have := lv_neT c6_2 (a := 5) rfl; have := lv_neT c6_3 (a := 6) rfl; omega) (by decide) ?_
  refine lv_iload_n hx hb dX8_count_123 rfl (lv_at hl 1 rfl) ?_
  refine lv_iconst (v := (0 : Int32)) hx hb dX8_count_124 (by decide) ?_
  refine lv_bipush (v := (6 : Int32)) hx hb dX8_count_125 (by decide) ?_
  refine g_cBI hI hf (fun v9 h9 e9 l9 l9' => g_rS (b := 0) X hI l9 l9' ⟨Nat.le_refl _, Nat.le_refl _⟩ (As := [.int x1, .int (0 : Int32), .int (6 : Int32)]) (m_X8_in X.2.2.2.2.2.2.2.2.2.2.1 e9) ydX8_in q1634 q1635 q131 q1636 rfl (Nat.le_of_ble_eq_true rfl) (Nat.le_of_ble_eq_true rfl) hl.1 rfl (Nat.le_of_ble_eq_true rfl) dX8_count_127) (fun r23 h H locs cells slots hf hI => ?_)
  refine lv_if_eq (tgt := 142) hx hb dX8_count_130 (by decide) (fun c130 => ?_) (fun c130 => ?_)
  · have hf := g_t c130 hf
    refine lv_iconst (v := (-1 : Int32)) hx hb dX8_count_142 (by decide) ?_
    exact b_X8_count_143 X _ _ _ _ _ _ _ hf hI (lv_sub hl [] rfl)
  · have hf := g_f c130 hf
    refine lv_aload_n hx hb dX8_count_133 rfl (lv_at hl 0 rfl) ?_
    refine g_fr X hI hf fX8_1 q1445 rfl rfl dX8_count_134 (fun v24 hf => ?_)
    refine lv_iload_n hx hb dX8_count_137 rfl (lv_at hl 1 rfl) ?_
    refine g_ai0 X hI hf dX8_count_138 (fun v25 hf => ?_)
    refine lv_goto (tgt := 143) hx hb dX8_count_139 (by decide) ?_
    exact b_X8_count_143 X _ _ _ _ _ _ _ hf hI (lv_sub hl [] rfl)
end
