section GS
variable {p : Program} {l : Launch} {e : Env} {R : Room} {s : State} {m : MethodId} {args : Array Value} {below : List Frame} {meth : Method} {c : Code} {H : Heap} {locs : List Loc} {cells slots : Nat} {Q : State → Prop}
variable {G : gG} {h0 h : g_H} {own : String} {cc : ByteArray} {nL : Nat} {ret : Option FieldType} {hh : List (Nat × Nat × Nat × Nat)} {nm : String} {pc : Nat} {ls : Array Slot} {rest : List Value} {β : Type} {q : β × g_H}
theorem g_ai0 (X : gX G l own cc nL ret hh nm p s m args meth c) (hI : gI G h0 h H locs cells slots) {a : Nat} {i : Int32} {K : Int32 → gM β} (hf : (gB (gAI a 0 i) K).1 h = some q) (hdg : decode cc pc = .ok (.iaload, 1))
    (kk : ∀ v : Int32, (K v).1 h = some q → W p l e R s m args below meth c H locs cells slots Q (F0 m (pc + 1) ls (.int (v) :: rest))) : W p l e R s m args below meth c H locs cells slots Q (F0 m pc ls (.int i :: .ref a :: rest)) := by
  obtain ⟨v, hv, hf1⟩ := gB_rd hf
  by_cases hx : g_ix h a 0 i = true
  · rw [if_pos hx] at hv
    obtain ⟨n, hs, hin⟩ := g_ixS hx
    obtain ⟨-, hc, -⟩ := hI.1.2.2.2.2.1 a _ hs rfl
    have hlt : i.toNatClampNeg < n := Nat.not_le.mp fun q => hin (Or.inr q)
    refine W.iald (v := .int (g_iv h a i.toNatClampNeg)) X.1 X.2.1 hc ((X.2.2.2.2.2.1.1.2 0 _ rfl).1 n (fun j => .int (g_iv h a j))) (fun q => by cases q) (by show ¬ (i < 0 ∨ (arrV _ _ _).slots.size ≤ _); rw [arrV_size]; exact hin) (by show (arrV _ _ _).slots[_]? = _; rw [arrV_read _ _ hlt]) rfl rfl hdg ?_
    rw [Option.some.inj hv]
    exact kk v hf1
  · rw [if_neg hx] at hv
    cases hv
theorem g_ai1 (X : gX G l own cc nL ret hh nm p s m args meth c) (hI : gI G h0 h H locs cells slots) {a : Nat} {i : Int32} {K : Int32 → gM β} (hf : (gB (gAI a 1 i) K).1 h = some q) (hdg : decode cc pc = .ok (.baload, 1))
    (kk : ∀ v : Int32, (K v).1 h = some q → W p l e R s m args below meth c H locs cells slots Q (F0 m (pc + 1) ls (.int (v) :: rest))) : W p l e R s m args below meth c H locs cells slots Q (F0 m pc ls (.int i :: .ref a :: rest)) := by
  obtain ⟨v, hv, hf1⟩ := gB_rd hf
  by_cases hx : g_ix h a 1 i = true
  · rw [if_pos hx] at hv
    obtain ⟨n, hs, hin⟩ := g_ixS hx
    obtain ⟨-, hc, -⟩ := hI.1.2.2.2.2.1 a _ hs rfl
    have hlt : i.toNatClampNeg < n := Nat.not_le.mp fun q => hin (Or.inr q)
    refine W.bald (v := .int (g_iv h a i.toNatClampNeg)) X.1 X.2.1 hc ((X.2.2.2.2.2.1.1.2 1 _ rfl).1 n (fun j => .int (g_iv h a j))) (fun q => by cases q) (by show ¬ (i < 0 ∨ (arrV _ _ _).slots.size ≤ _); rw [arrV_size]; exact hin) (by show (arrV _ _ _).slots[_]? = _; rw [arrV_read _ _ hlt]) rfl rfl hdg ?_
    rw [Option.some.inj hv]
    exact kk v hf1
  · rw [if_neg hx] at hv
    cases hv
theorem g_ai3 (X : gX G l own cc nL ret hh nm p s m args meth c) (hI : gI G h0 h H locs cells slots) {a : Nat} {i : Int32} {K : Int32 → gM β} (hf : (gB (gAI a 3 i) K).1 h = some q) (hdg : decode cc pc = .ok (.baload, 1))
    (kk : ∀ v : Int32, (K v).1 h = some q → W p l e R s m args below meth c H locs cells slots Q (F0 m (pc + 1) ls (.int (v) :: rest))) : W p l e R s m args below meth c H locs cells slots Q (F0 m pc ls (.int i :: .ref a :: rest)) := by
  obtain ⟨v, hv, hf1⟩ := gB_rd hf
  by_cases hx : g_ix h a 3 i = true
  · rw [if_pos hx] at hv
    obtain ⟨n, hs, hin⟩ := g_ixS hx
    obtain ⟨-, hc, -⟩ := hI.1.2.2.2.2.1 a _ hs rfl
    have hlt : i.toNatClampNeg < n := Nat.not_le.mp fun q => hin (Or.inr q)
    refine W.zald (v := .int (g_iv h a i.toNatClampNeg)) X.1 X.2.1 hc ((X.2.2.2.2.2.1.1.2 3 _ rfl).1 n (fun j => .int (g_iv h a j))) (fun q => by cases q) (by show ¬ (i < 0 ∨ (arrV _ _ _).slots.size ≤ _); rw [arrV_size]; exact hin) (by show (arrV _ _ _).slots[_]? = _; rw [arrV_read _ _ hlt]) rfl rfl hdg ?_
    rw [Option.some.inj hv]
    exact kk v hf1
  · rw [if_neg hx] at hv
    cases hv
theorem g_ai2 (X : gX G l own cc nL ret hh nm p s m args meth c) (hI : gI G h0 h H locs cells slots) {a : Nat} {i : Int32} {K : Int32 → gM β} (hf : (gB (gAI a 2 i) K).1 h = some q) (hdg : decode cc pc = .ok (.laload, 1))
    (kk : ∀ v : Int32, (K v).1 h = some q → W p l e R s m args below meth c H locs cells slots Q (F0 m (pc + 1) ls (.long ((v).toInt64) :: rest))) : W p l e R s m args below meth c H locs cells slots Q (F0 m pc ls (.int i :: .ref a :: rest)) := by
  obtain ⟨v, hv, hf1⟩ := gB_rd hf
  by_cases hx : g_ix h a 2 i = true
  · rw [if_pos hx] at hv
    obtain ⟨n, hs, hin⟩ := g_ixS hx
    obtain ⟨-, hc, -⟩ := hI.1.2.2.2.2.1 a _ hs rfl
    have hlt : i.toNatClampNeg < n := Nat.not_le.mp fun q => hin (Or.inr q)
    refine W.lald (v := .long ((g_iv h a i.toNatClampNeg).toInt64)) X.1 X.2.1 hc ((X.2.2.2.2.2.1.1.2 2 _ rfl).1 n (fun j => .long ((g_iv h a j).toInt64))) (fun q => by cases q) (by show ¬ (i < 0 ∨ (arrV _ _ _).slots.size ≤ _); rw [arrV_size]; exact hin) (by show (arrV _ _ _).slots[_]? = _; rw [arrV_read _ _ hlt]) rfl rfl hdg ?_
    rw [Option.some.inj hv]
    exact kk v hf1
  · rw [if_neg hx] at hv
    cases hv
theorem g_ar4 (X : gX G l own cc nL ret hh nm p s m args meth c) (hI : gI G h0 h H locs cells slots) {a : Nat} {i : Int32} {K : Nat → gM β} (hf : (gB (gAR a 4 i) K).1 h = some q) (hdg : decode cc pc = .ok (.aaload, 1))
    (kk : ∀ v : Nat, (K v).1 h = some q → W p l e R s m args below meth c H locs cells slots Q (F0 m (pc + 1) ls (.ref v :: rest))) : W p l e R s m args below meth c H locs cells slots Q (F0 m pc ls (.int i :: .ref a :: rest)) := by
  obtain ⟨v, hv, hf1⟩ := gB_rd hf
  by_cases hx : g_ix h a 4 i = true
  · rw [if_pos hx] at hv
    obtain ⟨n, hs, hin⟩ := g_ixS hx
    obtain ⟨-, hc, -⟩ := hI.1.2.2.2.2.1 a _ hs rfl
    have hlt : i.toNatClampNeg < n := Nat.not_le.mp fun q => hin (Or.inr q)
    refine W.aald (v := va_rf (g_rv h a i.toNatClampNeg)) (ty := .object RX4) X.1 X.2.1 hc ((X.2.2.2.2.2.1.1.2 4 _ rfl).1 n (fun j => va_rf (g_rv h a j))) rfl (fun q => by cases q) (by show ¬ (i < 0 ∨ (arrV _ _ _).slots.size ≤ _); rw [arrV_size]; exact hin) (by show (arrV _ _ _).slots[_]? = _; rw [arrV_read _ _ hlt]) rfl rfl hdg ?_
    rw [hv]
    exact kk v hf1
  · rw [if_neg hx] at hv
    cases hv
theorem g_ar5 (X : gX G l own cc nL ret hh nm p s m args meth c) (hI : gI G h0 h H locs cells slots) {a : Nat} {i : Int32} {K : Nat → gM β} (hf : (gB (gAR a 5 i) K).1 h = some q) (hdg : decode cc pc = .ok (.aaload, 1))
    (kk : ∀ v : Nat, (K v).1 h = some q → W p l e R s m args below meth c H locs cells slots Q (F0 m (pc + 1) ls (.ref v :: rest))) : W p l e R s m args below meth c H locs cells slots Q (F0 m pc ls (.int i :: .ref a :: rest)) := by
  obtain ⟨v, hv, hf1⟩ := gB_rd hf
  by_cases hx : g_ix h a 5 i = true
  · rw [if_pos hx] at hv
    obtain ⟨n, hs, hin⟩ := g_ixS hx
    obtain ⟨-, hc, -⟩ := hI.1.2.2.2.2.1 a _ hs rfl
    have hlt : i.toNatClampNeg < n := Nat.not_le.mp fun q => hin (Or.inr q)
    refine W.aald (v := va_rf (g_rv h a i.toNatClampNeg)) (ty := .object RX5) X.1 X.2.1 hc ((X.2.2.2.2.2.1.1.2 5 _ rfl).1 n (fun j => va_rf (g_rv h a j))) rfl (fun q => by cases q) (by show ¬ (i < 0 ∨ (arrV _ _ _).slots.size ≤ _); rw [arrV_size]; exact hin) (by show (arrV _ _ _).slots[_]? = _; rw [arrV_read _ _ hlt]) rfl rfl hdg ?_
    rw [hv]
    exact kk v hf1
  · rw [if_neg hx] at hv
    cases hv
theorem g_ar6 (X : gX G l own cc nL ret hh nm p s m args meth c) (hI : gI G h0 h H locs cells slots) {a : Nat} {i : Int32} {K : Nat → gM β} (hf : (gB (gAR a 6 i) K).1 h = some q) (hdg : decode cc pc = .ok (.aaload, 1))
    (kk : ∀ v : Nat, (K v).1 h = some q → W p l e R s m args below meth c H locs cells slots Q (F0 m (pc + 1) ls (.ref v :: rest))) : W p l e R s m args below meth c H locs cells slots Q (F0 m pc ls (.int i :: .ref a :: rest)) := by
  obtain ⟨v, hv, hf1⟩ := gB_rd hf
  by_cases hx : g_ix h a 6 i = true
  · rw [if_pos hx] at hv
    obtain ⟨n, hs, hin⟩ := g_ixS hx
    obtain ⟨-, hc, -⟩ := hI.1.2.2.2.2.1 a _ hs rfl
    have hlt : i.toNatClampNeg < n := Nat.not_le.mp fun q => hin (Or.inr q)
    refine W.aald (v := va_rf (g_rv h a i.toNatClampNeg)) (ty := .object RX14) X.1 X.2.1 hc ((X.2.2.2.2.2.1.1.2 6 _ rfl).1 n (fun j => va_rf (g_rv h a j))) rfl (fun q => by cases q) (by show ¬ (i < 0 ∨ (arrV _ _ _).slots.size ≤ _); rw [arrV_size]; exact hin) (by show (arrV _ _ _).slots[_]? = _; rw [arrV_read _ _ hlt]) rfl rfl hdg ?_
    rw [hv]
    exact kk v hf1
  · rw [if_neg hx] at hv
    cases hv
theorem g_ar7 (X : gX G l own cc nL ret hh nm p s m args meth c) (hI : gI G h0 h H locs cells slots) {a : Nat} {i : Int32} {K : Nat → gM β} (hf : (gB (gAR a 7 i) K).1 h = some q) (hdg : decode cc pc = .ok (.aaload, 1))
    (kk : ∀ v : Nat, (K v).1 h = some q → W p l e R s m args below meth c H locs cells slots Q (F0 m (pc + 1) ls (.ref v :: rest))) : W p l e R s m args below meth c H locs cells slots Q (F0 m pc ls (.int i :: .ref a :: rest)) := by
  obtain ⟨v, hv, hf1⟩ := gB_rd hf
  by_cases hx : g_ix h a 7 i = true
  · rw [if_pos hx] at hv
    obtain ⟨n, hs, hin⟩ := g_ixS hx
    obtain ⟨-, hc, -⟩ := hI.1.2.2.2.2.1 a _ hs rfl
    have hlt : i.toNatClampNeg < n := Nat.not_le.mp fun q => hin (Or.inr q)
    refine W.aald (v := va_rf (g_rv h a i.toNatClampNeg)) (ty := .object RX3) X.1 X.2.1 hc ((X.2.2.2.2.2.1.1.2 7 _ rfl).1 n (fun j => va_rf (g_rv h a j))) rfl (fun q => by cases q) (by show ¬ (i < 0 ∨ (arrV _ _ _).slots.size ≤ _); rw [arrV_size]; exact hin) (by show (arrV _ _ _).slots[_]? = _; rw [arrV_read _ _ hlt]) rfl rfl hdg ?_
    rw [hv]
    exact kk v hf1
  · rw [if_neg hx] at hv
    cases hv
theorem g_ar8 (X : gX G l own cc nL ret hh nm p s m args meth c) (hI : gI G h0 h H locs cells slots) {a : Nat} {i : Int32} {K : Nat → gM β} (hf : (gB (gAR a 8 i) K).1 h = some q) (hdg : decode cc pc = .ok (.aaload, 1))
    (kk : ∀ v : Nat, (K v).1 h = some q → W p l e R s m args below meth c H locs cells slots Q (F0 m (pc + 1) ls (.ref v :: rest))) : W p l e R s m args below meth c H locs cells slots Q (F0 m pc ls (.int i :: .ref a :: rest)) := by
  obtain ⟨v, hv, hf1⟩ := gB_rd hf
  by_cases hx : g_ix h a 8 i = true
  · rw [if_pos hx] at hv
    obtain ⟨n, hs, hin⟩ := g_ixS hx
    obtain ⟨-, hc, -⟩ := hI.1.2.2.2.2.1 a _ hs rfl
    have hlt : i.toNatClampNeg < n := Nat.not_le.mp fun q => hin (Or.inr q)
    refine W.aald (v := va_rf (g_rv h a i.toNatClampNeg)) (ty := .object RJ3) X.1 X.2.1 hc ((X.2.2.2.2.2.1.1.2 8 _ rfl).1 n (fun j => va_rf (g_rv h a j))) rfl (fun q => by cases q) (by show ¬ (i < 0 ∨ (arrV _ _ _).slots.size ≤ _); rw [arrV_size]; exact hin) (by show (arrV _ _ _).slots[_]? = _; rw [arrV_read _ _ hlt]) rfl rfl hdg ?_
    rw [hv]
    exact kk v hf1
  · rw [if_neg hx] at hv
    cases hv
theorem g_arrOf (X : gX G l own cc nL ret hh nm p s m args meth c) {t : Nat} (ht : t < 9) (n : Nat) (iv : Nat → Int32) (rv : Nat → Option Nat) : ∃ ty, s.isArrayOf (vp_cell (G.2.1 t) (n, g_AV t iv rv)) ty ∧ (vp_cell (G.2.1 t) (n, g_AV t iv rv)).slots.size = n := by
  have hK := X.2.2.2.2.2.1.1.2
  match t, ht with
  | 0, _ => exact ⟨_, (hK 0 _ rfl).1 n (fun j => .int (iv j)), arrV_size _ _ _⟩
  | 1, _ => exact ⟨_, (hK 1 _ rfl).1 n (fun j => .int (iv j)), arrV_size _ _ _⟩
  | 2, _ => exact ⟨_, (hK 2 _ rfl).1 n (fun j => .long ((iv j).toInt64)), arrV_size _ _ _⟩
  | 3, _ => exact ⟨_, (hK 3 _ rfl).1 n (fun j => .int (iv j)), arrV_size _ _ _⟩
  | 4, _ => exact ⟨_, (hK 4 _ rfl).1 n (fun j => va_rf (rv j)), arrV_size _ _ _⟩
  | 5, _ => exact ⟨_, (hK 5 _ rfl).1 n (fun j => va_rf (rv j)), arrV_size _ _ _⟩
  | 6, _ => exact ⟨_, (hK 6 _ rfl).1 n (fun j => va_rf (rv j)), arrV_size _ _ _⟩
  | 7, _ => exact ⟨_, (hK 7 _ rfl).1 n (fun j => va_rf (rv j)), arrV_size _ _ _⟩
  | 8, _ => exact ⟨_, (hK 8 _ rfl).1 n (fun j => va_rf (rv j)), arrV_size _ _ _⟩
  | t + 9, ht => exact absurd ht (by omega)
theorem g_an (X : gX G l own cc nL ret hh nm p s m args meth c) (hI : gI G h0 h H locs cells slots) {a t : Nat} {K : Int32 → gM β} (hf : (gB (gAN a t) K).1 h = some q) (ho : ∀ n, g_old (.inl (t, n)) = false) (hdg : decode cc pc = .ok (.arraylength, 1))
    (kk : ∀ v : Int32, (K v).1 h = some q → W p l e R s m args below meth c H locs cells slots Q (F0 m (pc + 1) ls (.int v :: rest))) : W p l e R s m args below meth c H locs cells slots Q (F0 m pc ls (.ref a :: rest)) := by
  obtain ⟨v, hv, hf1⟩ := gB_rd hf
  cases hs : g_sh h a with
  | none => rw [hs] at hv; cases hv
  | some u =>
    rcases u with ⟨t', n⟩ | ci
    · rw [hs] at hv
      have hv : (if t' = t then some (Int32.ofNat n) else none) = some v := hv
      by_cases ht : t' = t
      · subst ht
        rw [if_pos rfl] at hv
        obtain ⟨-, hc, -, h9⟩ := hI.1.2.2.2.2.1 a _ hs (ho n)
        obtain ⟨ty, k1, k2⟩ := g_arrOf X h9 n (g_iv h a) (g_rv h a)
        exact W.alen (n := v) X.1 X.2.1 hc k1 (by rw [k2]; exact Option.some.inj hv) rfl rfl hdg (kk v hf1)
      · rw [if_neg ht] at hv
        cases hv
    · rw [hs] at hv
      cases hv
theorem g_oldT (X : gX G l own cc nL ret hh nm p s m args meth c) (hR : g_R G h H) {a t n : Nat} (hs : g_sh h a = some (.inl (t, n))) (ho : g_old (.inl (t, n)) = true) : va_T (if t = 9 then .int else .byte) a n (fun j => .int (g_iv h a j)) (g_A G) s H := (X.2.2.2.2.2.1.2.2.2.2.2.2.2.2.2.2.1 a t n _ _ (hR.2.2.2.2.2.1 a _ hs ho)).kept (fun q hq _ => hR.2.2.2.1 q hq)
theorem g_aiO9 (X : gX G l own cc nL ret hh nm p s m args meth c) (hI : gI G h0 h H locs cells slots) {a : Nat} {i : Int32} {K : Int32 → gM β} (hf : (gB (gAI a 9 i) K).1 h = some q) (hdg : decode cc pc = .ok (.iaload, 1))
    (kk : ∀ v : Int32, (K v).1 h = some q → W p l e R s m args below meth c H locs cells slots Q (F0 m (pc + 1) ls (.int v :: rest))) : W p l e R s m args below meth c H locs cells slots Q (F0 m pc ls (.int i :: .ref a :: rest)) := by
  obtain ⟨v, hv, hf1⟩ := gB_rd hf
  by_cases hx : g_ix h a 9 i = true
  · rw [if_pos hx] at hv
    obtain ⟨n, hs, hin⟩ := g_ixS hx
    obtain ⟨cell, k1, k2, k3, k4, k5, k6, -⟩ := g_oldT X hI.1 hs rfl
    have hlt : i.toNatClampNeg < n := Nat.not_le.mp fun q => hin (Or.inr q)
    refine W.iald (v := .int (g_iv h a i.toNatClampNeg)) X.1 X.2.1 k1 k2 k3 (fun z => z.elim (fun z => hin (Or.inl z)) (fun z => by omega)) (k6 _ hlt) rfl rfl hdg ?_
    rw [Option.some.inj hv]
    exact kk v hf1
  · rw [if_neg hx] at hv
    cases hv
theorem g_anO9 (X : gX G l own cc nL ret hh nm p s m args meth c) (hI : gI G h0 h H locs cells slots) {a : Nat} {K : Int32 → gM β} (hf : (gB (gAN a 9) K).1 h = some q) (hdg : decode cc pc = .ok (.arraylength, 1))
    (kk : ∀ v : Int32, (K v).1 h = some q → W p l e R s m args below meth c H locs cells slots Q (F0 m (pc + 1) ls (.int v :: rest))) : W p l e R s m args below meth c H locs cells slots Q (F0 m pc ls (.ref a :: rest)) := by
  obtain ⟨v, hv, hf1⟩ := gB_rd hf
  cases hs : g_sh h a with
  | none => rw [hs] at hv; cases hv
  | some u =>
    rcases u with ⟨t', n⟩ | ci
    · rw [hs] at hv
      have hv : (if t' = 9 then some (Int32.ofNat n) else none) = some v := hv
      by_cases ht : t' = 9
      · subst ht
        rw [if_pos rfl] at hv
        obtain ⟨cell, k1, k2, k3, k4, k5, k6, -⟩ := g_oldT X hI.1 hs rfl
        exact W.alen (n := v) X.1 X.2.1 k1 k2 (by rw [k5]; exact Option.some.inj hv) rfl rfl hdg (kk v hf1)
      · rw [if_neg ht] at hv
        cases hv
    · rw [hs] at hv
      cases hv
theorem g_aiO10 (X : gX G l own cc nL ret hh nm p s m args meth c) (hI : gI G h0 h H locs cells slots) {a : Nat} {i : Int32} {K : Int32 → gM β} (hf : (gB (gAI a 10 i) K).1 h = some q) (hdg : decode cc pc = .ok (.baload, 1))
    (kk : ∀ v : Int32, (K v).1 h = some q → W p l e R s m args below meth c H locs cells slots Q (F0 m (pc + 1) ls (.int v :: rest))) : W p l e R s m args below meth c H locs cells slots Q (F0 m pc ls (.int i :: .ref a :: rest)) := by
  obtain ⟨v, hv, hf1⟩ := gB_rd hf
  by_cases hx : g_ix h a 10 i = true
  · rw [if_pos hx] at hv
    obtain ⟨n, hs, hin⟩ := g_ixS hx
    obtain ⟨cell, k1, k2, k3, k4, k5, k6, -⟩ := g_oldT X hI.1 hs rfl
    have hlt : i.toNatClampNeg < n := Nat.not_le.mp fun q => hin (Or.inr q)
    refine W.bald (v := .int (g_iv h a i.toNatClampNeg)) X.1 X.2.1 k1 k2 k3 (fun z => z.elim (fun z => hin (Or.inl z)) (fun z => by omega)) (k6 _ hlt) rfl rfl hdg ?_
    rw [Option.some.inj hv]
    exact kk v hf1
  · rw [if_neg hx] at hv
    cases hv
theorem g_anO10 (X : gX G l own cc nL ret hh nm p s m args meth c) (hI : gI G h0 h H locs cells slots) {a : Nat} {K : Int32 → gM β} (hf : (gB (gAN a 10) K).1 h = some q) (hdg : decode cc pc = .ok (.arraylength, 1))
    (kk : ∀ v : Int32, (K v).1 h = some q → W p l e R s m args below meth c H locs cells slots Q (F0 m (pc + 1) ls (.int v :: rest))) : W p l e R s m args below meth c H locs cells slots Q (F0 m pc ls (.ref a :: rest)) := by
  obtain ⟨v, hv, hf1⟩ := gB_rd hf
  cases hs : g_sh h a with
  | none => rw [hs] at hv; cases hv
  | some u =>
    rcases u with ⟨t', n⟩ | ci
    · rw [hs] at hv
      have hv : (if t' = 10 then some (Int32.ofNat n) else none) = some v := hv
      by_cases ht : t' = 10
      · subst ht
        rw [if_pos rfl] at hv
        obtain ⟨cell, k1, k2, k3, k4, k5, k6, -⟩ := g_oldT X hI.1 hs rfl
        exact W.alen (n := v) X.1 X.2.1 k1 k2 (by rw [k5]; exact Option.some.inj hv) rfl rfl hdg (kk v hf1)
      · rw [if_neg ht] at hv
        cases hv
    · rw [hs] at hv
      cases hv
theorem g_oldS (X : gX G l own cc nL ret hh nm p s m args meth c) (hR : g_R G h H) {a : Nat} (hs : g_sh h a = some (.inr 16)) : va_O RJ3 a (g_A G) s H ∧ va_OF RJ3 "coder" "B" (.int (g_iv h a 1)) a (g_A G) s H ∧ ∃ y, g_rv h a 0 = some y ∧ va_OF RJ3 "value" "[B" (.ref y) a (g_A G) s H := by
  have hk : ∀ q : Nat, q < G.2.2.1.size → ¬ g_A G q → H[q]? = G.2.2.1[q]? := fun q hq _ => hR.2.2.2.1 q hq
  obtain ⟨k1, k2, y, k3, k4⟩ := X.2.2.2.2.2.1.2.2.2.2.2.2.2.2.2.2.2 a 16 _ _ (hR.2.2.2.2.2.1 a _ hs rfl)
  exact ⟨k1.kept hk, k2.kept hk, y, k3, k4.kept hk⟩
theorem g_fiO (X : gX G l own cc nL ret hh nm p s m args meth c) (hI : gI G h0 h H locs cells slots) {a : Nat} {K : Int32 → gM β} (hf : (gB (gFI a 16 1) K).1 h = some q) {index : Nat} (hlink : Cond.fieldLink own index RJ3 "coder" "B" ∈ lw_all) (hdg : decode cc pc = .ok (.getfield index, 3))
    (kk : ∀ v : Int32, (K v).1 h = some q → W p l e R s m args below meth c H locs cells slots Q (F0 m (pc + 3) ls (.int v :: rest))) : W p l e R s m args below meth c H locs cells slots Q (F0 m pc ls (.ref a :: rest)) := by
  obtain ⟨v, hv, hf1⟩ := gB_rd hf
  by_cases hs : g_sh h a = some (.inr 16)
  · rw [if_pos hs] at hv
    obtain ⟨-, ⟨cf, kf, fi, f, cell, k1, k2, k3, k4, k5, -⟩, -⟩ := g_oldS X hI.1 hs
    rw [Option.some.inj hv] at k5
    exact W.getf X.1 X.2.1 X.2.2.2.1 (X.2.2.2.2.1 _ hlink) k1 k2 k3 k4 (v := .int v) k5 rfl rfl hdg (kk v hf1)
  · rw [if_neg hs] at hv
    cases hv
theorem g_frO (X : gX G l own cc nL ret hh nm p s m args meth c) (hI : gI G h0 h H locs cells slots) {a : Nat} {K : Nat → gM β} (hf : (gB (gFR a 16 0) K).1 h = some q) {index : Nat} (hlink : Cond.fieldLink own index RJ3 "value" "[B" ∈ lw_all) (hdg : decode cc pc = .ok (.getfield index, 3))
    (kk : ∀ v : Nat, (K v).1 h = some q → W p l e R s m args below meth c H locs cells slots Q (F0 m (pc + 3) ls (.ref v :: rest))) : W p l e R s m args below meth c H locs cells slots Q (F0 m pc ls (.ref a :: rest)) := by
  obtain ⟨v, hv, hf1⟩ := gB_rd hf
  by_cases hs : g_sh h a = some (.inr 16)
  · rw [if_pos hs] at hv
    obtain ⟨-, -, y, e1, cf, kf, fi, f, cell, k1, k2, k3, k4, k5, -⟩ := g_oldS X hI.1 hs
    cases e1.symm.trans hv
    exact W.getf X.1 X.2.1 X.2.2.2.1 (X.2.2.2.2.1 _ hlink) k1 k2 k3 k4 (v := .ref v) k5 rfl rfl hdg (kk v hf1)
  · rw [if_neg hs] at hv
    cases hv
theorem g_gets (X : gX G l own cc nL ret hh nm p s m args meth c) (hI : gI G h0 h H locs cells slots) {C n d : String} {v : Value} {index : Nat} (hZ : va_Z C n d v (g_A G) s G.2.2.1) (hlink : Cond.fieldLink own index C n d ∈ lw_all) (hdg : decode cc pc = .ok (.getstatic index, 3))
    (kk : W p l e R s m args below meth c H locs cells slots Q (F0 m (pc + 3) ls (v :: rest))) : W p l e R s m args below meth c H locs cells slots Q (F0 m pc ls rest) := by
  obtain ⟨cf, kf, fi, f, a, cell, h1, h2, h3, h4, h5, h6, h7, h8⟩ := hZ
  exact W.gets X.1 X.2.1 X.2.2.2.1 (X.2.2.2.2.1 _ hlink) h1 h2 h3 h4 (by rw [hI.1.2.2.2.1 a (Array.getElem?_eq_some_iff.mp h5).1]; exact h5) (fun e => by rw [e] at h6; cases h6) h7 rfl hdg kk
def gSt (i : Nat) : gM (Option Nat) := gRd fun h => some (g_dec (g_tx h i))
theorem g_st0 (X : gX G l own cc nL ret hh nm p s m args meth c) (hI : gI G h0 h H locs cells slots) {K : Option Nat → gM β} (hf : (gB (gSt 100) K).1 h = some q) {index : Nat} (hlink : Cond.fieldLink own index Bundle.tN "UNASSIGNED_STACK" Bundle.steD ∈ lw_all) (hdg : decode cc pc = .ok (.getstatic index, 3))
    (kk : ∀ v : Option Nat, (K v).1 h = some q → W p l e R s m args below meth c H locs cells slots Q (F0 m (pc + 3) ls (va_rf v :: rest))) : W p l e R s m args below meth c H locs cells slots Q (F0 m pc ls rest) := by
  obtain ⟨v, hv, hf1⟩ := gB_rd hf
  have hZ := X.2.2.2.2.2.1.2.2.2.2.2.2.2.2.1.1
  rw [← hI.1.2.1, Option.some.inj hv] at hZ
  exact g_gets X hI hZ hlink hdg (kk v hf1)
theorem g_st1 (X : gX G l own cc nL ret hh nm p s m args meth c) (hI : gI G h0 h H locs cells slots) {K : Option Nat → gM β} (hf : (gB (gSt 101) K).1 h = some q) {index : Nat} (hlink : Cond.fieldLink own index Bundle.tN "SUPPRESSED_SENTINEL" Bundle.listD ∈ lw_all) (hdg : decode cc pc = .ok (.getstatic index, 3))
    (kk : ∀ v : Option Nat, (K v).1 h = some q → W p l e R s m args below meth c H locs cells slots Q (F0 m (pc + 3) ls (va_rf v :: rest))) : W p l e R s m args below meth c H locs cells slots Q (F0 m pc ls rest) := by
  obtain ⟨v, hv, hf1⟩ := gB_rd hf
  have hZ := X.2.2.2.2.2.1.2.2.2.2.2.2.2.2.2.1.1
  rw [← hI.1.2.1, Option.some.inj hv] at hZ
  exact g_gets X hI hZ hlink hdg (kk v hf1)
theorem g_st2 (X : gX G l own cc nL ret hh nm p s m args meth c) (hI : gI G h0 h H locs cells slots) {K : Option Nat → gM β} (hf : (gB (gSt 102) K).1 h = some q) {index : Nat} (hlink : Cond.fieldLink own index RJ5 "SIOOBE_FORMATTER" "Ljava/util/function/BiFunction;" ∈ lw_all) (hdg : decode cc pc = .ok (.getstatic index, 3))
    (kk : ∀ v : Option Nat, (K v).1 h = some q → W p l e R s m args below meth c H locs cells slots Q (F0 m (pc + 3) ls (va_rf v :: rest))) : W p l e R s m args below meth c H locs cells slots Q (F0 m pc ls rest) := by
  obtain ⟨v, hv, hf1⟩ := gB_rd hf
  have hZ := X.2.2.2.2.2.1.2.2.2.2.2.2.2.1
  rw [← hI.1.2.1, Option.some.inj hv] at hZ
  exact g_gets X hI hZ hlink hdg (kk v hf1)
theorem g_stc (X : gX G l own cc nL ret hh nm p s m args meth c) (hI : gI G h0 h H locs cells slots) {index : Nat} (hlink : Cond.fieldLink own index RJ3 "COMPACT_STRINGS" "Z" ∈ lw_all) (hdg : decode cc pc = .ok (.getstatic index, 3))
    (kk : W p l e R s m args below meth c H locs cells slots Q (F0 m (pc + 3) ls (.int 1 :: rest))) : W p l e R s m args below meth c H locs cells slots Q (F0 m pc ls rest) := g_gets X hI X.2.2.2.2.2.1.2.2.2.2.2.2.1 hlink hdg kk
theorem g_ldcS (X : gX G l own cc nL ret hh nm p s m args meth c) (hI : gI G h0 h H locs cells slots) {k i : Nat} {tx : String} {K : Nat → gM β} (hf : (gB (gTx i) K).1 h = some q) (hin : (own, k, tx, i) ∈ g_st) (hdg : decode cc pc = .ok (.ldc k, 2))
    (kk : ∀ v : Nat, (K v).1 h = some q → W p l e R s m args below meth c H locs cells slots Q (F0 m (pc + 2) ls (.ref v :: rest))) : W p l e R s m args below meth c H locs cells slots Q (F0 m pc ls rest) := by
  obtain ⟨v, hv, hf1⟩ := gB_rd hf
  have hZ : vk_R own k tx (G.2.2.2.1 i) s := X.2.2.2.2.2.1.2.2.2.2.2.1 _ hin
  rw [← hI.1.2.1, Option.some.inj hv] at hZ
  exact va_ldcS X.1 X.2.1 X.2.2.2.1 hZ hdg (kk v hf1)
theorem g_ldcSW (X : gX G l own cc nL ret hh nm p s m args meth c) (hI : gI G h0 h H locs cells slots) {k i : Nat} {tx : String} {K : Nat → gM β} (hf : (gB (gTx i) K).1 h = some q) (hin : (own, k, tx, i) ∈ g_st) (hdg : decode cc pc = .ok (.ldc_w k, 3))
    (kk : ∀ v : Nat, (K v).1 h = some q → W p l e R s m args below meth c H locs cells slots Q (F0 m (pc + 3) ls (.ref v :: rest))) : W p l e R s m args below meth c H locs cells slots Q (F0 m pc ls rest) := by
  obtain ⟨v, hv, hf1⟩ := gB_rd hf
  have hZ : vk_R own k tx (G.2.2.2.1 i) s := X.2.2.2.2.2.1.2.2.2.2.2.1 _ hin
  rw [← hI.1.2.1, Option.some.inj hv] at hZ
  intro T hT X9
  obtain ⟨t, a1, b1⟩ := kk v hf1 T hT X9
  exact ⟨t, X9.ldcStringW X.1 X.2.2.2.1 (text := tx) (a := v) hZ.1 hZ.2 (g := F0 m pc ls rest) rfl (by rw [X.2.1]; exact hdg) t a1, b1⟩
theorem g_arrput (hI : gI G h0 h H locs cells slots) {a t n : Nat} (hs : g_sh h a = some (.inl (t, n))) (ho : g_old (.inl (t, n)) = false) {h1 : g_H} (e1 : g_sh h1 = g_sh h) (e2 : g_tx h1 = g_tx h) (e3 : g_nx h1 = g_nx h) (e3' : g_us h1 = g_us h) (e6 : ∀ b, b ≠ a → g_iv h1 b = g_iv h b ∧ g_rv h1 b = g_rv h b) {H1 : Heap} (z1 : H1[a]? = some (vp_cell (G.2.1 t) (n, g_AV t (g_iv h1 a) (g_rv h1 a)))) (z4 : t = 6 → ∀ j, j < n → ∀ y, g_rv h1 a j = some y → g_lok (g_sh h y) = true) (z2 : H1.size = H.size) (z3 : ∀ q : Nat, q ≠ a → H1[q]? = H[q]?) {L : List Loc} (hLL : ∀ x ∈ L, x.base = a) : gI G h0 h1 H1 (locs ++ L) cells slots := by
  obtain ⟨hR, hL, hle, hc, hsl⟩ := hI
  obtain ⟨hB, -, -, h9⟩ := hR.2.2.2.2.1 a _ hs ho
  refine ⟨hR.put e1 e2 e3 hs ho ⟨z1, z4, h9⟩ e6 z2 z3, fun x hx => ?_, ⟨by rw [e3]; exact hle.1, by rw [e3']; exact hle.2⟩, by rw [e3]; exact hc, by rw [e3']; exact hsl⟩
  rcases List.mem_append.mp hx with h9 | h9
  · exact hL x h9
  · rw [hLL x h9]
    exact hB
theorem g_si0 (X : gX G l own cc nL ret hh nm p s m args meth c) (hI : gI G h0 h H locs cells slots) {a : Nat} {i x : Int32} {K : Unit → gM β} (hf : (gB (gSI a 0 i x) K).1 h = some q) (hdg : decode cc pc = .ok (.iastore, 1))
    (kk : ∀ (h1 : g_H) (H1 : Heap) (locs1 : List Loc), (K ()).1 h1 = some q → gI G h0 h1 H1 locs1 cells slots → W p l e R s m args below meth c H1 locs1 cells slots Q (F0 m (pc + 1) ls rest)) : W p l e R s m args below meth c H locs cells slots Q (F0 m pc ls (.int x :: .int i :: .ref a :: rest)) := by
  obtain ⟨v, hv, hf⟩ := gB_wr hf
  by_cases hx : g_ix h a 0 i = true
  · rw [if_pos hx] at hv
    cases hv
    obtain ⟨n, hs, hin⟩ := g_ixS hx
    obtain ⟨-, hc, -⟩ := hI.1.2.2.2.2.1 a _ hs rfl
    refine W.iast X.1 X.2.1 hc ((X.2.2.2.2.2.1.1.2 0 _ rfl).1 n (fun j => .int (g_iv h a j))) (fun q => by cases q) (by show ¬ (i < 0 ∨ (arrV _ _ _).slots.size ≤ _); rw [arrV_size]; exact hin) rfl rfl hdg fun H1 e z oq => ?_
    refine kk _ H1 _ hf (g_arrput hI hs rfl (h1 := (g_u2 h.1 a i.toNatClampNeg x, h.2)) rfl rfl rfl rfl (fun b hb => ⟨g_u2_ne _ _ _ hb, rfl⟩) ?_ (fun z => by cases z) z oq (fun x hx => by rw [List.mem_singleton.mp hx]))
    rw [e]
    show some ((arrV _ n (fun j => .int (g_iv h a j))).setSlot _ _) = some (arrV _ n (fun j => .int (g_iv ((g_u2 h.1 a i.toNatClampNeg x, h.2) : g_H) a j)))
    rw [arrV_store]
    congr 2
    funext j
    rw [show g_iv ((g_u2 h.1 a i.toNatClampNeg x, h.2) : g_H) a = va_up (g_iv h a) i.toNatClampNeg x from g_u2_self _ _ _ _]
    by_cases hq : j = i.toNatClampNeg
    · subst hq
      simp [updV, va_up, vp_nar]
      try rfl
    · simp [updV, va_up, hq]
  · rw [if_neg hx] at hv
    cases hv
theorem g_si1 (X : gX G l own cc nL ret hh nm p s m args meth c) (hI : gI G h0 h H locs cells slots) {a : Nat} {i x : Int32} {K : Unit → gM β} (hf : (gB (gSI a 1 i (vp_nar .byte x)) K).1 h = some q) (hdg : decode cc pc = .ok (.bastore, 1))
    (kk : ∀ (h1 : g_H) (H1 : Heap) (locs1 : List Loc), (K ()).1 h1 = some q → gI G h0 h1 H1 locs1 cells slots → W p l e R s m args below meth c H1 locs1 cells slots Q (F0 m (pc + 1) ls rest)) : W p l e R s m args below meth c H locs cells slots Q (F0 m pc ls (.int x :: .int i :: .ref a :: rest)) := by
  obtain ⟨v, hv, hf⟩ := gB_wr hf
  by_cases hx : g_ix h a 1 i = true
  · rw [if_pos hx] at hv
    cases hv
    obtain ⟨n, hs, hin⟩ := g_ixS hx
    obtain ⟨-, hc, -⟩ := hI.1.2.2.2.2.1 a _ hs rfl
    refine W.bast X.1 X.2.1 hc ((X.2.2.2.2.2.1.1.2 1 _ rfl).1 n (fun j => .int (g_iv h a j))) (fun q => by cases q) (by show ¬ (i < 0 ∨ (arrV _ _ _).slots.size ≤ _); rw [arrV_size]; exact hin) rfl rfl hdg fun H1 e z oq => ?_
    refine kk _ H1 _ hf (g_arrput hI hs rfl (h1 := (g_u2 h.1 a i.toNatClampNeg (vp_nar .byte x), h.2)) rfl rfl rfl rfl (fun b hb => ⟨g_u2_ne _ _ _ hb, rfl⟩) ?_ (fun z => by cases z) z oq (fun x hx => by rw [List.mem_singleton.mp hx]))
    rw [e]
    show some ((arrV _ n (fun j => .int (g_iv h a j))).setSlot _ _) = some (arrV _ n (fun j => .int (g_iv ((g_u2 h.1 a i.toNatClampNeg (vp_nar .byte x), h.2) : g_H) a j)))
    rw [arrV_store]
    congr 2
    funext j
    rw [show g_iv ((g_u2 h.1 a i.toNatClampNeg (vp_nar .byte x), h.2) : g_H) a = va_up (g_iv h a) i.toNatClampNeg (vp_nar .byte x) from g_u2_self _ _ _ _]
    by_cases hq : j = i.toNatClampNeg
    · subst hq
      simp [updV, va_up, vp_nar]
      try rfl
    · simp [updV, va_up, hq]
  · rw [if_neg hx] at hv
    cases hv
theorem g_si3 (X : gX G l own cc nL ret hh nm p s m args meth c) (hI : gI G h0 h H locs cells slots) {a : Nat} {i x : Int32} {K : Unit → gM β} (hf : (gB (gSI a 3 i (vp_nar .boolean x)) K).1 h = some q) (hdg : decode cc pc = .ok (.bastore, 1))
    (kk : ∀ (h1 : g_H) (H1 : Heap) (locs1 : List Loc), (K ()).1 h1 = some q → gI G h0 h1 H1 locs1 cells slots → W p l e R s m args below meth c H1 locs1 cells slots Q (F0 m (pc + 1) ls rest)) : W p l e R s m args below meth c H locs cells slots Q (F0 m pc ls (.int x :: .int i :: .ref a :: rest)) := by
  obtain ⟨v, hv, hf⟩ := gB_wr hf
  by_cases hx : g_ix h a 3 i = true
  · rw [if_pos hx] at hv
    cases hv
    obtain ⟨n, hs, hin⟩ := g_ixS hx
    obtain ⟨-, hc, -⟩ := hI.1.2.2.2.2.1 a _ hs rfl
    refine W.zast X.1 X.2.1 hc ((X.2.2.2.2.2.1.1.2 3 _ rfl).1 n (fun j => .int (g_iv h a j))) (fun q => by cases q) (by show ¬ (i < 0 ∨ (arrV _ _ _).slots.size ≤ _); rw [arrV_size]; exact hin) rfl rfl hdg fun H1 e z oq => ?_
    refine kk _ H1 _ hf (g_arrput hI hs rfl (h1 := (g_u2 h.1 a i.toNatClampNeg (vp_nar .boolean x), h.2)) rfl rfl rfl rfl (fun b hb => ⟨g_u2_ne _ _ _ hb, rfl⟩) ?_ (fun z => by cases z) z oq (fun x hx => by rw [List.mem_singleton.mp hx]))
    rw [e]
    show some ((arrV _ n (fun j => .int (g_iv h a j))).setSlot _ _) = some (arrV _ n (fun j => .int (g_iv ((g_u2 h.1 a i.toNatClampNeg (vp_nar .boolean x), h.2) : g_H) a j)))
    rw [arrV_store]
    congr 2
    funext j
    rw [show g_iv ((g_u2 h.1 a i.toNatClampNeg (vp_nar .boolean x), h.2) : g_H) a = va_up (g_iv h a) i.toNatClampNeg (vp_nar .boolean x) from g_u2_self _ _ _ _]
    by_cases hq : j = i.toNatClampNeg
    · subst hq
      simp [updV, va_up, vp_nar]
      try rfl
    · simp [updV, va_up, hq]
  · rw [if_neg hx] at hv
    cases hv
theorem g_si2 (X : gX G l own cc nL ret hh nm p s m args meth c) (hI : gI G h0 h H locs cells slots) {a : Nat} {i x : Int32} {K : Unit → gM β} (hf : (gB (gSI a 2 i x) K).1 h = some q) (hdg : decode cc pc = .ok (.lastore, 1))
    (kk : ∀ (h1 : g_H) (H1 : Heap) (locs1 : List Loc), (K ()).1 h1 = some q → gI G h0 h1 H1 locs1 cells slots → W p l e R s m args below meth c H1 locs1 cells slots Q (F0 m (pc + 1) ls rest)) : W p l e R s m args below meth c H locs cells slots Q (F0 m pc ls (.long x.toInt64 :: .int i :: .ref a :: rest)) := by
  obtain ⟨v, hv, hf⟩ := gB_wr hf
  by_cases hx : g_ix h a 2 i = true
  · rw [if_pos hx] at hv
    cases hv
    obtain ⟨n, hs, hin⟩ := g_ixS hx
    obtain ⟨-, hc, -⟩ := hI.1.2.2.2.2.1 a _ hs rfl
    refine W.last X.1 X.2.1 hc ((X.2.2.2.2.2.1.1.2 2 _ rfl).1 n (fun j => .long ((g_iv h a j).toInt64))) (fun q => by cases q) (by show ¬ (i < 0 ∨ (arrV _ _ _).slots.size ≤ _); rw [arrV_size]; exact hin) rfl rfl hdg fun H1 e z oq => ?_
    refine kk _ H1 _ hf (g_arrput hI hs rfl (h1 := (g_u2 h.1 a i.toNatClampNeg x, h.2)) rfl rfl rfl rfl (fun b hb => ⟨g_u2_ne _ _ _ hb, rfl⟩) ?_ (fun z => by cases z) z oq (fun x hx => by rw [List.mem_singleton.mp hx]))
    rw [e]
    show some ((arrV _ n (fun j => .long ((g_iv h a j).toInt64))).setSlot _ _) = some (arrV _ n (fun j => .long ((g_iv ((g_u2 h.1 a i.toNatClampNeg x, h.2) : g_H) a j).toInt64)))
    rw [arrV_store]
    congr 2
    funext j
    rw [show g_iv ((g_u2 h.1 a i.toNatClampNeg x, h.2) : g_H) a = va_up (g_iv h a) i.toNatClampNeg x from g_u2_self _ _ _ _]
    by_cases hq : j = i.toNatClampNeg
    · subst hq
      simp [updV, va_up, vp_nar]
      try rfl
    · simp [updV, va_up, hq]
  · rw [if_neg hx] at hv
    cases hv
theorem g_any (X : gX G l own cc nL ret hh nm p s m args meth c) (hR : g_R G h H) {v ci : Nat} (hs : g_sh h v = some (.inr ci)) {r : vw_C} (hr : g_cl[ci]? = some r) : ∃ cellV : Cell, H[v]? = some cellV ∧ cellV.vm.isStatics = false ∧ s.vm.findClass r.1 = some cellV.cls := by
  by_cases ho : g_old (.inr ci) = false
  · obtain ⟨-, r', hr', cell, q1, q2, q3, -⟩ := hR.2.2.2.2.1 v _ hs ho
    cases hr.symm.trans hr'
    exact ⟨cell, q1, by rw [q3]; rfl, by rw [q2]; exact (X.2.2.2.2.2.1.1.1 ci r hr).2.1⟩
  · have h16 : ci = 16 := by
      unfold g_old at ho
      split at ho
      · rename_i h; cases h
      · rename_i h; cases h
      · rename_i h; cases h; rfl
      · exact absurd rfl ho
    subst h16
    cases hr
    obtain ⟨⟨cell, k1, k2, k3, -⟩, -⟩ := g_oldS X hR hs
    exact ⟨cell, k1, k2, k3⟩
theorem g_inA (X : gX G l own cc nL ret hh nm p s m args meth c) {t ci : Nat} (h : g_in t ci = true) {r : vw_C} (hr : g_cl[ci]? = some r) : ∃ E : String, (g_tys G.2.1)[t]? = some (G.2.1 t, .object E) ∧ ∀ comp c0 : ClassId, s.vm.findClass E = some comp → s.vm.findClass r.1 = some c0 → s.vm.assignable c0 comp = true := by
  unfold g_in at h
  split at h
  · have e : ci = 3 := by simpa using h
    subst e; cases hr
    exact ⟨RX4, rfl, vb_asgS⟩
  · have e : ci = 4 := by simpa using h
    subst e; cases hr
    exact ⟨RX5, rfl, vb_asgS⟩
  · have e : ci = 14 ∨ ci = 15 := by simpa using h
    rcases e with e | e
    · subst e; cases hr
      exact ⟨RX14, rfl, vb_asgC (X.2.2.2.2.2.1.2.1 _ q2127 rfl)⟩
    · subst e; cases hr
      exact ⟨RX14, rfl, vb_asgC (X.2.2.2.2.2.1.2.1 _ q2128 rfl)⟩
  · have e : ci = 2 := by simpa using h
    subst e; cases hr
    exact ⟨RX3, rfl, vb_asgS⟩
  · have e : ci = 16 := by simpa using h
    subst e; cases hr
    exact ⟨RJ3, rfl, vb_asgS⟩
  · cases h
theorem g_inT {t ci : Nat} (h : g_in t ci = true) : ∀ (iv : Nat → Int32) (rv : Nat → Option Nat), g_AV t iv rv = .inr (.inr (.inr (.inr rv))) := by
  unfold g_in at h
  split at h <;> first | (intro iv rv; rfl) | cases h
theorem g_inO {t ci : Nat} (h : g_in t ci = true) (n : Nat) : g_old (.inl (t, n)) = false := by
  unfold g_in at h
  split at h <;> first | rfl | cases h
theorem g_inL {ci : Nat} (h : g_in 6 ci = true) : g_lok (some (.inr ci)) = true := by
  have e : ci = 14 ∨ ci = 15 := by simpa [g_in] using h
  rcases e with rfl | rfl <;> rfl
theorem g_sq (X : gX G l own cc nL ret hh nm p s m args meth c) (hI : gI G h0 h H locs cells slots) {a t : Nat} {i : Int32} {ci v : Nat} {K : Unit → gM β} (hf : (gB (gSQ a t i ci v) K).1 h = some q) {r : vw_C} (hr : g_cl[ci]? = some r) (hdg : decode cc pc = .ok (.aastore, 1))
    (kk : ∀ (h1 : g_H) (H1 : Heap) (locs1 : List Loc), (K ()).1 h1 = some q → gI G h0 h1 H1 locs1 cells slots → W p l e R s m args below meth c H1 locs1 cells slots Q (F0 m (pc + 1) ls rest)) : W p l e R s m args below meth c H locs cells slots Q (F0 m pc ls (.ref v :: .int i :: .ref a :: rest)) := by
  obtain ⟨w, hv, hf⟩ := gB_wq hf
  by_cases hx : g_ix h a t i = true ∧ g_sh h v = some (.inr ci) ∧ g_in t ci = true
  · rw [if_pos hx] at hv
    cases hv
    obtain ⟨hx, hsv, htc⟩ := hx
    obtain ⟨n, hs, hin⟩ := g_ixS hx
    obtain ⟨-, hc, hlk, -⟩ := hI.1.2.2.2.2.1 a _ hs (g_inO htc n)
    rw [g_inT htc] at hc
    have hlt : i.toNatClampNeg < n := Nat.not_le.mp fun q => hin (Or.inr q)
    have hi0 : ¬ i < 0 := fun q => hin (Or.inl q)
    obtain ⟨cellV, g1, g3, g2⟩ := g_any X hI.1 hsv hr
    obtain ⟨E, hE, hasg⟩ := g_inA X htc hr
    obtain ⟨kA, comp, k1, k2, k3, -⟩ := (X.2.2.2.2.2.1.1.2 t _ hE).2
    obtain ⟨kE, hkE, -⟩ := Vm.findClass_spec k3
    obtain ⟨kC, hkC, -⟩ := Vm.findClass_spec g2
    refine W.aast X.1 X.2.1 hc (fun q h => by cases h) (fun h => by cases h) k1 k2 rfl hkE ⟨hi0, by show _ < (arrV _ _ _).slots.size; rw [arrV_size]; exact hlt⟩ g1 (fun q h => by rw [h] at g3; cases g3) hkC (hasg _ _ k3 g2) rfl rfl hdg fun H1 e z oq => ?_
    refine kk _ H1 _ hf (g_arrput hI hs (g_inO htc n) (h1 := (h.1, h.2.1, g_u2 (g_rv h) a i.toNatClampNeg (some v), h.2.2.2)) rfl rfl rfl rfl (fun b hb => ⟨rfl, g_u2_ne _ _ _ hb⟩) ?_ ?_ z oq (fun x hx => by rw [List.mem_singleton.mp hx]))
    · rw [e, g_inT htc]
      show some ((arrV _ n (fun j => va_rf (g_rv h a j))).setSlot _ _) = some (arrV _ n (fun j => va_rf (g_rv ((h.1, h.2.1, g_u2 (g_rv h) a i.toNatClampNeg (some v), h.2.2.2) : g_H) a j)))
      rw [arrV_store]
      congr 2
      funext j
      rw [show g_rv ((h.1, h.2.1, g_u2 (g_rv h) a i.toNatClampNeg (some v), h.2.2.2) : g_H) a = va_up (g_rv h a) i.toNatClampNeg (some v) from g_u2_self _ _ _ _]
      by_cases hq : j = i.toNatClampNeg
      · subst hq
        simp [updV, va_up, va_rf]
      · simp [updV, va_up, hq]
    · intro ht j hj y hy
      rw [show g_rv ((h.1, h.2.1, g_u2 (g_rv h) a i.toNatClampNeg (some v), h.2.2.2) : g_H) a = va_up (g_rv h a) i.toNatClampNeg (some v) from g_u2_self _ _ _ _] at hy
      by_cases hq : j = i.toNatClampNeg
      · subst hq
        rw [va_up_self] at hy
        cases hy
        rw [hsv]
        subst ht
        exact g_inL htc
      · rw [va_up_ne _ _ hq] at hy
        exact hlk ht j hj y hy
  · rw [if_neg hx] at hv
    cases hv
/-- the room that is left: what is made in all, q.2, fits -/
theorem g_fit {h1 h2 : g_H} (hI : gI G h0 h H locs cells slots) (hle : g_le h h1) (hle2 : g_le h1 h2) (hRc : g_nx h2 - g_nx h0 ≤ R.cells ∧ g_us h2 - g_us h0 ≤ R.slots) : cells + (g_nx h1 - g_nx h) ≤ R.cells ∧ slots + (g_us h1 - g_us h) ≤ R.slots := by
  obtain ⟨-, -, l1, e1, e2⟩ := hI
  obtain ⟨l1, l1'⟩ := l1
  obtain ⟨l2, l2'⟩ := hle
  obtain ⟨l3, l3'⟩ := hle2
  omega
theorem g_addI {st : g_S} {n : Nat} (hI : gI G h0 h H locs cells slots) (ho : g_old st = false) {H1 : Heap} (hat : g_at G (fun _ => none) (g_nx h) st (fun _ => 0) (fun _ => none) H1) (hz : H1.size = H.size + 1) (oq : ∀ q : Nat, q < H.size → H1[q]? = H[q]?) : gI G h0 (g_add h st n) H1 locs (cells + 1) (slots + n) := by
  obtain ⟨hR, hL, ⟨l1, l1'⟩, e1, e2⟩ := hI
  refine ⟨hR.add ho hat hz oq, hL, ⟨?_, ?_⟩, ?_, ?_⟩
  · show g_nx h0 ≤ g_nx h + 1
    omega
  · show g_us h0 ≤ g_us h + n
    omega
  · show cells + 1 = g_nx h + 1 - g_nx h0
    omega
  · show slots + n = g_us h + n - g_us h0
    omega
theorem g_new (X : gX G l own cc nL ret hh nm p s m args meth c) (hI : gI G h0 h H locs cells slots) {ci : Nat} {r : vw_C} {K : Nat → gM β} (hf : (gB (gNew ci r.2.2) K).1 h = some q) (hRc : g_nx q.2 - g_nx h0 ≤ R.cells ∧ g_us q.2 - g_us h0 ≤ R.slots) (cd : gCd ci r) {index : Nat} (hlink : Cond.classLink own index r.1 ∈ lw_all) (hdg : decode cc pc = .ok (.new index, 3))
    (kk : ∀ (v : Nat) (h1 : g_H) (H1 : Heap) (cells1 slots1 : Nat), (K v).1 h1 = some q → gI G h0 h1 H1 locs cells1 slots1 → W p l e R s m args below meth c H1 locs cells1 slots1 Q (F0 m (pc + 3) ls (.ref v :: rest))) : W p l e R s m args below meth c H locs cells slots Q (F0 m pc ls rest) := by
  obtain ⟨hf, hle⟩ := gB_al hf
  obtain ⟨d1, d2, d3, d4, d5, d6, d7, d8⟩ := cd
  have hts := X.2.2.2.2.1
  have hKn := X.2.2.2.2.2.1.1.1 ci _ d1
  have hfit := g_fit (R := R) (h1 := g_add h (.inr ci) r.2.2) hI ⟨Nat.le_succ _, Nat.le_add_right _ _⟩ hle hRc
  have hfit : cells + (g_nx h + 1 - g_nx h) ≤ R.cells ∧ slots + (g_us h + r.2.2 - g_us h) ≤ R.slots := hfit
  refine W.newcK X.1 X.2.1 X.2.2.2.1 (hts _ hlink) (hts _ d7) (hts _ d8) rfl hdg (by omega) (by omega) hKn.2.1 hI.1.1.symm fun H1 kC hkC e1 z1 o1 => ?_
  refine kk _ _ H1 _ _ hf (g_addI hI d6 ⟨r, d1, (u_born (g_ft ci) hts d2 hKn hkC e1 d3).to (fun j hj => ?_)⟩ (by rw [z1, hI.1.1]) (fun x hx => o1 x (by rw [hI.1.1]; exact hx)))
  unfold g_V
  cases hrt : g_rt ci j with
  | true => rw [d4 j hj hrt]; rfl
  | false => rw [d5 j hj hrt]; rfl
theorem g_newa0 (X : gX G l own cc nL ret hh nm p s m args meth c) (hI : gI G h0 h H locs cells slots) {n : Int32} {K : Nat → gM β} (hf : (gB (gNwA 0 n) K).1 h = some q) (hRc : g_nx q.2 - g_nx h0 ≤ R.cells ∧ g_us q.2 - g_us h0 ≤ R.slots) (hdg : decode cc pc = .ok (.newarray .int, 2))
    (kk : ∀ (v : Nat) (h1 : g_H) (H1 : Heap) (cells1 slots1 : Nat), (K v).1 h1 = some q → gI G h0 h1 H1 locs cells1 slots1 → W p l e R s m args below meth c H1 locs cells1 slots1 Q (F0 m (pc + 2) ls (.ref v :: rest))) : W p l e R s m args below meth c H locs cells slots Q (F0 m pc ls (.int n :: rest)) := by
  rcases gB_if hf with ⟨⟨hn, hn2⟩, hf⟩ | ⟨-, hf⟩
  · obtain ⟨hf, hle⟩ := gB_al hf
    have hfit := g_fit (R := R) (h1 := g_add h (.inl (0, n.toNatClampNeg)) n.toNatClampNeg) hI ⟨Nat.le_succ _, Nat.le_add_right _ _⟩ hle hRc
    have hfit : cells + (g_nx h + 1 - g_nx h) ≤ R.cells ∧ slots + (g_us h + n.toNatClampNeg - g_us h) ≤ R.slots := hfit
    refine va_newaK (atype := .int) X.1 X.2.1 (X.2.2.2.2.1 _ q221) rfl hdg rfl hn rfl (by show n.toNatClampNeg * 4 ≤ _; omega) (by omega) (by omega) hI.1.1.symm fun H1 cA e1 z1 o1 hAr hNm => ?_
    have hcA : cA = G.2.1 0 := Option.some.inj (hNm.symm.trans (X.2.2.2.2.2.1.1.2 0 _ rfl).2)
    subst hcA
    exact kk _ _ H1 _ _ hf (g_addI hI rfl ⟨e1, (fun z => by cases z), by decide⟩ (by rw [z1, hI.1.1]) (fun x hx => o1 x (by rw [hI.1.1]; exact hx)))
  · exact (gB_fail hf).elim
theorem g_newa1 (X : gX G l own cc nL ret hh nm p s m args meth c) (hI : gI G h0 h H locs cells slots) {n : Int32} {K : Nat → gM β} (hf : (gB (gNwA 1 n) K).1 h = some q) (hRc : g_nx q.2 - g_nx h0 ≤ R.cells ∧ g_us q.2 - g_us h0 ≤ R.slots) (hdg : decode cc pc = .ok (.newarray .byte, 2))
    (kk : ∀ (v : Nat) (h1 : g_H) (H1 : Heap) (cells1 slots1 : Nat), (K v).1 h1 = some q → gI G h0 h1 H1 locs cells1 slots1 → W p l e R s m args below meth c H1 locs cells1 slots1 Q (F0 m (pc + 2) ls (.ref v :: rest))) : W p l e R s m args below meth c H locs cells slots Q (F0 m pc ls (.int n :: rest)) := by
  rcases gB_if hf with ⟨⟨hn, hn2⟩, hf⟩ | ⟨-, hf⟩
  · obtain ⟨hf, hle⟩ := gB_al hf
    have hfit := g_fit (R := R) (h1 := g_add h (.inl (1, n.toNatClampNeg)) n.toNatClampNeg) hI ⟨Nat.le_succ _, Nat.le_add_right _ _⟩ hle hRc
    have hfit : cells + (g_nx h + 1 - g_nx h) ≤ R.cells ∧ slots + (g_us h + n.toNatClampNeg - g_us h) ≤ R.slots := hfit
    refine va_newaK (atype := .byte) X.1 X.2.1 (X.2.2.2.2.1 _ q220) rfl hdg rfl hn rfl (by show n.toNatClampNeg * 1 ≤ _; omega) (by omega) (by omega) hI.1.1.symm fun H1 cA e1 z1 o1 hAr hNm => ?_
    have hcA : cA = G.2.1 1 := Option.some.inj (hNm.symm.trans (X.2.2.2.2.2.1.1.2 1 _ rfl).2)
    subst hcA
    exact kk _ _ H1 _ _ hf (g_addI hI rfl ⟨e1, (fun z => by cases z), by decide⟩ (by rw [z1, hI.1.1]) (fun x hx => o1 x (by rw [hI.1.1]; exact hx)))
  · exact (gB_fail hf).elim
theorem g_newa2 (X : gX G l own cc nL ret hh nm p s m args meth c) (hI : gI G h0 h H locs cells slots) {n : Int32} {K : Nat → gM β} (hf : (gB (gNwA 2 n) K).1 h = some q) (hRc : g_nx q.2 - g_nx h0 ≤ R.cells ∧ g_us q.2 - g_us h0 ≤ R.slots) (hdg : decode cc pc = .ok (.newarray .long, 2))
    (kk : ∀ (v : Nat) (h1 : g_H) (H1 : Heap) (cells1 slots1 : Nat), (K v).1 h1 = some q → gI G h0 h1 H1 locs cells1 slots1 → W p l e R s m args below meth c H1 locs cells1 slots1 Q (F0 m (pc + 2) ls (.ref v :: rest))) : W p l e R s m args below meth c H locs cells slots Q (F0 m pc ls (.int n :: rest)) := by
  rcases gB_if hf with ⟨⟨hn, hn2⟩, hf⟩ | ⟨-, hf⟩
  · obtain ⟨hf, hle⟩ := gB_al hf
    have hfit := g_fit (R := R) (h1 := g_add h (.inl (2, n.toNatClampNeg)) n.toNatClampNeg) hI ⟨Nat.le_succ _, Nat.le_add_right _ _⟩ hle hRc
    have hfit : cells + (g_nx h + 1 - g_nx h) ≤ R.cells ∧ slots + (g_us h + n.toNatClampNeg - g_us h) ≤ R.slots := hfit
    refine va_newaK (atype := .long) X.1 X.2.1 (X.2.2.2.2.1 _ q2101) rfl hdg rfl hn rfl (by show n.toNatClampNeg * 8 ≤ _; omega) (by omega) (by omega) hI.1.1.symm fun H1 cA e1 z1 o1 hAr hNm => ?_
    have hcA : cA = G.2.1 2 := Option.some.inj (hNm.symm.trans (X.2.2.2.2.2.1.1.2 2 _ rfl).2)
    subst hcA
    exact kk _ _ H1 _ _ hf (g_addI hI rfl ⟨e1, (fun z => by cases z), by decide⟩ (by rw [z1, hI.1.1]) (fun x hx => o1 x (by rw [hI.1.1]; exact hx)))
  · exact (gB_fail hf).elim
theorem g_newa3 (X : gX G l own cc nL ret hh nm p s m args meth c) (hI : gI G h0 h H locs cells slots) {n : Int32} {K : Nat → gM β} (hf : (gB (gNwA 3 n) K).1 h = some q) (hRc : g_nx q.2 - g_nx h0 ≤ R.cells ∧ g_us q.2 - g_us h0 ≤ R.slots) (hdg : decode cc pc = .ok (.newarray .boolean, 2))
    (kk : ∀ (v : Nat) (h1 : g_H) (H1 : Heap) (cells1 slots1 : Nat), (K v).1 h1 = some q → gI G h0 h1 H1 locs cells1 slots1 → W p l e R s m args below meth c H1 locs cells1 slots1 Q (F0 m (pc + 2) ls (.ref v :: rest))) : W p l e R s m args below meth c H locs cells slots Q (F0 m pc ls (.int n :: rest)) := by
  rcases gB_if hf with ⟨⟨hn, hn2⟩, hf⟩ | ⟨-, hf⟩
  · obtain ⟨hf, hle⟩ := gB_al hf
    have hfit := g_fit (R := R) (h1 := g_add h (.inl (3, n.toNatClampNeg)) n.toNatClampNeg) hI ⟨Nat.le_succ _, Nat.le_add_right _ _⟩ hle hRc
    have hfit : cells + (g_nx h + 1 - g_nx h) ≤ R.cells ∧ slots + (g_us h + n.toNatClampNeg - g_us h) ≤ R.slots := hfit
    refine va_newaK (atype := .boolean) X.1 X.2.1 (X.2.2.2.2.1 _ q519) rfl hdg rfl hn rfl (by show n.toNatClampNeg * 1 ≤ _; omega) (by omega) (by omega) hI.1.1.symm fun H1 cA e1 z1 o1 hAr hNm => ?_
    have hcA : cA = G.2.1 3 := Option.some.inj (hNm.symm.trans (X.2.2.2.2.2.1.1.2 3 _ rfl).2)
    subst hcA
    exact kk _ _ H1 _ _ hf (g_addI hI rfl ⟨e1, (fun z => by cases z), by decide⟩ (by rw [z1, hI.1.1]) (fun x hx => o1 x (by rw [hI.1.1]; exact hx)))
  · exact (gB_fail hf).elim
theorem g_newq4 (X : gX G l own cc nL ret hh nm p s m args meth c) (hI : gI G h0 h H locs cells slots) {n : Int32} {K : Nat → gM β} (hf : (gB (gNwA 4 n) K).1 h = some q) (hRc : g_nx q.2 - g_nx h0 ≤ R.cells ∧ g_us q.2 - g_us h0 ≤ R.slots) {index : Nat} (hlink : Cond.classLink own index RX4 ∈ lw_all) (hdg : decode cc pc = .ok (.anewarray index, 3))
    (kk : ∀ (v : Nat) (h1 : g_H) (H1 : Heap) (cells1 slots1 : Nat), (K v).1 h1 = some q → gI G h0 h1 H1 locs cells1 slots1 → W p l e R s m args below meth c H1 locs cells1 slots1 Q (F0 m (pc + 3) ls (.ref v :: rest))) : W p l e R s m args below meth c H locs cells slots Q (F0 m pc ls (.int n :: rest)) := by
  rcases gB_if hf with ⟨⟨hn, hn2⟩, hf⟩ | ⟨-, hf⟩
  · obtain ⟨hf, hle⟩ := gB_al hf
    have hfit := g_fit (R := R) (h1 := g_add h (.inl (4, n.toNatClampNeg)) n.toNatClampNeg) hI ⟨Nat.le_succ _, Nat.le_add_right _ _⟩ hle hRc
    have hfit : cells + (g_nx h + 1 - g_nx h) ≤ R.cells ∧ slots + (g_us h + n.toNatClampNeg - g_us h) ≤ R.slots := hfit
    have hov : va_AO RX4 s := X.2.2.2.2.2.1.2.2.2.1 _ (List.mem_of_getElem? (i := 0) rfl)
    refine W.anew X.1 X.2.1 X.2.2.2.1 (X.2.2.2.2.1 _ hlink) (va_AO.use hov) rfl hdg rfl hn (by omega) (by omega) (by omega) fun cA kA comp f1 f2 f3 f4 => ?_
    obtain ⟨kA', comp', g1, g2, g3, g4⟩ := (X.2.2.2.2.2.1.1.2 4 _ rfl).2
    have hcA : cA = G.2.1 4 := Option.some.inj (f1.symm.trans g4)
    subst hcA
    have hn0 : H.size = g_nx h := hI.1.1.symm
    suffices hgoal : gI G h0 (g_add h (.inl (4, n.toNatClampNeg)) n.toNatClampNeg) (H.push ({ cls := G.2.1 4, slots := Array.replicate n.toNatClampNeg .null, vm := .none } : Cell)) locs (cells + 1) (slots + n.toNatClampNeg) by
      rw [hn0]
      exact kk _ _ _ _ _ hf hgoal
    refine g_addI hI rfl ⟨?_, (fun _ j _ y hy => by cases hy), by decide⟩ (by rw [Array.size_push]) (fun x hx => by rw [Array.getElem?_push, if_neg (Nat.ne_of_lt hx)])
    show (H.push _)[g_nx h]? = some (arrV _ _ (fun _ => .null))
    rw [hI.1.1, Array.getElem?_push_size, ← arrV_new]
  · exact (gB_fail hf).elim
theorem g_newq5 (X : gX G l own cc nL ret hh nm p s m args meth c) (hI : gI G h0 h H locs cells slots) {n : Int32} {K : Nat → gM β} (hf : (gB (gNwA 5 n) K).1 h = some q) (hRc : g_nx q.2 - g_nx h0 ≤ R.cells ∧ g_us q.2 - g_us h0 ≤ R.slots) {index : Nat} (hlink : Cond.classLink own index RX5 ∈ lw_all) (hdg : decode cc pc = .ok (.anewarray index, 3))
    (kk : ∀ (v : Nat) (h1 : g_H) (H1 : Heap) (cells1 slots1 : Nat), (K v).1 h1 = some q → gI G h0 h1 H1 locs cells1 slots1 → W p l e R s m args below meth c H1 locs cells1 slots1 Q (F0 m (pc + 3) ls (.ref v :: rest))) : W p l e R s m args below meth c H locs cells slots Q (F0 m pc ls (.int n :: rest)) := by
  rcases gB_if hf with ⟨⟨hn, hn2⟩, hf⟩ | ⟨-, hf⟩
  · obtain ⟨hf, hle⟩ := gB_al hf
    have hfit := g_fit (R := R) (h1 := g_add h (.inl (5, n.toNatClampNeg)) n.toNatClampNeg) hI ⟨Nat.le_succ _, Nat.le_add_right _ _⟩ hle hRc
    have hfit : cells + (g_nx h + 1 - g_nx h) ≤ R.cells ∧ slots + (g_us h + n.toNatClampNeg - g_us h) ≤ R.slots := hfit
    have hov : va_AO RX5 s := X.2.2.2.2.2.1.2.2.2.1 _ (List.mem_of_getElem? (i := 1) rfl)
    refine W.anew X.1 X.2.1 X.2.2.2.1 (X.2.2.2.2.1 _ hlink) (va_AO.use hov) rfl hdg rfl hn (by omega) (by omega) (by omega) fun cA kA comp f1 f2 f3 f4 => ?_
    obtain ⟨kA', comp', g1, g2, g3, g4⟩ := (X.2.2.2.2.2.1.1.2 5 _ rfl).2
    have hcA : cA = G.2.1 5 := Option.some.inj (f1.symm.trans g4)
    subst hcA
    have hn0 : H.size = g_nx h := hI.1.1.symm
    suffices hgoal : gI G h0 (g_add h (.inl (5, n.toNatClampNeg)) n.toNatClampNeg) (H.push ({ cls := G.2.1 5, slots := Array.replicate n.toNatClampNeg .null, vm := .none } : Cell)) locs (cells + 1) (slots + n.toNatClampNeg) by
      rw [hn0]
      exact kk _ _ _ _ _ hf hgoal
    refine g_addI hI rfl ⟨?_, (fun _ j _ y hy => by cases hy), by decide⟩ (by rw [Array.size_push]) (fun x hx => by rw [Array.getElem?_push, if_neg (Nat.ne_of_lt hx)])
    show (H.push _)[g_nx h]? = some (arrV _ _ (fun _ => .null))
    rw [hI.1.1, Array.getElem?_push_size, ← arrV_new]
  · exact (gB_fail hf).elim
theorem g_newq6 (X : gX G l own cc nL ret hh nm p s m args meth c) (hI : gI G h0 h H locs cells slots) {n : Int32} {K : Nat → gM β} (hf : (gB (gNwA 6 n) K).1 h = some q) (hRc : g_nx q.2 - g_nx h0 ≤ R.cells ∧ g_us q.2 - g_us h0 ≤ R.slots) {index : Nat} (hlink : Cond.classLink own index RX14 ∈ lw_all) (hdg : decode cc pc = .ok (.anewarray index, 3))
    (kk : ∀ (v : Nat) (h1 : g_H) (H1 : Heap) (cells1 slots1 : Nat), (K v).1 h1 = some q → gI G h0 h1 H1 locs cells1 slots1 → W p l e R s m args below meth c H1 locs cells1 slots1 Q (F0 m (pc + 3) ls (.ref v :: rest))) : W p l e R s m args below meth c H locs cells slots Q (F0 m pc ls (.int n :: rest)) := by
  rcases gB_if hf with ⟨⟨hn, hn2⟩, hf⟩ | ⟨-, hf⟩
  · obtain ⟨hf, hle⟩ := gB_al hf
    have hfit := g_fit (R := R) (h1 := g_add h (.inl (6, n.toNatClampNeg)) n.toNatClampNeg) hI ⟨Nat.le_succ _, Nat.le_add_right _ _⟩ hle hRc
    have hfit : cells + (g_nx h + 1 - g_nx h) ≤ R.cells ∧ slots + (g_us h + n.toNatClampNeg - g_us h) ≤ R.slots := hfit
    have hov : va_AO RX14 s := X.2.2.2.2.2.1.2.2.2.1 _ (List.mem_of_getElem? (i := 2) rfl)
    refine W.anew X.1 X.2.1 X.2.2.2.1 (X.2.2.2.2.1 _ hlink) (va_AO.use hov) rfl hdg rfl hn (by omega) (by omega) (by omega) fun cA kA comp f1 f2 f3 f4 => ?_
    obtain ⟨kA', comp', g1, g2, g3, g4⟩ := (X.2.2.2.2.2.1.1.2 6 _ rfl).2
    have hcA : cA = G.2.1 6 := Option.some.inj (f1.symm.trans g4)
    subst hcA
    have hn0 : H.size = g_nx h := hI.1.1.symm
    suffices hgoal : gI G h0 (g_add h (.inl (6, n.toNatClampNeg)) n.toNatClampNeg) (H.push ({ cls := G.2.1 6, slots := Array.replicate n.toNatClampNeg .null, vm := .none } : Cell)) locs (cells + 1) (slots + n.toNatClampNeg) by
      rw [hn0]
      exact kk _ _ _ _ _ hf hgoal
    refine g_addI hI rfl ⟨?_, (fun _ j _ y hy => by cases hy), by decide⟩ (by rw [Array.size_push]) (fun x hx => by rw [Array.getElem?_push, if_neg (Nat.ne_of_lt hx)])
    show (H.push _)[g_nx h]? = some (arrV _ _ (fun _ => .null))
    rw [hI.1.1, Array.getElem?_push_size, ← arrV_new]
  · exact (gB_fail hf).elim
theorem g_newq7 (X : gX G l own cc nL ret hh nm p s m args meth c) (hI : gI G h0 h H locs cells slots) {n : Int32} {K : Nat → gM β} (hf : (gB (gNwA 7 n) K).1 h = some q) (hRc : g_nx q.2 - g_nx h0 ≤ R.cells ∧ g_us q.2 - g_us h0 ≤ R.slots) {index : Nat} (hlink : Cond.classLink own index RX3 ∈ lw_all) (hdg : decode cc pc = .ok (.anewarray index, 3))
    (kk : ∀ (v : Nat) (h1 : g_H) (H1 : Heap) (cells1 slots1 : Nat), (K v).1 h1 = some q → gI G h0 h1 H1 locs cells1 slots1 → W p l e R s m args below meth c H1 locs cells1 slots1 Q (F0 m (pc + 3) ls (.ref v :: rest))) : W p l e R s m args below meth c H locs cells slots Q (F0 m pc ls (.int n :: rest)) := by
  rcases gB_if hf with ⟨⟨hn, hn2⟩, hf⟩ | ⟨-, hf⟩
  · obtain ⟨hf, hle⟩ := gB_al hf
    have hfit := g_fit (R := R) (h1 := g_add h (.inl (7, n.toNatClampNeg)) n.toNatClampNeg) hI ⟨Nat.le_succ _, Nat.le_add_right _ _⟩ hle hRc
    have hfit : cells + (g_nx h + 1 - g_nx h) ≤ R.cells ∧ slots + (g_us h + n.toNatClampNeg - g_us h) ≤ R.slots := hfit
    have hov : va_AO RX3 s := X.2.2.2.2.2.1.2.2.2.1 _ (List.mem_of_getElem? (i := 3) rfl)
    refine W.anew X.1 X.2.1 X.2.2.2.1 (X.2.2.2.2.1 _ hlink) (va_AO.use hov) rfl hdg rfl hn (by omega) (by omega) (by omega) fun cA kA comp f1 f2 f3 f4 => ?_
    obtain ⟨kA', comp', g1, g2, g3, g4⟩ := (X.2.2.2.2.2.1.1.2 7 _ rfl).2
    have hcA : cA = G.2.1 7 := Option.some.inj (f1.symm.trans g4)
    subst hcA
    have hn0 : H.size = g_nx h := hI.1.1.symm
    suffices hgoal : gI G h0 (g_add h (.inl (7, n.toNatClampNeg)) n.toNatClampNeg) (H.push ({ cls := G.2.1 7, slots := Array.replicate n.toNatClampNeg .null, vm := .none } : Cell)) locs (cells + 1) (slots + n.toNatClampNeg) by
      rw [hn0]
      exact kk _ _ _ _ _ hf hgoal
    refine g_addI hI rfl ⟨?_, (fun _ j _ y hy => by cases hy), by decide⟩ (by rw [Array.size_push]) (fun x hx => by rw [Array.getElem?_push, if_neg (Nat.ne_of_lt hx)])
    show (H.push _)[g_nx h]? = some (arrV _ _ (fun _ => .null))
    rw [hI.1.1, Array.getElem?_push_size, ← arrV_new]
  · exact (gB_fail hf).elim
theorem g_newq8 (X : gX G l own cc nL ret hh nm p s m args meth c) (hI : gI G h0 h H locs cells slots) {n : Int32} {K : Nat → gM β} (hf : (gB (gNwA 8 n) K).1 h = some q) (hRc : g_nx q.2 - g_nx h0 ≤ R.cells ∧ g_us q.2 - g_us h0 ≤ R.slots) {index : Nat} (hlink : Cond.classLink own index RJ3 ∈ lw_all) (hdg : decode cc pc = .ok (.anewarray index, 3))
    (kk : ∀ (v : Nat) (h1 : g_H) (H1 : Heap) (cells1 slots1 : Nat), (K v).1 h1 = some q → gI G h0 h1 H1 locs cells1 slots1 → W p l e R s m args below meth c H1 locs cells1 slots1 Q (F0 m (pc + 3) ls (.ref v :: rest))) : W p l e R s m args below meth c H locs cells slots Q (F0 m pc ls (.int n :: rest)) := by
  rcases gB_if hf with ⟨⟨hn, hn2⟩, hf⟩ | ⟨-, hf⟩
  · obtain ⟨hf, hle⟩ := gB_al hf
    have hfit := g_fit (R := R) (h1 := g_add h (.inl (8, n.toNatClampNeg)) n.toNatClampNeg) hI ⟨Nat.le_succ _, Nat.le_add_right _ _⟩ hle hRc
    have hfit : cells + (g_nx h + 1 - g_nx h) ≤ R.cells ∧ slots + (g_us h + n.toNatClampNeg - g_us h) ≤ R.slots := hfit
    have hov : va_AO RJ3 s := X.2.2.2.2.2.1.2.2.2.1 _ (List.mem_of_getElem? (i := 4) rfl)
    refine W.anew X.1 X.2.1 X.2.2.2.1 (X.2.2.2.2.1 _ hlink) (va_AO.use hov) rfl hdg rfl hn (by omega) (by omega) (by omega) fun cA kA comp f1 f2 f3 f4 => ?_
    obtain ⟨kA', comp', g1, g2, g3, g4⟩ := (X.2.2.2.2.2.1.1.2 8 _ rfl).2
    have hcA : cA = G.2.1 8 := Option.some.inj (f1.symm.trans g4)
    subst hcA
    have hn0 : H.size = g_nx h := hI.1.1.symm
    suffices hgoal : gI G h0 (g_add h (.inl (8, n.toNatClampNeg)) n.toNatClampNeg) (H.push ({ cls := G.2.1 8, slots := Array.replicate n.toNatClampNeg .null, vm := .none } : Cell)) locs (cells + 1) (slots + n.toNatClampNeg) by
      rw [hn0]
      exact kk _ _ _ _ _ hf hgoal
    refine g_addI hI rfl ⟨?_, (fun _ j _ y hy => by cases hy), by decide⟩ (by rw [Array.size_push]) (fun x hx => by rw [Array.getElem?_push, if_neg (Nat.ne_of_lt hx)])
    show (H.push _)[g_nx h]? = some (arrV _ _ (fun _ => .null))
    rw [hI.1.1, Array.getElem?_push_size, ← arrV_new]
  · exact (gB_fail hf).elim
end GS
