/-! THE COMPONENT READS CONDITIONS -/
section CC
variable {iv jv kv : gV} {u v w y : gU} {x : Nat} {h : g_H} {B : Nat → Int32} {e : Nat}
theorem PC.upd (h : PC x iv u B e) {a t : Nat} (jk : ∀ k : Nat, k ≠ 8 → jv (x + 1) k = iv (x + 1) k) (j2 : ∀ b : Nat, b ≠ x + 1 → b ≠ a → b ≠ t → jv b = iv b) (xa : x + 370 ≤ a) (xt : x + 370 ≤ t) : PC x jv u B e := h.fr Ux.rf (jk 7 (by decide)) (j2 _ (by omega) (by omega) (by omega)) (fun b hb => j2 b (by omega) (by omega) (by omega))
theorem QS.upd {p q c : Nat} (h : QS x iv u jv w p c) (h8 : kv (x + 1) 8 = iN q) (hk : ∀ k : Nat, k ≠ 8 → kv (x + 1) k = jv (x + 1) k) (ha : ∀ b : Nat, b ≠ x + 1 → b < u.2.2.2.1 → kv b = jv b) : QS x iv u kv w q c := ⟨h8, fun k hk' => (hk k hk').trans (h.2.1 k hk'), fun a a1 a2 => (ha a a1 a2).trans (h.2.2.1 a a1 a2), h.2.2.2⟩
theorem QS.fail {p f c : Nat} (h : QS x iv u jv w p c) (h6 : kv (x + 27) 6 = iN f) (hk : ∀ k : Nat, k ≠ 8 → k ≠ 9 → kv (x + 1) k = jv (x + 1) k) (ha : ∀ b : Nat, b ≠ x + 1 → b ≠ x + 27 → b < u.2.2.2.1 → kv b = jv b) : QF x iv u kv w f c := ⟨h6, fun k k1 k2 => (hk k k1 k2).trans (h.2.1 k k1), fun a a1 a2 a3 => (ha a a1 a2 a3).trans (h.2.2.1 a a1 a3), h.2.2.2⟩
theorem QS.toF {p q f c : Nat} (h : QS x iv u jv w p c) : QF x iv u (pF x jv q f) w f c := by
  unfold pF
  exact h.fail (by rw [g_u2_self, va_up_self]) (fun k h1 h2 => by rw [g_u2_ne _ _ _ (by omega)]; exact aT_k h1) (fun b h1 h2 _ => by rw [g_u2_ne _ _ _ h2]; exact aT_a h1)
theorem w_nwA {t n : Nat} (hn : n < 10000) {P : Nat → g_H → Prop} (hP : ∀ (jv : gV) (w : gU), Al iv u (.inl (t, n)) n jv w → P u.2.2.2.1 (jv, w)) : gW (gNwA t (iN n)) (iv, u) P := by
  unfold gNwA
  rw [gW_ift ⟨iN_0 (by omega), by rw [iN_c (by omega)]; omega⟩, iN_c (by omega)]
  exact w_al hP
theorem sumv_0 {T F : Nat → Int32} (h : ∀ j : Nat, T j = 0) : sumv 0 T F = 0 := by
  unfold sumv
  rw [h, h, h, h, h, h]
  simp
theorem w_sum (h : PC x iv u B e) {p : Nat} (hat : iv (x + 1) 8 = iN p) (hp : p ≤ e) {P : Nat ⊕ gE → g_H → Prop}
    (h1 : ∀ (G : sGs) (q : Nat), pSum B e p = .inl (G, q) → ∀ (jv : gV) (w : gU) (a : Nat), QS x iv u jv w q 2 → sD u.2.2.2.1 jv w a G → P (.inl a) (jv, w))
    (h2 : ∀ f, pSum B e p = .inr f → ∀ (jv : gV) (w : gU), QF x iv u jv w f 2 → P (.inr (5, x + 27)) (jv, w)) : gW (f_X2_sum (x + 1)) (iv, u) P := by
  have hx := h.2.2.2.2.2
  have h4 := h.e4
  unfold f_X2_sum f_X11_init gNew
  rw [gW_B]
  refine w_al (fun j1 w1 A1 => ?_)
  rw [gW_B, gW_B]
  show gW (gNwA 0 (iN 6)) (j1, w1) _
  refine w_nwA (by decide) (fun j2 w2 A2 => ?_)
  have q1 := A1.qs (by decide) hat hx
  have q2 := A2.qs (p := p) (by decide) q1.1 (by have := q1.2.2.2.1.2.2; omega)
  obtain ⟨a1, a2, a3, a4, a5, a6, a7⟩ := A1
  obtain ⟨b1, b2, b3, b4, b5, b6, b7⟩ := A2
  rw [a6] at b1 b2 b3 b4 ⊢
  have s10 : w2.1 u.2.2.2.1 = some (.inr 10) := by rw [(b4 _ (by omega)).2.1]; exact a1
  rw [gW_B, gW_PQ s10, gW_ret]
  have q3 : QS x iv u j2 (w2.1, g_u2 w2.2.1 u.2.2.2.1 0 (some (u.2.2.2.1 + 1)), w2.2.2) p 2 := by
    refine (q1.tr q2).new (fun a ha => ⟨rfl, rfl, ?_⟩) (by omega) rfl
    exact g_u2_ne _ _ _ (by omega)
  have hP2 := h.qs q3
  have H := hP2.X
  have e0 : j2 u.2.2.2.1 = j1 u.2.2.2.1 := (b4 _ (by omega)).1
  have s1 : (g_u2 w2.2.1 u.2.2.2.1 0 (some (u.2.2.2.1 + 1))) u.2.2.2.1 0 = some (u.2.2.2.1 + 1) := by rw [g_u2_self, va_up_self]
  have hn2 : w2.2.2.2.1 = u.2.2.2.1 + 2 := by omega
  rw [gW_B, rQc H, gW_T, ← at_id q3.1]
  unfold pSum at h1 h2
  refine w_part hP2 hp s10 s1 b1 (fun G q hn jv k1 k2 k3 => ?_) (fun f hn q => ?_)
  · rw [hn] at h1 h2
    have hq := pPart_n hp hn
    have jk : ∀ k : Nat, k ≠ 8 → jv (x + 1) k = j2 (x + 1) k := fun k hk => by rw [k1]; exact aT_k hk
    have hP3 : PC x jv _ B e := hP2.upd jk k2 (by omega) (by omega)
    have ej : aT x jv q = jv := at_id (by rw [k1]; exact aT_8)
    show gW (f_X2_sum_13 gN (x + 1) u.2.2.2.1) (jv, _) P
    rw [← ej]
    refine w_sum_13 401 jv G q gN hP3 (by omega) (by omega) s10 s1 b1 hq.2 (by omega) (by rw [gN_eq]; omega) (fun F => ?_) (fun G' r hr kv l1 l2 l3 => ?_) (fun f hf r kv l1 l2 => ?_)
    · rw [k3 F, e0, a2 1, sumv_0 (T := j2 (u.2.2.2.1 + 1)) b2, Int32.zero_add]
    · refine h1 G' r hr kv _ _ (q3.upd (by rw [l1]; exact aT_8) (fun k hk => by rw [l1, aT_k hk]; exact jk k hk) (fun b c1 c2 => (l2 b c1 (by omega) (by omega)).trans (k2 b c1 (by omega) (by omega)))) ⟨Nat.le_refl _, ?_, s10, u.2.2.2.1 + 1, s1, by omega, ?_, b1, l3⟩
      · show _ < w2.2.2.2.1; omega
      · show _ < w2.2.2.2.1; omega
    · refine h2 f hf _ _ (q3.fail (by unfold pF; rw [g_u2_self, va_up_self]) (fun k c1 c2 => ?_) (fun b c1 c2 c3 => ?_))
      · unfold pF
        rw [g_u2_ne _ _ _ (by omega), aT_k c1]
        exact (l1 k c1).trans (jk k c1)
      · unfold pF
        rw [g_u2_ne _ _ _ c2, aT_a c1]
        exact (l2 b c1 (by omega) (by omega)).trans (k2 b c1 (by omega) (by omega))
  · rw [hn] at h2
    exact h2 f rfl _ _ q3.toF
/-! conditions by what they answer, at a depth -/
def cdD (d T : Nat) (jv : gV) (w : gU) (c : Nat) (C : sCs) : Prop := T ≤ c ∧ c < w.2.2.2.1 ∧ ∀ (d' : Nat) (kv : gV) (y : gU), d ≤ d' → Kp T w.2.2.2.1 jv w kv y → ∀ fx : Nat, y.1 fx = some (.inl (0, 8)) → okF (kv fx) → ∀ P : Int32 → g_H → Prop, P (bI (C (kv fx) = true)) (kv, y) → gW (f_holds d' c fx) (kv, y) P
theorem cdD.kp {d T c : Nat} {C : sCs} (h : cdD d T jv w c C) (hk : Kp T w.2.2.2.1 jv w kv y) (hn : w.2.2.2.1 ≤ y.2.2.2.1) : cdD d T kv y c C := ⟨h.1, by have := h.2.1; omega, fun d' lv z hd hz => h.2.2 d' lv z hd (hk.tr (fun a h1 h2 => hz a h1 (by omega)))⟩
theorem cdD.lo {d T T' c : Nat} {C : sCs} (h : cdD d T jv w c C) (hT : T' ≤ T) : cdD d T' jv w c C := ⟨by have := h.1; omega, h.2.1, fun d' lv z hd hz => h.2.2 d' lv z hd (fun a h1 h2 => hz a (by omega) h2)⟩
theorem cdD.up {d d' T c : Nat} {C : sCs} (h : cdD d T jv w c C) (hd : d ≤ d') : cdD d' T jv w c C := ⟨h.1, h.2.1, fun d'' lv z hd' hz => h.2.2 d'' lv z (by omega) hz⟩
theorem QS.kp {p c T : Nat} (h : QS x jv w kv y p c) (hT : x + 2 ≤ T) : Kp T w.2.2.2.1 jv w kv y := fun a h1 h2 => ⟨h.2.2.1 a (by omega) h2, (h.2.2.2.1.1 a h2).1, (h.2.2.2.1.1 a h2).2⟩
theorem cdD.cD {d n1 c : Nat} {C : sCs} (h : cdD d n1 jv w c C) (hd : d ≤ 24) : cD n1 w.2.2.2.1 jv w c C := fun kv y hk fx hf hF P hP => h.2.2 24 kv y hd hk fx hf hF P hP
theorem gOpt_s {α : Type} {a : gM α} {b : Nat → gM α} {k : Nat} : gOpt (some k) a b = b k := rfl
theorem gOpt_n {α : Type} {a : gM α} {b : Nat → gM α} : gOpt none a b = a := rfl
theorem gW_gd1 {y : Int32} (hy : y = 0 ∨ y = 1) {P : Int32 → g_H → Prop} : gW (gB (gGd (y = 0 ∨ y = 1)) fun _ => gRet y) h P ↔ P y h := by
  rw [gW_B, gW_gd, gW_ret]
  exact ⟨fun q => q.2, fun q => ⟨hy, q⟩⟩
theorem h_tag {d c k fx : Nat} (hs : u.1 c = some (.inr 9)) (h0 : iv c 0 = iN k) (hk : k < 8) (hf : u.1 fx = some (.inl (0, 8))) {P : Int32 → g_H → Prop} (hP : P (bI (decide (iv fx k ≠ 0) = true)) (iv, u)) : gW (f_holds (d + 1) c fx) (iv, u) P := by
  rw [f_holds, gW_B, gW_Sh hs, gW_iff (by decide), gW_ift rfl]
  unfold f_X10_holds f_X10_holds_14
  rw [gW_B, gW_FI hs, h0, gW_B, gW_AI hf rfl hk (by decide)]
  by_cases hc : iv fx k = 0
  · rw [gW_ift hc, gW_gd1 (Or.inl rfl)]
    rw [bI_f (by rw [decide_eq_true_eq]; exact fun q => q hc)] at hP
    exact hP
  · rw [gW_iff hc, gW_gd1 (Or.inr rfl)]
    rw [bI_t (by rw [decide_eq_true_eq]; exact hc)] at hP
    exact hP
theorem h_less {d c a b ta tb fx : Nat} (hs : u.1 c = some (.inr 11)) (h0 : u.2.1 c 0 = some a) (h1 : u.2.1 c 1 = some b) (ha : u.1 a = some (.inr 10)) (hat : u.2.1 a 0 = some ta) (hta : u.1 ta = some (.inl (0, 6))) (hb : u.1 b = some (.inr 10)) (hbt : u.2.1 b 0 = some tb) (htb : u.1 tb = some (.inl (0, 6))) (hf : u.1 fx = some (.inl (0, 8))) {P : Int32 → g_H → Prop} (hP : P (bI (decide (sumv (iv a 1) (iv ta) (iv fx) < sumv (iv b 1) (iv tb) (iv fx)) = true)) (iv, u)) : gW (f_holds (d + 1) c fx) (iv, u) P := by
  rw [f_holds, gW_B, gW_Sh hs, gW_iff (by decide), gW_iff (by decide), gW_ift rfl]
  unfold f_X12_holds f_X12_holds_24
  rw [gW_B, gW_FR hs h0, gW_B, gW_Ck ha, gW_B, w_sumof ha hat hta hf, gW_B, gW_FR hs h1, gW_B, gW_Ck hb, gW_B, w_sumof hb hbt htb hf]
  by_cases hc : sumv (iv b 1) (iv tb) (iv fx) ≤ sumv (iv a 1) (iv ta) (iv fx)
  · rw [gW_ift hc, gW_gd1 (Or.inl rfl)]
    rw [bI_f (by rw [decide_eq_true_eq]; exact Int32.not_lt.mpr hc)] at hP
    exact hP
  · rw [gW_iff hc, gW_gd1 (Or.inr rfl)]
    rw [bI_t (by rw [decide_eq_true_eq]; exact Int32.not_le.mp hc)] at hP
    exact hP
theorem h_not {d c c' fx : Nat} {X : Bool} (hs : u.1 c = some (.inr 12)) (h0 : u.2.1 c 0 = some c') {P : Int32 → g_H → Prop} (hc' : ∀ Q : Int32 → g_H → Prop, Q (bI (X = true)) (iv, u) → gW (f_holds d c' fx) (iv, u) Q) (hP : P (bI ((!X) = true)) (iv, u)) : gW (f_holds (d + 1) c fx) (iv, u) P := by
  rw [f_holds, gW_B, gW_Sh hs, gW_iff (by decide), gW_iff (by decide), gW_iff (by decide), gW_ift rfl]
  unfold f_X13_holds f_X13_holds_18
  rw [gW_B, gW_FR hs h0, gW_B]
  refine hc' _ ?_
  cases X with
  | true =>
    rw [bI_t rfl, gW_iff (by decide), gW_gd1 (Or.inl rfl)]
    rw [bI_f (by decide)] at hP
    exact hP
  | false =>
    rw [bI_f (by decide), gW_ift rfl, gW_gd1 (Or.inr rfl)]
    rw [bI_t (by decide)] at hP
    exact hP
/-! a row of conditions -/
def foB (al : Bool) (D : Nat → Bool) : Nat → Bool
  | 0 => D 0
  | m + 1 => if al = true then foB al D m && D (m + 1) else foB al D m || D (m + 1)
theorem foB_al {al : Bool} {D : Nat → Bool} : ∀ m : Nat, (∀ j : Nat, j ≤ m → D j = al) → foB al D m = al := by
  intro m
  induction m with
  | zero => exact fun h => h 0 (Nat.le_refl _)
  | succ m ih =>
    intro h
    rw [foB, ih (fun j hj => h j (by omega)), h (m + 1) (Nat.le_refl _)]
    cases al <;> rfl
theorem foB_no {al : Bool} {D : Nat → Bool} {i : Nat} (hi : D i ≠ al) : ∀ m : Nat, i ≤ m → foB al D m = !al := by
  have hi' : D i = !al := by
    cases hd : D i <;> cases al <;> first | rfl | exact (hi hd).elim
  intro m
  induction m with
  | zero =>
    intro h
    have : i = 0 := by omega
    subst this
    exact hi'
  | succ m ih =>
    intro h
    rw [foB]
    by_cases e' : i = m + 1
    · rw [← e', hi']
      cases al <;> cases foB _ D m <;> rfl
    · rw [ih (by omega)]
      cases al <;> cases D (m + 1) <;> rfl
/-- a condition, as long as the cells from T to E are kept -/
def cdR (d T E : Nat) (jv : gV) (w : gU) (c : Nat) (C : sCs) : Prop := ∀ (d' : Nat) (kv : gV) (y : gU), d ≤ d' → Kp T E jv w kv y → ∀ fx : Nat, y.1 fx = some (.inl (0, 8)) → okF (kv fx) → ∀ P : Int32 → g_H → Prop, P (bI (C (kv fx) = true)) (kv, y) → gW (f_holds d' c fx) (kv, y) P
theorem cdR.kp {d T E c : Nat} {C : sCs} (h : cdR d T E jv w c C) (hk : Kp T E jv w kv y) : cdR d T E kv y c C := fun d' lv z hd hz => h d' lv z hd (hk.tr hz)
/-- the cells of a row: m + 1 of them -/
def Ch (d T : Nat) (jv : gV) (w : gU) (al : Bool) (m : Nat) (Ad : Nat → Nat) (D : Nat → sCs) : Prop := (∀ i : Nat, i ≤ m → T ≤ Ad i ∧ Ad i < w.2.2.2.1 ∧ w.1 (Ad i) = some (.inr 8) ∧ jv (Ad i) 1 = bI (al = true) ∧ (∃ o Ti Ei : Nat, w.2.1 (Ad i) 0 = some o ∧ T ≤ Ti ∧ Ei ≤ w.2.2.2.1 ∧ cdR d Ti Ei jv w o (D i) ∧ ∀ j : Nat, j ≤ m → Ad j < Ti ∨ Ei ≤ Ad j) ∧ w.2.1 (Ad i) 2 = if i < m then some (Ad (i + 1)) else none) ∧ ∀ i j : Nat, i < j → j ≤ m → Ad i < Ad j
theorem Ch.holds {d T m fx : Nat} {al : Bool} {Ad : Nat → Nat} {D : Nat → sCs} (hC : Ch d T jv w al m Ad D) (hk : Kp T w.2.2.2.1 jv w kv y) {d' : Nat} (hd : d ≤ d') (hf : y.1 fx = some (.inl (0, 8))) (hF : okF (kv fx)) {P : Int32 → g_H → Prop} (hP : P (bI (foB al (fun j => D j (kv fx)) m = true)) (kv, y)) :
    ∀ k i n : Nat, i + k = m → k + 1 < n → (∀ j : Nat, j < i → D j (kv fx) = al) → gW (f_X9_holds_2 (f_holds d') n (Ad 0) fx (some (Ad i))) (kv, y) P := by
  have c0 := hC.1 0 (by omega)
  have k0 := hk (Ad 0) c0.1 c0.2.1
  have s0 : y.1 (Ad 0) = some (.inr 8) := by rw [k0.2.1]; exact c0.2.2.1
  have v0 : kv (Ad 0) 1 = bI (al = true) := by rw [k0.1]; exact c0.2.2.2.1
  intro k
  induction k with
  | zero =>
    intro i n h1 h2 h3
    obtain ⟨n, rfl⟩ : ∃ n', n = n' + 1 := ⟨n - 1, by omega⟩
    obtain ⟨q1, q2, q3, q4, ⟨o, Ti, Ei, q5, qT, qE, q6, -⟩, q7⟩ := hC.1 i (by omega)
    obtain ⟨r1, r2, r3⟩ := hk (Ad i) q1 q2
    have sI : y.1 (Ad i) = some (.inr 8) := by rw [r2]; exact q3
    rw [f_X9_holds_2, gOpt_s, gW_B, gW_FR sI (by rw [r3]; exact q5), gW_B]
    refine q6 d' kv y hd (fun a a1 a2 => hk a (by omega) (by omega)) fx hf hF _ ?_
    rw [gW_B, gW_FI s0, v0]
    by_cases hc : D i (kv fx) = al
    · rw [gW_ift (by rw [hc]), gW_B, gW_FQ sI, r3, q7, if_neg (by omega)]
      obtain ⟨n, rfl⟩ : ∃ n', n = n' + 1 := ⟨n - 1, by omega⟩
      rw [f_X9_holds_2, gOpt_n]
      unfold f_X9_holds_44
      rw [gW_B, gW_FI s0, v0, gW_gd1 bI_o]
      rw [foB_al m (fun j hj => by
        by_cases e' : j = i
        · rw [e']; exact hc
        · exact h3 j (by omega))] at hP
      exact hP
    · have hne : ¬ bI (D i (kv fx) = true) = bI (al = true) := by
        intro q
        apply hc
        cases hx : D i (kv fx) <;> cases al <;> first | rfl | (rw [hx] at q; exact absurd q (by decide))
      rw [gW_iff hne]
      unfold f_X9_holds_23 f_X9_holds_35
      rw [gW_B, gW_FI s0, v0]
      rw [foB_no (D := fun j => D j (kv fx)) hc m (by omega)] at hP
      cases al with
      | true => rw [gW_iff (by rw [bI_t rfl]; decide), gW_gd1 (Or.inl rfl)]; exact hP
      | false => rw [gW_ift (bI_f (by decide)), gW_gd1 (Or.inr rfl)]; exact hP
  | succ k ih =>
    intro i n h1 h2 h3
    obtain ⟨n, rfl⟩ : ∃ n', n = n' + 1 := ⟨n - 1, by omega⟩
    obtain ⟨q1, q2, q3, q4, ⟨o, Ti, Ei, q5, qT, qE, q6, -⟩, q7⟩ := hC.1 i (by omega)
    obtain ⟨r1, r2, r3⟩ := hk (Ad i) q1 q2
    have sI : y.1 (Ad i) = some (.inr 8) := by rw [r2]; exact q3
    rw [f_X9_holds_2, gOpt_s, gW_B, gW_FR sI (by rw [r3]; exact q5), gW_B]
    refine q6 d' kv y hd (fun a a1 a2 => hk a (by omega) (by omega)) fx hf hF _ ?_
    rw [gW_B, gW_FI s0, v0]
    by_cases hc : D i (kv fx) = al
    · rw [gW_ift (by rw [hc]), gW_B, gW_FQ sI, r3, q7, if_pos (by omega)]
      refine ih (i + 1) n (by omega) (by omega) (fun j hj => ?_)
      by_cases e' : j = i
      · rw [e']; exact hc
      · exact h3 j (by omega)
    · have hne : ¬ bI (D i (kv fx) = true) = bI (al = true) := by
        intro q
        apply hc
        cases hx : D i (kv fx) <;> cases al <;> first | rfl | (rw [hx] at q; exact absurd q (by decide))
      rw [gW_iff hne]
      unfold f_X9_holds_23 f_X9_holds_35
      rw [gW_B, gW_FI s0, v0]
      rw [foB_no (D := fun j => D j (kv fx)) hc m (by omega)] at hP
      cases al with
      | true => rw [gW_iff (by rw [bI_t rfl]; decide), gW_gd1 (Or.inl rfl)]; exact hP
      | false => rw [gW_ift (bI_f (by decide)), gW_gd1 (Or.inr rfl)]; exact hP
theorem Ch.cd {d T m : Nat} {al : Bool} {Ad : Nat → Nat} {D : Nat → sCs} (hC : Ch d T jv w al m Ad D) (hm : m < 1000) : cdD (d + 1) T jv w (Ad 0) (fun F => foB al (fun j => D j F) m) := by
  have c0 := hC.1 0 (by omega)
  refine ⟨c0.1, c0.2.1, fun d' kv y hd hk fx hf hF P hP => ?_⟩
  obtain ⟨d', rfl⟩ : ∃ d'', d' = d'' + 1 := ⟨d' - 1, by omega⟩
  have k0 := hk (Ad 0) c0.1 c0.2.1
  have s0 : y.1 (Ad 0) = some (.inr 8) := by rw [k0.2.1]; exact c0.2.2.1
  rw [f_holds, gW_B, gW_Sh s0, gW_ift rfl]
  unfold f_X9_holds
  exact hC.holds hk (by omega) hf hF hP m 0 gN (by omega) (by rw [gN_eq]; omega) (fun j hj => by omega)
end CC
