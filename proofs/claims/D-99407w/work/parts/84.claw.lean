/-! THE COMPONENT READS A LAW -/
section CL
variable {iv jv kv lv : gV} {u v w y : gU} {x : Nat} {h : g_H} {B : Nat → Int32} {e : Nat}
/-- as Ux, but for the row of lines -/
def U5 (x T : Nat) (u w : gU) : Prop := (∀ a : Nat, a < T → w.1 a = u.1 a ∧ (a ≠ x + 5 → w.2.1 a = u.2.1 a)) ∧ w.2.2.1 = u.2.2.1 ∧ u.2.2.2.1 ≤ w.2.2.2.1
theorem XS.u5 {T : Nat} (H : XS u x) (hu : U5 x T u w) (hT : x + 353 ≤ T) : XS w x := by
  have h1 : Ux T u (w.1, va_up w.2.1 (x + 5) (u.2.1 (x + 5)), w.2.2) := by
    refine ⟨fun a ha => ⟨(hu.1 a ha).1, ?_⟩, hu.2.1, hu.2.2⟩
    show va_up w.2.1 (x + 5) (u.2.1 (x + 5)) a = _
    by_cases e' : a = x + 5
    · rw [e', va_up_self]
    · rw [va_up_ne _ _ e']; exact (hu.1 a ha).2 e'
  have h2 := H.fr h1 hT
  have h3 := h2.rv (a := x + 5) (f := w.2.1 (x + 5)) h2.2.2.2.2.2.1.2.2.2.2.2.2.2.1
  have e1 : va_up (va_up w.2.1 (x + 5) (u.2.1 (x + 5))) (x + 5) (w.2.1 (x + 5)) = w.2.1 := by rw [va_up_up, va_up_g]
  rw [show ((w.1, va_up w.2.1 (x + 5) (u.2.1 (x + 5)), w.2.2) : gU).2.1 = va_up w.2.1 (x + 5) (u.2.1 (x + 5)) from rfl, e1] at h3
  exact h3
def LQ (x : Nat) (iv : gV) (u : gU) (jv : gV) (w : gU) (p c : Nat) : Prop := jv (x + 1) 8 = iN p ∧ (∀ k : Nat, k ≠ 8 → jv (x + 1) k = iv (x + 1) k) ∧ (∀ a : Nat, a ≠ x + 1 → a < u.2.2.2.1 → jv a = iv a) ∧ U5 x u.2.2.2.1 u w ∧ w.2.2.2.1 ≤ u.2.2.2.1 + c ∧ w.2.2.2.2 + 8 * u.2.2.2.1 ≤ u.2.2.2.2 + 8 * w.2.2.2.1
def LF (x : Nat) (iv : gV) (u : gU) (jv : gV) (w : gU) (f c : Nat) : Prop := jv (x + 27) 6 = iN f ∧ (∀ k : Nat, k ≠ 8 → k ≠ 9 → jv (x + 1) k = iv (x + 1) k) ∧ (∀ a : Nat, a ≠ x + 1 → a ≠ x + 27 → a < u.2.2.2.1 → jv a = iv a) ∧ U5 x u.2.2.2.1 u w ∧ w.2.2.2.1 ≤ u.2.2.2.1 + c ∧ w.2.2.2.2 + 8 * u.2.2.2.1 ≤ u.2.2.2.2 + 8 * w.2.2.2.1
theorem LQ.tr {p q c d : Nat} (h1 : LQ x iv u jv w p c) (h2 : QS x jv w kv y q d) : LQ x iv u kv y q (c + d) := by
  obtain ⟨a1, a2, a3, ⟨a4, a4', a4''⟩, a5, a6⟩ := h1
  obtain ⟨b1, b2, b3, ⟨b4, b4', b4''⟩, b5, b6⟩ := h2
  exact ⟨b1, fun k hk => (b2 k hk).trans (a2 k hk), fun a h h' => (b3 a h (by omega)).trans (a3 a h h'), ⟨fun a ha => ⟨((b4 a (by omega)).1).trans (a4 a ha).1, fun hne => ((b4 a (by omega)).2).trans ((a4 a ha).2 hne)⟩, b4'.trans a4', by omega⟩, by omega, by omega⟩
theorem LQ.trF {p f c d : Nat} (h1 : LQ x iv u jv w p c) (h2 : QF x jv w kv y f d) : LF x iv u kv y f (c + d) := by
  obtain ⟨a1, a2, a3, ⟨a4, a4', a4''⟩, a5, a6⟩ := h1
  obtain ⟨b1, b2, b3, ⟨b4, b4', b4''⟩, b5, b6⟩ := h2
  exact ⟨b1, fun k hk hk' => (b2 k hk hk').trans (a2 k hk), fun a h h' h'' => (b3 a h h' (by omega)).trans (a3 a h h''), ⟨fun a ha => ⟨((b4 a (by omega)).1).trans (a4 a ha).1, fun hne => ((b4 a (by omega)).2).trans ((a4 a ha).2 hne)⟩, b4'.trans a4', by omega⟩, by omega, by omega⟩
theorem LQ.r5 {p c k : Nat} {z : Option Nat} (h : LQ x iv u jv w p c) : LQ x iv u jv (w.1, g_u2 w.2.1 (x + 5) k z, w.2.2) p c := by
  obtain ⟨a1, a2, a3, ⟨a4, a4', a4''⟩, a5, a6⟩ := h
  refine ⟨a1, a2, a3, ⟨fun a ha => ⟨(a4 a ha).1, fun hne => ?_⟩, a4', a4''⟩, a5, a6⟩
  show g_u2 w.2.1 (x + 5) k z a = _
  rw [g_u2_ne _ _ _ hne]
  exact (a4 a ha).2 hne
theorem PC.lq {p c : Nat} (h : PC x iv u B e) (q : LQ x iv u jv w p c) : PC x jv w B e := by
  have hx := h.2.2.2.2.2
  obtain ⟨a1, a2, a3, a4, a5, a6⟩ := q
  refine ⟨h.1.u5 a4 (by omega), (a2 7 (by decide)).trans h.2.1, h.2.2.1, fun k hk => by rw [a3 _ (by omega) (by omega)]; exact h.t hk, fun i hi => ?_, Nat.le_trans hx a4.2.2⟩
  obtain ⟨q1, q2, q3, y, q4, q5, q6, q7⟩ := h.tx i hi
  rw [a4.2.1]
  exact ⟨q1, by rw [(a4.1 _ (by omega)).1]; exact q2, by rw [a3 _ (by omega) (by omega)]; exact q3, y, q4, by rw [(a4.1 _ (by omega)).2 (by omega)]; exact q5, by rw [(a4.1 _ (by omega)).1]; exact q6, fun j hj => by rw [a3 _ (by omega) (by omega)]; exact q7 j hj⟩
/-- the lines that were read -/
def RL (x T : Nat) (jv : gV) (w : gU) (L : gLw) : Prop := ∀ k : Nat, k < L.1 → ∃ a : Nat, w.2.1 (x + 5) k = some a ∧ T ≤ a ∧ a < w.2.2.2.1 ∧ lD T w.2.2.2.1 jv w a (L.2.1 k) (L.2.2.1 k) (L.2.2.2 k)
theorem lD.mo {n1 n1' top top' a : Nat} {K N : Int32} {C : sCs} (h : lD n1 top jv w a K N C) (h1 : n1' ≤ n1) (h2 : top ≤ top') : lD n1' top' jv w a K N C := by
  obtain ⟨a1, a2, a3⟩ := h
  refine ⟨a1, a2, ?_⟩
  rcases a3 with q | ⟨c, q, q'⟩
  · exact Or.inl q
  · exact Or.inr ⟨c, q, fun kv y hk => q' kv y (fun b b1 b2 => hk b (by omega) (by omega))⟩
theorem RL.kp {T : Nat} {L : gLw} (h : RL x T jv w L) (hk : Kp T w.2.2.2.1 jv w kv y) (h5 : y.2.1 (x + 5) = w.2.1 (x + 5)) (hn : w.2.2.2.1 ≤ y.2.2.2.1) : RL x T kv y L := fun k hl => by
  obtain ⟨a, a1, a2, a3, a4⟩ := h k hl
  exact ⟨a, by rw [h5]; exact a1, a2, by omega, (a4.kp a2 a3 hk).mo (Nat.le_refl _) hn⟩
/-- a line is made, and laid into the row -/
theorem w_law_83 (h : PC x iv u B e) {T c n p : Nat} (hc : c < 12) (hT : x + 370 ≤ T) (hTu : T ≤ u.2.2.2.1) (hat : iv (x + 1) 8 = iN p) {kd : Int32} (hkd : kd = 0 ∨ kd = 1 ∨ kd = 2) {b0 : Option Nat} {C : sCs} (hb : (b0 = none ∧ C = fun _ => true) ∨ ∃ b, b0 = some b ∧ cD T u.2.2.2.1 iv u b C) {k7 : Nat → Int32 → gM (Int32 ⊕ gE)} {P : Int32 ⊕ gE → g_H → Prop}
    (hP : ∀ (kv : gV) (y : gU) (a : Nat), QS x iv u kv y p 1 → T ≤ a → a < y.2.2.2.1 → (∀ z : Option Nat, lD T y.2.2.2.1 kv (y.1, g_u2 y.2.1 (x + 5) c z, y.2.2) a kd (iN n) C) → gW (k7 (x + 1) (iN (c + 1))) (kv, y.1, g_u2 y.2.1 (x + 5) c (some a), y.2.2) P) : gW (f_X2_law_83 k7 (x + 1) (iN c) kd (iN n) b0) (iv, u) P := by
  have H := h.X
  have hx := h.2.2.2.2.2
  have ar : ∀ {y : gU}, y.1 (x + 5) = some (.inl (6, 12)) → ∀ (kv : gV) (a ci : Nat), y.1 a = some (.inr ci) → g_in 6 ci = true → gW (k7 (x + 1) (iN (c + 1))) (kv, y.1, g_u2 y.2.1 (x + 5) c (some a), y.2.2) P → gW (f_X2_law_129 k7 (x + 1) (iN c) (x + 5) (iN c) a) (kv, y) P := by
    intro y h5 kv a ci hs hg hh
    unfold f_X2_law_129
    rw [gW_B, gW_Sh hs, gW_B, gW_SQ h5 rfl hc (by decide) hs hg, iNp1]
    exact hh
  have mk : ∀ (j1 : gV) (w1 : gU) (ci sz : Nat) (j2 : gV) (s2 : Int32), Al iv u (.inr ci) sz j1 w1 → sz ≤ 8 → (∀ a : Nat, a ≠ u.2.2.2.1 → j2 a = j1 a) → j2 u.2.2.2.1 0 = iN n → j2 u.2.2.2.1 2 = s2 → ((ci = 14 ∧ kd = 2) ∨ (ci = 15 ∧ ((kd = 0 ∧ s2 = 1) ∨ (kd = 1 ∧ s2 = -1)))) → g_in 6 ci = true → gW (f_X2_law_129 k7 (x + 1) (iN c) (x + 5) (iN c) u.2.2.2.1) (j2, w1.1, g_u2 w1.2.1 u.2.2.2.1 1 b0, w1.2.2) P := by
    intro j1 w1 ci sz j2 s2 A1 hsz e2 e0 es hci hg
    have q1 := A1.qs hsz hat hx
    obtain ⟨a1, a2, a3, a4, a5, a6, a7⟩ := A1
    have q2 : QS x iv u j2 (w1.1, g_u2 w1.2.1 u.2.2.2.1 1 b0, w1.2.2) p 1 := q1.new (fun a ha => ⟨e2 a (by omega), rfl, g_u2_ne _ _ _ (by omega)⟩) (by omega) rfl
    have h5 : w1.1 (x + 5) = some (.inl (6, 12)) := by rw [(a4 _ (by omega)).2.1]; exact H.2.2.2.2.2.1.2.2.2.2.2.2.2.1
    refine ar (y := (w1.1, g_u2 w1.2.1 u.2.2.2.1 1 b0, w1.2.2)) h5 j2 _ ci a1 hg (hP j2 (w1.1, g_u2 w1.2.1 u.2.2.2.1 1 b0, w1.2.2) _ q2 hTu (by show _ < w1.2.2.2.1; omega) (fun z => ⟨e0, ?_, ?_⟩))
    · rw [es]
      rcases hci with ⟨rfl, h2⟩ | ⟨rfl, h2⟩
      · exact Or.inl ⟨a1, h2⟩
      · exact Or.inr ⟨a1, h2⟩
    · have e1 : g_u2 (g_u2 w1.2.1 u.2.2.2.1 1 b0) (x + 5) c z u.2.2.2.1 1 = b0 := by rw [g_u2_ne _ _ _ (by omega), g_u2_self, va_up_self]
      rcases hb with ⟨hb, hC⟩ | ⟨b, hb, hC⟩
      · refine Or.inl ⟨e1.trans hb, fun F _ => by rw [hC]⟩
      · refine Or.inr ⟨b, e1.trans hb, fun kv y hk => hC kv y (fun a q1 q2 => ?_)⟩
        obtain ⟨k1, k2, k3⟩ := hk a q1 (by show a < w1.2.2.2.1; omega)
        obtain ⟨l1, l2, l3⟩ := a4 a (by omega)
        refine ⟨k1.trans ((e2 a (by omega)).trans l1), k2.trans l2, k3.trans ?_⟩
        show g_u2 (g_u2 w1.2.1 u.2.2.2.1 1 b0) (x + 5) c z a = _
        rw [g_u2_ne _ _ _ (by omega), g_u2_ne _ _ _ (by omega)]
        exact l3
  unfold f_X2_law_83 f_X2_law_126 f_X15_init f_X16_init f_X14_init_c14 f_X14_init_c15 f_X16_init_16 gNew
  rw [gW_B, rQr H]
  by_cases k2 : kd = 2
  · rw [gW_ift k2, gW_B]
    refine w_al (fun j1 w1 A1 => ?_)
    have a1 := A1.1
    rw [gW_B, gW_B, gW_B, gW_PI a1, gW_B, gW_PQ a1, gW_ret, gW_ret]
    exact mk j1 w1 14 2 _ _ A1 (by decide) (fun a ha => g_u2_ne _ _ _ ha) (by rw [g_u2_self, va_up_self]) rfl (Or.inl ⟨rfl, k2⟩) rfl
  · rw [gW_iff k2, gW_B]
    refine w_al (fun j1 w1 A1 => ?_)
    have a1 := A1.1
    by_cases k0 : kd = 0
    · rw [gW_ift k0, gW_B, gW_B, gW_B, gW_PI a1, gW_B, gW_PQ a1, gW_ret, gW_iff (by decide), gW_B, gW_PI (u := (w1.1, g_u2 w1.2.1 u.2.2.2.1 1 b0, w1.2.2)) a1, gW_ret]
      exact mk j1 w1 15 3 _ 1 A1 (by decide) (fun a ha => by rw [g_u2_ne _ _ _ ha, g_u2_ne _ _ _ ha]) (by rw [g_u2_self, va_up_ne _ _ (by decide), g_u2_self, va_up_self]) (by rw [g_u2_self, va_up_self]) (Or.inr ⟨rfl, Or.inl ⟨k0, rfl⟩⟩) rfl
    · have k1 : kd = 1 := by
        rcases hkd with q | q | q
        · exact (k0 q).elim
        · exact q
        · exact (k2 q).elim
      rw [gW_iff k0, gW_B, gW_B, gW_B, gW_PI a1, gW_B, gW_PQ a1, gW_ret, gW_ift rfl, gW_B, gW_PI (u := (w1.1, g_u2 w1.2.1 u.2.2.2.1 1 b0, w1.2.2)) a1, gW_ret]
      exact mk j1 w1 15 3 _ (-1) A1 (by decide) (fun a ha => by rw [g_u2_ne _ _ _ ha, g_u2_ne _ _ _ ha]) (by rw [g_u2_self, va_up_ne _ _ (by decide), g_u2_self, va_up_self]) (by rw [g_u2_self, va_up_self]) (Or.inr ⟨rfl, Or.inr ⟨k1, rfl⟩⟩) rfl
theorem RL.add {T c a p : Nat} {L : gLw} {kd vv : Int32} {C : sCs} (h : RL x T jv w L) (hc : L.1 = c) (hk : Kp T w.2.2.2.1 jv w kv y) (h5 : y.2.1 (x + 5) = w.2.1 (x + 5)) (hn : w.2.2.2.1 ≤ y.2.2.2.1) (hT : x + 6 ≤ T) (ha : T ≤ a) (ha2 : a < y.2.2.2.1) (hD : lD T y.2.2.2.1 kv (y.1, g_u2 y.2.1 (x + 5) c (some a), y.2.2) a kd vv C) : RL x T kv (y.1, g_u2 y.2.1 (x + 5) c (some a), y.2.2) (L.1 + 1, va_up L.2.1 L.1 kd, va_up L.2.2.1 L.1 vv, va_up L.2.2.2 L.1 C) := by
  subst hc
  intro k hk'
  have e5 : ∀ j : Nat, g_u2 y.2.1 (x + 5) L.1 (some a) (x + 5) j = va_up (y.2.1 (x + 5)) L.1 (some a) j := fun j => congrFun (g_u2_self _ _ _ _) j
  by_cases ek : k = L.1
  · subst ek
    refine ⟨a, ?_, ha, ha2, ?_⟩
    · show g_u2 y.2.1 (x + 5) L.1 (some a) (x + 5) L.1 = _
      rw [e5, va_up_self]
    · rw [show (L.1 + 1, va_up L.2.1 L.1 kd, va_up L.2.2.1 L.1 vv, va_up L.2.2.2 L.1 C).2.1 L.1 = kd from va_up_self _ _ _, show (L.1 + 1, va_up L.2.1 L.1 kd, va_up L.2.2.1 L.1 vv, va_up L.2.2.2 L.1 C).2.2.1 L.1 = vv from va_up_self _ _ _, show (L.1 + 1, va_up L.2.1 L.1 kd, va_up L.2.2.1 L.1 vv, va_up L.2.2.2 L.1 C).2.2.2 L.1 = C from va_up_self _ _ _]
      exact hD
  · have hk2 : k < L.1 := by
      have : k < L.1 + 1 := hk'
      omega
    obtain ⟨b, b1, b2, b3, b4⟩ := h k hk2
    refine ⟨b, ?_, b2, by show b < y.2.2.2.1; omega, ?_⟩
    · show g_u2 y.2.1 (x + 5) L.1 (some a) (x + 5) k = _
      rw [e5, va_up_ne _ _ ek, h5]
      exact b1
    · rw [show (L.1 + 1, va_up L.2.1 L.1 kd, va_up L.2.2.1 L.1 vv, va_up L.2.2.2 L.1 C).2.1 k = L.2.1 k from va_up_ne _ _ ek, show (L.1 + 1, va_up L.2.1 L.1 kd, va_up L.2.2.1 L.1 vv, va_up L.2.2.2 L.1 C).2.2.1 k = L.2.2.1 k from va_up_ne _ _ ek, show (L.1 + 1, va_up L.2.1 L.1 kd, va_up L.2.2.1 L.1 vv, va_up L.2.2.2 L.1 C).2.2.2 k = L.2.2.2 k from va_up_ne _ _ ek]
      have k1 : Kp T w.2.2.2.1 jv w kv (y.1, g_u2 y.2.1 (x + 5) L.1 (some a), y.2.2) := fun c c1 c2 => ⟨(hk c c1 c2).1, (hk c c1 c2).2.1, by show g_u2 y.2.1 (x + 5) L.1 (some a) c = _; rw [g_u2_ne _ _ _ (by omega)]; exact (hk c c1 c2).2.2⟩
      exact (b4.kp b2 b3 k1).mo (Nat.le_refl _) hn
theorem w_law_7 (h : PC x iv u B e) (h9 : iv (x + 1) 9 = 0) {P : Int32 ⊕ gE → g_H → Prop} : ∀ (m : Nat) (jv : gV) (w : gU) (L : gLw) (p n N : Nat), LQ x iv u jv w p n → n ≤ 6 * p → p ≤ e → e < p + m → L.1 ≤ 12 → RL x u.2.2.2.1 jv w L → e < p + N →
    (∀ (L' : gLw) (q : Nat), pLaw B e m L p = .inl (L', q) → ∀ (kv : gV) (y : gU) (n' : Nat), LQ x iv u kv y q n' → n' ≤ 6 * e → RL x u.2.2.2.1 kv y L' → L'.1 ≤ 12 → P (.inl (iN L'.1)) (kv, y)) →
    (∀ f, pLaw B e m L p = .inr f → ∀ (kv : gV) (y : gU) (n' : Nat), LF x iv u kv y f n' → n' ≤ 6 * e + 10 → P (.inr (5, x + 27)) (kv, y)) →
    gW (f_X2_law_7 N (x + 1) (iN L.1)) (jv, w) P := by
  have hx := h.2.2.2.2.2
  have h4 := h.e4
  intro m
  induction m with
  | zero => intro jv w L p n N _ _ q1 q2; omega
  | succ m ih =>
    intro jv w L p n N l1 l2 q1 q2 q3 hR q4 h1 h2
    obtain ⟨N, rfl⟩ : ∃ N', N = N' + 1 := ⟨N - 1, by omega⟩
    have hj := h.lq l1
    have HJ := hj.X
    have nle := l1.2.2.2.1.2.2
    rw [pLaw] at h1 h2
    rw [f_X2_law_7, gW_B, rQc HJ, gW_T, ← at_id l1.1]
    show gW (f_X2_more (x + 1) (iN L.1) (iN 12)) _ _
    refine w_more hj q1 q3 (by decide) (by decide) (fun b q hm => ?_) (fun f hm q => ?_)
    · rw [hm] at h1 h2
      have hq := pMor_n q1 hm
      cases b with
      | false =>
        unfold f_X2_law_136
        rw [bI_f (by decide)]
        show gW (gIf ((0 : Int32) = 0) _ _) _ _
        rw [gW_ift rfl, gW_ret]
        exact h1 L q rfl _ w (n + 0) (l1.tr (QS.att (p := q))) (by omega) (hR.kp (fun a a1 a2 => ⟨aT_a (by omega), rfl, rfl⟩) rfl (Nat.le_refl _)) q3
      | true =>
        have hkq := hq.2.2 rfl
        have hc12 : L.1 < 12 := by
          unfold pMor at hm
          by_cases c1 : kB B e p = e
          · rw [if_pos c1] at hm; cases hm
          rw [if_neg c1] at hm
          by_cases c2 : L.1 = 0
          · omega
          rw [if_neg c2] at hm
          by_cases c3 : B (kB B e p) = 59
          · rw [if_pos c3] at hm
            by_cases c4 : L.1 = 12
            · rw [if_pos c4] at hm; cases hm
            · omega
          · rw [if_neg c3] at hm; cases hm
        dsimp only at h1 h2
        rw [bI_t rfl]
        show gW (gIf ((1 : Int32) = 0) _ _) _ _
        rw [gW_iff (by decide)]
        have bq := kW_b (B := B) hq.2.1
        -- behind the word of its kind
        have l56 : ∀ kd : Int32, (kd = 0 ∨ kd = 1 ∨ kd = 2) → pLaL B e q = pLine B e q kd → gW (f_X2_law_56 (f_X2_law_7 N) (x + 1) (iN L.1) kd) (aT x jv (kW B e q), w) P := by
          intro kd hkd hpl
          rw [hpl] at h1 h2
          unfold f_X2_law_56
          unfold pLine at h1 h2
          rw [gW_B, rQc HJ, gW_T]
          refine w_number hj bq.2 (fun vv q2 hn => ?_) (fun f hn q2 => ?_)
          · rw [hn] at h1 h2
            dsimp only at h1 h2
            obtain ⟨n1, n2, n3, n4, vn, n5, n6⟩ := pNum_n bq.2 hn
            have bq2 := kB_b (B := B) n2
            have bw2 := kW_b (B := B) n2
            subst n6
            show gW (gB (gTx 17) _) _ P
            rw [gW_B, gW_Tx, gW_B, rQc HJ, gW_B, w_takesT hj (i := 17) (by decide) n2]
            have fin : ∀ (j1 : gV) (w1 : gU) (r n1 : Nat) (b0 : Option Nat) (C : sCs), QS x jv w j1 w1 r n1 → q < r → r ≤ e → n1 + 1 ≤ 5 * (r - q) → ((b0 = none ∧ C = fun _ => true) ∨ ∃ b, b0 = some b ∧ cD u.2.2.2.1 w1.2.2.2.1 j1 w1 b C) → (∀ (L' : gLw) (q' : Nat), pLaw B e m (L.1 + 1, va_up L.2.1 L.1 kd, va_up L.2.2.1 L.1 (iN vn), va_up L.2.2.2 L.1 C) r = .inl (L', q') → ∀ (kv : gV) (y : gU) (n' : Nat), LQ x iv u kv y q' n' → n' ≤ 6 * e → RL x u.2.2.2.1 kv y L' → L'.1 ≤ 12 → P (.inl (iN L'.1)) (kv, y)) → (∀ f, pLaw B e m (L.1 + 1, va_up L.2.1 L.1 kd, va_up L.2.2.1 L.1 (iN vn), va_up L.2.2.2 L.1 C) r = .inr f → ∀ (kv : gV) (y : gU) (n' : Nat), LF x iv u kv y f n' → n' ≤ 6 * e + 10 → P (.inr (5, x + 27)) (kv, y)) → gW (f_X2_law_83 (f_X2_law_7 N) (x + 1) (iN L.1) kd (iN vn) b0) (j1, w1) P := by
              intro j1 w1 r n1 b0 C s1 s2 s3 s4 s5 g1 g2
              have hj1 := hj.qs s1
              have nle1 := s1.2.2.2.1.2.2
              refine w_law_83 hj1 (T := u.2.2.2.1) (p := r) hc12 hx (by omega) s1.1 hkd s5 (fun kv y a t1 t2 t3 t4 => ?_)
              have t5 := s1.tr t1
              have t6 := l1.tr t5
              have hR2 := hR.add (c := L.1) (p := p) rfl (t5.kp (T := u.2.2.2.1) (by omega)) (t5.2.2.2.1.1 _ (by omega)).2 t5.2.2.2.1.2.2 (by omega) t2 t3 (t4 (some a))
              exact ih kv _ (L.1 + 1, va_up L.2.1 L.1 kd, va_up L.2.2.1 L.1 (iN vn), va_up L.2.2.2 L.1 C) r (n + (n1 + 1)) N t6.r5 (by omega) s3 (by omega) (by show L.1 + 1 ≤ 12; omega) hR2 (by omega) g1 g2
            by_cases t17 : tk B e (g_byt.getD 17 []) q2 = true
            · rw [if_pos t17] at h1 h2
              have l17 := tk_b n2 (by decide) t17
              rw [bI_t t17, gW_iff (by decide), kT_t t17, gW_B, rQc HJ, gW_T]
              have hrec := (w_rec (x := x) (B := B) (e := e) 6 (by decide)).2 24 (by decide)
              refine hrec (aT x jv (kW B e q2)) w (kW B e q2) hj.att aT_8 bw2.2 (by rw [aT_9, l1.2.1 9 (by decide), h9]; rfl) _ (fun C r hr kv y c n1 s1 s2 s3 => ?_) (fun f hr kv y n1 s1 s2 => ?_)
              · rw [hr] at h1 h2
                have hr' := ((okA.atm 6).row (al := true)).row (al := false) _ _ _ bw2.2 hr
                have s0 : QS x jv w kv y r n1 := (QS.att.tr s1).le (by omega)
                refine fin kv y r n1 (some c) C s0 (by omega) hr'.2 (by omega) (Or.inr ⟨c, rfl, ?_⟩) h1 h2
                have := (s3.cD (by decide))
                exact fun lv z hk => this lv z (fun b b1 b2 => hk b (by omega) b2)
              · rw [hr] at h2
                exact h2 f rfl kv y _ (l1.trF ((QS.att (p := kW B e q2)).trF s1)) (by omega)
            · rw [if_neg t17] at h1 h2
              rw [bI_f t17, gW_ift rfl, kT_f t17]
              exact fin _ w (kB B e q2) 0 none (fun _ => true) (QS.att.le (by omega)) (by omega) bq2.2 (by omega) (Or.inl ⟨rfl, rfl⟩) h1 h2
          · rw [hn] at h2
            exact h2 f rfl _ w _ (l1.trF (QF.att (q := q2) (f := f))) (by omega)
        rw [gW_B, gW_Tx, gW_B, rQc HJ, gW_B, w_takesT hj (i := 14) (by decide) hq.2.1]
        unfold f_X2_law_44
        by_cases t14 : tk B e (g_byt.getD 14 []) q = true
        · rw [bI_t t14, gW_iff (by decide), gW_iff (by decide), kT_t t14]
          exact l56 0 (Or.inl rfl) (if_pos t14)
        · rw [bI_f t14, gW_ift rfl, kT_f t14, hkq, gW_B, gW_Tx, gW_B, rQc HJ, gW_B, w_takesT hj (i := 15) (by decide) hq.2.1]
          by_cases t15 : tk B e (g_byt.getD 15 []) q = true
          · rw [bI_t t15, gW_iff (by decide), gW_iff (by decide), kT_t t15]
            exact l56 1 (Or.inr (Or.inl rfl)) ((if_neg t14).trans (if_pos t15))
          · rw [bI_f t15, gW_ift rfl, kT_f t15, hkq, gW_ift rfl, gW_B, gW_Tx, gW_B, rQc HJ, gW_T]
            refine w_expect hj (i := 16) (by decide) hq.2.1 (fun t16 => ?_) (fun t16 => ?_)
            · exact l56 2 (Or.inr (Or.inr rfl)) ((if_neg t14).trans ((if_neg t15).trans (if_pos t16)))
            · unfold pLaL at h2
              rw [if_neg t14, if_neg t15, if_neg t16] at h2
              exact h2 _ rfl _ w _ (l1.trF QF.att) (by omega)
    · rw [hm] at h2
      exact h2 f rfl _ w _ (l1.trF QF.att) (by omega)
end CL
