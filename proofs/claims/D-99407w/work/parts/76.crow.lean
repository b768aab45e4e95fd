/-! THE COMPONENT READS ATOMS AND ROWS -/
section CA
variable {iv jv kv : gV} {u v w y : gU} {x : Nat} {h : g_H} {B : Nat → Int32} {e : Nat}
/-- a reader of conditions of the component is as A says -/
def okR (x : Nat) (B : Nat → Int32) (e d dp s k0 : Nat) (A : Nat → gPR sCs) (f : gM (Nat ⊕ gE)) : Prop := ∀ (iv : gV) (u : gU) (p : Nat), PC x iv u B e → iv (x + 1) 8 = iN p → p ≤ e → iv (x + 1) 9 = iN dp → ∀ P : Nat ⊕ gE → g_H → Prop,
  (∀ (C : sCs) (q : Nat), A p = .inl (C, q) → ∀ (jv : gV) (w : gU) (c n : Nat), QS x iv u jv w q n → n + s ≤ 5 * (q - p) → cdD d u.2.2.2.1 jv w c C → P (.inl c) (jv, w)) →
  (∀ ff, A p = .inr ff → ∀ (jv : gV) (w : gU) (n : Nat), QF x iv u jv w ff n → n ≤ 5 * (e - p) + k0 → P (.inr (5, x + 27)) (jv, w)) → gW f (iv, u) P
theorem pPart_kB {p : Nat} (hp : p ≤ e) : pPart B e (kB B e p) = pPart B e p := by
  unfold pPart
  rw [kWB hp, kBB hp, pNum_kB hp, fW_kB hp]
theorem pSum_kB {p : Nat} (hp : p ≤ e) : pSum B e (kB B e p) = pSum B e p := by
  unfold pSum
  rw [pPart_kB hp]
theorem rQG0 (H : XS u x) {P : Nat → g_H → Prop} : gW (gAR (x + 4) 8 (iN 0)) (iv, u) P ↔ P (u.2.2.1 6) (iv, u) := rQG H (by decide)
theorem rQG1 (H : XS u x) {P : Nat → g_H → Prop} : gW (gAR (x + 4) 8 (iN 1)) (iv, u) P ↔ P (u.2.2.1 7) (iv, u) := rQG H (by decide)
theorem rQgN (H : XS u x) {P : Int32 → g_H → Prop} : gW (gAN (x + 4) 8) (iv, u) P ↔ P (iN 2) (iv, u) := gW_AN H.2.2.2.2.2.1.2.2.2.2.2.1
theorem w_tag_24 (h : PC x iv u B e) {k q : Nat} (hk : k < 2) (hat : iv (x + 1) 8 = iN q) {P : Nat ⊕ gE → g_H → Prop} (hP : ∀ (jv : gV) (w : gU) (c : Nat), QS x iv u jv w q 1 → cdD 1 u.2.2.2.1 jv w c (fun F => decide (F (6 + k) ≠ 0)) → P (.inl c) (jv, w)) : gW (f_X2_tag_24 (iN k)) (iv, u) P := by
  have hx := h.2.2.2.2.2
  unfold f_X2_tag_24 f_X10_init gNew
  rw [gW_B]
  refine w_al (fun j1 w1 A1 => ?_)
  have q1 := A1.qs (by decide) hat hx
  obtain ⟨a1, a2, a3, a4, a5, a6, a7⟩ := A1
  rw [gW_B, gW_B, gW_PI a1, gW_ret, gW_ret]
  have hk6 : (6 : Int32) + iN k = iN (6 + k) := iN_add 6 k
  refine hP _ _ _ (q1.new (fun a ha => ⟨g_u2_ne _ _ _ (by omega), rfl, rfl⟩) (by omega) rfl) ⟨Nat.le_refl _, by omega, fun d' kv y hd hkp fx hf hF P hP => ?_⟩
  obtain ⟨d', rfl⟩ : ∃ d'', d' = d'' + 1 := ⟨d' - 1, by omega⟩
  obtain ⟨r1, r2, r3⟩ := hkp u.2.2.2.1 (Nat.le_refl _) (by omega)
  exact h_tag (by rw [r2]; exact a1) (by rw [r1, g_u2_self, va_up_self]; exact hk6) (by omega) hf hP
theorem sD.lo {T T' a : Nat} {G : sGs} (h : sD T jv w a G) (hT : T' ≤ T) : sD T' jv w a G := by
  obtain ⟨h1, h2, h3, t, h4, h5, h6⟩ := h
  exact ⟨by omega, h2, h3, t, h4, by omega, h6⟩
theorem cd_less {T c a b : Nat} {G G' : sGs} (hc : T ≤ c) (hc2 : c < w.2.2.2.1) (hs : w.1 c = some (.inr 11)) (h0 : w.2.1 c 0 = some a) (h1 : w.2.1 c 1 = some b) (ha : sD T jv w a G) (hb : sD T jv w b G') : cdD 1 T jv w c (fun F => decide (G F < G' F)) := by
  refine ⟨hc, hc2, fun d' kv y hd hk fx hf hF P hP => ?_⟩
  obtain ⟨d', rfl⟩ : ∃ d'', d' = d'' + 1 := ⟨d' - 1, by omega⟩
  obtain ⟨a1, a2, a3, ta, a4, a5, a6, a7, a8⟩ := ha
  obtain ⟨b1, b2, b3, tb, b4, b5, b6, b7, b8⟩ := hb
  obtain ⟨c1, c2, c3⟩ := hk c hc hc2
  obtain ⟨k1, k2, k3⟩ := hk a a1 a2
  obtain ⟨l1, l2, l3⟩ := hk ta a5 a6
  obtain ⟨m1, m2, m3⟩ := hk b b1 b2
  obtain ⟨n1, n2, n3⟩ := hk tb b5 b6
  refine h_less (by rw [c2]; exact hs) (by rw [c3]; exact h0) (by rw [c3]; exact h1) (by rw [k2]; exact a3) (by rw [k3]; exact a4) (by rw [l2]; exact a7) (by rw [m2]; exact b3) (by rw [m3]; exact b4) (by rw [n2]; exact b7) hf ?_
  rw [k1, l1, m1, n1, a8, b8]
  exact hP
theorem cd_not {d T c c' : Nat} {C : sCs} (hc : T ≤ c) (hc2 : c < w.2.2.2.1) (hs : w.1 c = some (.inr 12)) (h0 : w.2.1 c 0 = some c') (hd : cdD d T jv w c' C) : cdD (d + 1) T jv w c (fun F => !C F) := by
  refine ⟨hc, hc2, fun d' kv y hd' hk fx hf hF P hP => ?_⟩
  obtain ⟨d', rfl⟩ : ∃ d'', d' = d'' + 1 := ⟨d' - 1, by omega⟩
  obtain ⟨c1, c2, c3⟩ := hk c hc hc2
  exact h_not (by rw [c2]; exact hs) (by rw [c3]; exact h0) (fun Q hQ => hd.2.2 d' kv y (by omega) hk fx hf hF Q hQ) hP
theorem w_tag_72 (h : PC x iv u B e) {a q k : Nat} {G : sGs} {T : Nat} (hT : T ≤ u.2.2.2.1) (hT2 : x + 2 ≤ T) (hk : k = 60 ∨ k = 62) (ha : sD T iv u a G) (hq : q < e) {P : Nat ⊕ gE → g_H → Prop}
    (h1 : ∀ (G' : sGs) (r : Nat), pSum B e (q + 1) = .inl (G', r) → ∀ (jv : gV) (w : gU) (c : Nat), QS x iv u jv w r 3 → cdD 1 T jv w c (if k = 60 then fun F => decide (G F < G' F) else fun F => decide (G' F < G F)) → P (.inl c) (jv, w))
    (h2 : ∀ f, pSum B e (q + 1) = .inr f → ∀ (jv : gV) (w : gU), QF x iv u jv w f 2 → P (.inr (5, x + 27)) (jv, w)) : gW (f_X2_tag_72 (x + 1) a (iN k)) (aT x iv q, u) P := by
  have H := h.X
  have hx := h.2.2.2.2.2
  unfold f_X2_tag_72
  rw [gW_B, rQi H, aT_8, gW_B, rQp H, iNp1, aT_u, gW_B, rQc H, gW_T]
  refine w_sum h.att aT_8 (by omega) (fun G' r hs jv w b s1 s2 => ?_) (fun f hs jv w s1 => h2 f hs jv w ((QS.att.trF s1).le (by omega)))
  have s0 : QS x iv u jv w r 2 := (QS.att.tr s1).le (by omega)
  have nle := s0.2.2.2.1.2.2
  have ha2 : sD T jv w a G := ha.kp (s0.kp hT2) nle
  have hb2 : sD T jv w b G' := s2.lo hT
  have fin : ∀ (a b : Nat) (G G' : sGs), sD T jv w a G → sD T jv w b G' → (∀ (lv : gV) (y : gU) (c : Nat), QS x iv u lv y r 3 → cdD 1 T lv y c (fun F => decide (G F < G' F)) → P (.inl c) (lv, y)) → gW (gB (gNew 11 2) fun a105 => gB (f_X12_init a105 a b) fun _ => f_X2_tag_114 a105) (jv, w) P := by
    intro a b G G' ha hb hfin
    unfold f_X12_init f_X2_tag_114 gNew
    rw [gW_B]
    refine w_al (fun j1 w1 A1 => ?_)
    have q1 := A1.qs (by decide) s1.1 (by omega)
    have hkA := q1.kp (T := T) hT2
    obtain ⟨a1, a2, a3, a4, a5, a6, a7⟩ := A1
    rw [gW_B, gW_B, gW_PQ a1, gW_B, gW_PQ (u := (w1.1, g_u2 w1.2.1 w.2.2.2.1 0 (some a), w1.2.2)) (show w1.1 w.2.2.2.1 = _ from a1), gW_ret, gW_ret]
    have q2 := (s0.tr q1).new (kv := j1) (y := (w1.1, g_u2 (g_u2 w1.2.1 w.2.2.2.1 0 (some a)) w.2.2.2.1 1 (some b), w1.2.2)) (fun c hc => ⟨rfl, rfl, by show g_u2 _ _ _ _ c = _; rw [g_u2_ne _ _ _ (by omega), g_u2_ne _ _ _ (by omega)]⟩) (by omega) rfl
    have hkB : Kp T w.2.2.2.1 jv w j1 (w1.1, g_u2 (g_u2 w1.2.1 w.2.2.2.1 0 (some a)) w.2.2.2.1 1 (some b), w1.2.2) := fun c hc hc' => ⟨(hkA c hc hc').1, (hkA c hc hc').2.1, by show g_u2 _ _ _ _ c = _; rw [g_u2_ne _ _ _ (by omega), g_u2_ne _ _ _ (by omega)]; exact (hkA c hc hc').2.2⟩
    refine hfin _ _ _ q2 (cd_less (by omega) (by show _ < w1.2.2.2.1; omega) a1 ?_ ?_ (ha.kp hkB (by show _ ≤ w1.2.2.2.1; omega)) (hb.kp hkB (by show _ ≤ w1.2.2.2.1; omega)))
    · show g_u2 (g_u2 w1.2.1 w.2.2.2.1 0 (some a)) w.2.2.2.1 1 (some b) w.2.2.2.1 0 = _
      rw [g_u2_self, va_up_ne _ _ (by decide), g_u2_self, va_up_self]
    · show g_u2 (g_u2 w1.2.1 w.2.2.2.1 0 (some a)) w.2.2.2.1 1 (some b) w.2.2.2.1 1 = _
      rw [g_u2_self, va_up_self]
  rcases hk with rfl | rfl
  · show gW (gIf (iN 60 = 60) _ _) (jv, w) P
    rw [gW_ift (show iN 60 = 60 from rfl)]
    exact fin a b G G' ha2 hb2 (fun lv y c l1 l2 => h1 G' r hs lv y c l1 (by rw [if_pos rfl]; exact l2))
  · show gW (gIf (iN 62 = 60) _ _) (jv, w) P
    rw [gW_iff (show ¬ iN 62 = 60 by decide)]
    exact fin b a G' G hb2 ha2 (fun lv y c l1 l2 => h1 G' r hs lv y c l1 (by rw [if_neg (by decide)]; exact l2))
theorem w_tag (dp : Nat) : okR x B e 1 dp 3 4 (pTag B e) (f_X2_tag (x + 1)) := by
  intro iv u p h hat hp h9 P h1 h2
  have H := h.X
  have hx := h.2.2.2.2.2
  have h4 := h.e4
  have b1 := kB_b (B := B) hp
  have b2 := kW_b (B := B) hp
  obtain ⟨n, hn⟩ : ∃ n, gN = n + 1 + 1 + 1 := ⟨4093, gN_eq⟩
  unfold f_X2_tag
  unfold pTag at h1 h2
  show gW (f_X2_tag_2 gN (x + 1) (iN 0)) (iv, u) P
  rw [hn, ← at_id hat, f_X2_tag_2, gW_B, rQg H, gW_B, rQgN H, gW_iff (by decide), gW_B, rQg H, gW_B, rQG0 H, gW_B, rQc H, gW_B, w_takesT h (i := 6) (by decide) hp]
  by_cases t6 : tk B e (g_byt.getD 6 []) p = true
  · rw [if_pos t6] at h1
    have l6 := tk_b hp (by decide) t6
    have : (g_byt.getD 6 []).length = 5 := by decide
    rw [bI_t t6, gW_iff (by decide), kT_t t6]
    exact w_tag_24 h.att (k := 0) (by decide) aT_8 (fun jv w c q1 q2 => h1 _ _ rfl jv w c _ (QS.att.tr q1) (by omega) q2)
  · rw [if_neg t6] at h1 h2
    rw [bI_f t6, gW_ift rfl, kT_f t6, iNp1]
    show gW (f_X2_tag_2 (n + 1 + 1) (x + 1) (iN 1)) _ P
    rw [f_X2_tag_2, gW_B, rQg H, gW_B, rQgN H, gW_iff (by decide), gW_B, rQg H, gW_B, rQG1 H, gW_B, rQc H, gW_B, w_takesT h (i := 7) (by decide) b1.2, tk_kB hp]
    by_cases t7 : tk B e (g_byt.getD 7 []) p = true
    · rw [if_pos t7] at h1
      have l7 := tk_b hp (by decide) t7
      have : (g_byt.getD 7 []).length = 6 := by decide
      rw [bI_t t7, gW_iff (by decide), kT_t (by rw [tk_kB hp]; exact t7), kWB hp]
      exact w_tag_24 h.att (k := 1) (by decide) aT_8 (fun jv w c q1 q2 => h1 _ _ rfl jv w c _ (QS.att.tr q1) (by omega) q2)
    · rw [if_neg t7] at h1 h2
      rw [bI_f t7, gW_ift rfl, kT_f (by rw [tk_kB hp]; exact t7), kBB hp, iNp1]
      show gW (f_X2_tag_2 (n + 1) (x + 1) (iN 2)) _ P
      rw [f_X2_tag_2, gW_B, rQg H, gW_B, rQgN H, gW_ift (by decide)]
      unfold f_X2_tag_42
      rw [gW_B, rQc H, gW_T]
      refine w_sum h.att aT_8 b1.2 (fun G q hs jv w a s1 s2 => ?_) (fun f hs jv w s1 => ?_)
      · rw [pSum_kB hp] at hs
        have hq := pSum_n hp hs
        rw [hs] at h1 h2
        dsimp only at h1 h2
        have s0 := (QS.att (p := kB B e p)).tr s1
        have hj : PC x jv w B e := h.qs s0
        have HJ := hj.X
        show gW (gB (gCk (x + 1) 1) _) (jv, w) P
        have bq := kB_b (B := B) hq.2
        have nle := s0.2.2.2.1.2.2
        rw [gW_B, rQc HJ, ← at_id s1.1, gW_B, w_sign hj hq.2]
        by_cases z6 : isS B e q 60 = true
        · have hz := isS_b hq.2 z6
          rw [if_pos z6] at h1 h2
          rw [gW_ift (show sgn B e q = 60 from (sgn_is h.b (k := 60) (by decide)).mpr z6), (sgn_is h.b (k := 60) (by decide)).mpr z6]
          refine w_tag_72 hj (T := u.2.2.2.1) nle (by omega) (Or.inl rfl) s2 hz.1 (fun G' r hr lv y c l1 l2 => ?_) (fun f hr lv y l1 => ?_)
          · rw [hr] at h1
            have hr' := pSum_n (by omega) hr
            exact h1 _ _ rfl lv y c _ (s0.tr l1) (by omega) l2
          · rw [hr] at h2
            exact h2 f rfl lv y _ (s0.trF l1) (by omega)
        · rw [if_neg z6] at h1 h2
          rw [gW_iff (show ¬ sgn B e q = 60 from fun z => z6 ((sgn_is h.b (k := 60) (by decide)).mp z))]
          by_cases z7 : isS B e q 62 = true
          · have hz := isS_b hq.2 z7
            rw [if_pos z7] at h1 h2
            rw [gW_ift (show sgn B e q = 62 from (sgn_is h.b (k := 62) (by decide)).mpr z7), (sgn_is h.b (k := 62) (by decide)).mpr z7]
            refine w_tag_72 hj (T := u.2.2.2.1) nle (by omega) (Or.inr rfl) s2 hz.1 (fun G' r hr lv y c l1 l2 => ?_) (fun f hr lv y l1 => ?_)
            · rw [hr] at h1
              have hr' := pSum_n (by omega) hr
              exact h1 _ _ rfl lv y c _ (s0.tr l1) (by omega) l2
            · rw [hr] at h2
              exact h2 f rfl lv y _ (s0.trF l1) (by omega)
          · rw [if_neg z7] at h2
            rw [gW_iff (show ¬ sgn B e q = 62 from fun z => z7 ((sgn_is h.b (k := 62) (by decide)).mp z)), gW_B, rQi HJ, aT_8, w_failT hj.att]
            exact h2 _ rfl _ _ _ s0.toF (by omega)
      · rw [pSum_kB hp] at hs
        rw [hs] at h2
        exact h2 f rfl jv w _ (QS.att.trF s1) (by omega)
theorem pTag_kB {p : Nat} (hp : p ≤ e) : pTag B e (kB B e p) = pTag B e p := by
  unfold pTag
  rw [tk_kB hp, tk_kB hp, kWB hp, pSum_kB hp]
end CA
