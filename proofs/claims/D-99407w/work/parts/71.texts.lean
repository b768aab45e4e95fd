/-! TEXTS; THE COMPONENT'S READER, BYTE BY BYTE -/
section TXS
variable {iv jv kv : gV} {u v : gU} {x : Nat} {h : g_H}
theorem gW_St {i : Nat} {P : Option Nat → g_H → Prop} : gW (gSt i) h P ↔ P (g_dec (g_tx h i)) h := by
  refine gW_rd.trans ?_
  constructor
  · rintro ⟨w, e, p⟩
    have e : some (g_dec (g_tx h i)) = some w := e
    cases e
    exact p
  · exact fun p => ⟨_, rfl, p⟩
/-- a text at a, of letters w -/
def TXa (iv : gV) (u : gU) (a : Nat) (w : List Int32) : Prop := u.1 a = some (.inr 16) ∧ iv a 1 = 0 ∧ w.length ≤ 10 ∧ ∃ y : Nat, u.2.1 a 0 = some y ∧ u.1 y = some (.inl (10, w.length)) ∧ ∀ j : Nat, j < w.length → iv y j = w.getD j 0 ∧ ∃ c : Nat, c ≤ 122 ∧ w.getD j 0 = iN c
theorem w_length {a : Nat} {w : List Int32} (hT : TXa iv u a w) {P : Int32 → g_H → Prop} : gW (f_J3_length a) (iv, u) P ↔ P (iN w.length) (iv, u) := by
  obtain ⟨t1, t2, t3, y, t4, t5, t6⟩ := hT
  have hz : ∀ n : Nat, n ≤ 10 → iN n >>> ((0 : Int32) &&& 31) = iN n := by decide
  have hn : vp_nar .byte (0 : Int32) = 0 := by decide
  unfold f_J3_length f_J3_coder f_J3_coder_14
  rw [gW_B, gW_FR t1 t4, gW_B, gW_AN t5, gW_B, gW_Ck t1, gW_B, gW_iff (by decide), gW_B, gW_FI t1, t2, gW_B, gW_gd, gW_ret, gW_ret, hz _ t3]
  exact ⟨fun q => q.2, fun q => ⟨hn, q⟩⟩
theorem w_charAt {a j : Nat} {w : List Int32} (hT : TXa iv u a w) (hj : j < w.length) {P : Int32 → g_H → Prop} : gW (f_J3_charAt a (iN j)) (iv, u) P ↔ P (w.getD j 0) (iv, u) := by
  obtain ⟨t1, t2, t3, y, t4, t5, t6⟩ := hT
  obtain ⟨t7, c, hc, t8⟩ := t6 j hj
  have h1 : ∀ c : Nat, c ≤ 122 → ((iN c &&& (255 : Int32)).toUInt32 % 65536).toInt32 = iN c ∧ vp_nar .char (iN c) = iN c := by decide +kernel
  obtain ⟨h2, h3⟩ := h1 c hc
  unfold f_J3_charAt f_J3_isLatin1 f_J3_isLatin1_18 f_J4_charAt f_J3_checkIndex f_J5_checkIndex
  rw [gW_B, gW_Ck t1, gW_B, gW_iff (by decide), gW_B, gW_FI t1, t2, gW_ift rfl, gW_B, gW_gd, gW_ret, gW_iff (by decide), gW_B, gW_FR t1 t4, gW_B, gW_B, gW_AN t5, gW_B, gW_B, gW_St, gW_B, gW_iff (iN_0 (by omega)), gW_ift (by rw [iN_lt (by omega) (by omega)]; exact hj), gW_ret, gW_ret, gW_B, gW_AI t5 rfl hj (by omega), t7, t8, h2, gW_B, gW_gd, gW_ret, gW_B, gW_gd, gW_ret]
  exact ⟨fun q => q.2.2.2, fun q => ⟨Or.inr rfl, h3, h3, q⟩⟩
/-! rules for the reader's cells -/
theorem rQi (H : XS u x) {k : Nat} {P : Int32 → g_H → Prop} : gW (gFI (x + 1) 1 k) (iv, u) P ↔ P (iv (x + 1) k) (iv, u) := gW_FI H.1.2.1
theorem rQp (H : XS u x) {k : Nat} {y : Int32} {P : Unit → g_H → Prop} : gW (gPI (x + 1) 1 k y) (iv, u) P ↔ P () (g_u2 iv (x + 1) k y, u) := gW_PI H.1.2.1
theorem rQc (H : XS u x) {P : Unit → g_H → Prop} : gW (gCk (x + 1) 1) (iv, u) P ↔ P () (iv, u) := gW_Ck H.1.2.1
theorem rQt (H : XS u x) {P : Nat → g_H → Prop} : gW (gFR (x + 1) 1 0) (iv, u) P ↔ P (x + 2) (iv, u) := gW_FR H.1.2.1 H.2.2.2.2.2.1.1
theorem rQw (H : XS u x) {P : Nat → g_H → Prop} : gW (gFR (x + 1) 1 1) (iv, u) P ↔ P (x + 3) (iv, u) := gW_FR H.1.2.1 H.2.2.2.2.2.1.2.2.1
theorem rQg (H : XS u x) {P : Nat → g_H → Prop} : gW (gFR (x + 1) 1 2) (iv, u) P ↔ P (x + 4) (iv, u) := gW_FR H.1.2.1 H.2.2.2.2.2.1.2.2.2.2.1
theorem rQr (H : XS u x) {P : Nat → g_H → Prop} : gW (gFR (x + 1) 1 3) (iv, u) P ↔ P (x + 5) (iv, u) := gW_FR H.1.2.1 H.2.2.2.2.2.1.2.2.2.2.2.2.1
theorem rQd (H : XS u x) {P : Nat → g_H → Prop} : gW (gFR (x + 1) 1 4) (iv, u) P ↔ P (x + 6) (iv, u) := gW_FR H.1.2.1 H.2.2.2.2.2.1.2.2.2.2.2.2.2.2.1
theorem rQx (H : XS u x) {P : Nat → g_H → Prop} : gW (gFR (x + 1) 1 5) (iv, u) P ↔ P (x + 27) (iv, u) := gW_FR H.1.2.1 H.2.2.2.2.2.1.2.2.2.2.2.2.2.2.2
theorem rQa (H : XS u x) {k : Nat} (hk : k < 400) {P : Int32 → g_H → Prop} : gW (gAI (x + 2) 1 (iN k)) (iv, u) P ↔ P (iv (x + 2) k) (iv, u) := gW_AI H.2.2.2.2.2.1.2.1 rfl hk (by decide)
theorem rQs (H : XS u x) {k : Nat} (hk : k < 400) {y : Int32} {P : Unit → g_H → Prop} : gW (gSI (x + 2) 1 (iN k) y) (iv, u) P ↔ P () (g_u2 iv (x + 2) k y, u) := gW_SI H.2.2.2.2.2.1.2.1 rfl hk (by decide)
/-- all texts stand -/
def TX (x : Nat) (iv : gV) (u : gU) : Prop := ∀ i : Nat, i < 42 → u.2.2.1 i < x ∧ u.1 (u.2.2.1 i) = some (.inr 16) ∧ iv (u.2.2.1 i) 1 = 0 ∧ ∃ y : Nat, y < x ∧ u.2.1 (u.2.2.1 i) 0 = some y ∧ u.1 y = some (.inl (10, g_len.getD i 0)) ∧ ∀ j : Nat, j < g_len.getD i 0 → iv y j = (g_byt.getD i []).getD j 0
theorem g_bl : ∀ i : Nat, i < 42 → (g_byt.getD i []).length = g_len.getD i 0 ∧ g_len.getD i 0 ≤ 10 ∧ ∀ j : Nat, j < g_len.getD i 0 → ∃ c : Nat, c ≤ 122 ∧ (g_byt.getD i []).getD j 0 = iN c := by decide +kernel
theorem TX.a (h : TX x iv u) {i : Nat} (hi : i < 42) : TXa iv u (u.2.2.1 i) (g_byt.getD i []) := by
  obtain ⟨-, h2, h3, y, -, h5, h6, h7⟩ := h i hi
  obtain ⟨b1, b2, b3⟩ := g_bl i hi
  refine ⟨h2, h3, by omega, y, h5, by rw [b1]; exact h6, fun j hj => ?_⟩
  rw [b1] at hj
  exact ⟨h7 j hj, b3 j hj⟩
theorem TX.fr (h : TX x iv u) {T : Nat} (hu : Ux T u v) (hT : x ≤ T) (e : ∀ a : Nat, a < x → jv a = iv a) : TX x jv v := by
  intro i hi
  obtain ⟨q1, q2, q3, y, q4, q5, q6, q7⟩ := h i hi
  rw [hu.2.1]
  exact ⟨q1, by rw [(hu.1 _ (by omega)).1]; exact q2, by rw [e _ q1]; exact q3, y, q4, by rw [(hu.1 _ (by omega)).2]; exact q5, by rw [(hu.1 _ (by omega)).1]; exact q6, fun j hj => by rw [e _ q4]; exact q7 j hj⟩
/-! the component reads -/
variable {B : Nat → Int32} {e : Nat}
/-- what the component's reader stands on -/
def PC (x : Nat) (iv : gV) (u : gU) (B : Nat → Int32) (e : Nat) : Prop := XS u x ∧ iv (x + 1) 7 = iN e ∧ okB B e ∧ (∀ k : Nat, k < e → iv (x + 2) k = B k) ∧ TX x iv u ∧ x + 370 ≤ u.2.2.2.1
def aT (x : Nat) (iv : gV) (p : Nat) : gV := g_u2 iv (x + 1) 8 (iN p)
theorem aT_8 {p : Nat} : aT x iv p (x + 1) 8 = iN p := by unfold aT; rw [g_u2_self, va_up_self]
theorem aT_k {p k : Nat} (h : k ≠ 8) : aT x iv p (x + 1) k = iv (x + 1) k := by unfold aT; rw [g_u2_self, va_up_ne _ _ h]
theorem aT_7 {p : Nat} : aT x iv p (x + 1) 7 = iv (x + 1) 7 := aT_k (by decide)
theorem aT_9 {p : Nat} : aT x iv p (x + 1) 9 = iv (x + 1) 9 := aT_k (by decide)
theorem aT_a {p a : Nat} (h : a ≠ x + 1) : aT x iv p a = iv a := g_u2_ne _ _ _ h
theorem aT_2 {p : Nat} : aT x iv p (x + 2) = iv (x + 2) := aT_a (by omega)
theorem g_u2_u2 {α : Type} (f : Nat → Nat → α) (a k : Nat) (y y' : α) : g_u2 (g_u2 f a k y) a k y' = g_u2 f a k y' := by
  funext b j
  by_cases hb : b = a
  · subst hb
    rw [g_u2_self, g_u2_self, g_u2_self]
    by_cases hj : j = k
    · subst hj; rw [va_up_self, va_up_self]
    · rw [va_up_ne _ _ hj, va_up_ne _ _ hj, va_up_ne _ _ hj]
  · rw [g_u2_ne _ _ _ hb, g_u2_ne _ _ _ hb, g_u2_ne _ _ _ hb]
theorem aT_u {p q : Nat} : g_u2 (aT x iv p) (x + 1) 8 (iN q) = aT x iv q := g_u2_u2 _ _ _ _ _
theorem PC.X (h : PC x iv u B e) : XS u x := h.1
theorem PC.e7 (h : PC x iv u B e) : iv (x + 1) 7 = iN e := h.2.1
theorem PC.b (h : PC x iv u B e) : okB B e := h.2.2.1
theorem PC.e4 (h : PC x iv u B e) : e ≤ 400 := h.2.2.1.1
theorem PC.t (h : PC x iv u B e) {k : Nat} (hk : k < e) : iv (x + 2) k = B k := h.2.2.2.1 k hk
theorem PC.tx (h : PC x iv u B e) : TX x iv u := h.2.2.2.2.1
theorem PC.att (h : PC x iv u B e) {p : Nat} : PC x (aT x iv p) u B e := ⟨h.1, aT_7.trans h.2.1, h.2.2.1, fun k hk => by rw [aT_2]; exact h.t hk, h.tx.fr Ux.rf (Nat.le_refl _) (fun a ha => aT_a (by omega)), h.2.2.2.2.2⟩
theorem PC.fr (h : PC x iv u B e) (hu : Ux u.2.2.2.1 u v) (e7 : jv (x + 1) 7 = iv (x + 1) 7) (e2 : jv (x + 2) = iv (x + 2)) (ex : ∀ a : Nat, a < x → jv a = iv a) : PC x jv v B e := ⟨h.1.fr hu (by have := h.2.2.2.2.2; omega), e7.trans h.2.1, h.2.2.1, fun k hk => by rw [e2]; exact h.t hk, h.tx.fr hu (by have := h.2.2.2.2.2; omega) ex, Nat.le_trans h.2.2.2.2.2 hu.2.2⟩
theorem w_sign_0 (h : PC x iv u B e) {P : Int32 → g_H → Prop} : ∀ k p n : Nat, p + k = e → k < n → (gW (f_X2_sign_0 n (x + 1)) (aT x iv p, u) P ↔ P (sgn B e p) (aT x iv (kB B e p), u)) := by
  have H := h.X
  have h4 := h.e4
  have h7 := h.e7
  intro k
  induction k with
  | zero =>
    intro p n h1 h2
    obtain ⟨n, rfl⟩ : ∃ n', n = n' + 1 := ⟨n - 1, by omega⟩
    have hp : p = e := by omega
    subst hp
    have e1 : kB B p p = p := sk_off (fun q => by omega)
    have e2 : sgn B p p = -1 := by unfold sgn; rw [e1, if_neg (by omega)]
    rw [f_X2_sign_0, e1, e2]
    unfold f_X2_sign_38 f_X2_sign_66
    simp only [gW_B, rQi H, aT_8, aT_7, h7, gW_ift (Int32.le_refl _), gW_ret]
  | succ k ih =>
    intro p n h1 h2
    obtain ⟨n, rfl⟩ : ∃ n', n = n' + 1 := ⟨n - 1, by omega⟩
    have hc : ¬ iN e ≤ iN p := by rw [iN_le (by omega) (by omega)]; omega
    have ht := h.t (show p < e by omega)
    rw [f_X2_sign_0]
    simp (disch := omega) only [gW_B, rQi H, aT_8, aT_7, h7, gW_iff hc, rQt H, rQa H, aT_2, ht]
    by_cases h32 : B p = 32
    · have e1 : kB B e p = kB B e (p + 1) := sk_on (by omega) (by unfold isBl; rw [decide_eq_true_eq]; exact h32)
      have e2 : sgn B e p = sgn B e (p + 1) := by unfold sgn; rw [e1]
      rw [gW_ift h32, e1, e2]
      simp only [gW_B, rQi H, aT_8, rQp H, iNp1, aT_u]
      exact ih (p + 1) n (by omega) (by omega)
    · have e1 : kB B e p = p := sk_off (fun q => by unfold isBl at q; rw [decide_eq_true_eq] at q; exact h32 q.2)
      have e2 : sgn B e p = B p &&& 255 := by unfold sgn; rw [e1, if_pos (by omega)]
      rw [gW_iff h32, e1, e2]
      unfold f_X2_sign_38 f_X2_sign_66
      simp (disch := omega) only [gW_B, rQi H, aT_8, aT_7, h7, gW_iff hc, rQt H, rQa H, aT_2, ht, gW_ret]
theorem w_sign (h : PC x iv u B e) {p : Nat} (hp : p ≤ e) {P : Int32 → g_H → Prop} : gW (f_X2_sign (x + 1)) (aT x iv p, u) P ↔ P (sgn B e p) (aT x iv (kB B e p), u) := by
  have := h.e4
  unfold f_X2_sign
  exact w_sign_0 h (e - p) p gN (by omega) (by rw [gN_eq]; omega)
theorem w_here (h : PC x iv u B e) {p : Nat} (hp : p ≤ e) {P : Int32 → g_H → Prop} : gW (f_X2_here (x + 1)) (aT x iv p, u) P ↔ P (iN (kB B e p)) (aT x iv (kB B e p), u) := by
  have H := h.X
  unfold f_X2_here
  simp only [gW_B, rQc H, w_sign h hp, rQi H, aT_8, gW_ret]
/-- it fails -/
def pF (x : Nat) (iv : gV) (q f : Nat) : gV := g_u2 (aT x iv q) (x + 27) 6 (iN f)
theorem w_fail (h : PC x iv u B e) {y : Int32} {P : Unit ⊕ gE → g_H → Prop} : gW (f_X2_fail (x + 1) y) (iv, u) P ↔ P (.inr (5, x + 27)) (g_u2 iv (x + 27) 6 y, u) := by
  have H := h.X
  unfold f_X2_fail
  simp only [gW_B, rQx H, gW_PI (show u.1 (x + 27) = _ from H.1.2.2.1), gW_Ck (show u.1 (x + 27) = _ from H.1.2.2.1), gW_ret]
theorem w_failT (h : PC x iv u B e) {α : Type} {y : Int32} {k : Unit → gM (α ⊕ gE)} {P : α ⊕ gE → g_H → Prop} : gW (gB (gCk (x + 1) 1) fun _ => gT (f_X2_fail (x + 1) y) k) (iv, u) P ↔ P (.inr (5, x + 27)) (g_u2 iv (x + 27) 6 y, u) := by
  have H := h.X
  rw [gW_B, rQc H, gW_T, w_fail h]
theorem w_takes_10 (h : PC x iv u B e) {a f : Nat} {P : Int32 → g_H → Prop} : ∀ k q n : Nat, q + k = e → k < n → (gW (f_X2_takes_10 n (x + 1) a (iN q)) (aT x iv f, u) P ↔ gW (f_X2_takes_46 (x + 1) a (iN (kL B e q))) (aT x iv f, u) P) := by
  have H := h.X
  have h4 := h.e4
  have h7 := h.e7
  intro k
  induction k with
  | zero =>
    intro q n h1 h2
    obtain ⟨n, rfl⟩ : ∃ n', n = n' + 1 := ⟨n - 1, by omega⟩
    have hp : q = e := by omega
    subst hp
    have e1 : kL B q q = q := sk_off (fun q => by omega)
    rw [f_X2_takes_10, e1]
    simp only [gW_B, rQi H, aT_7, h7, gW_ift (Int32.le_refl _)]
  | succ k ih =>
    intro q n h1 h2
    obtain ⟨n, rfl⟩ : ∃ n', n = n' + 1 := ⟨n - 1, by omega⟩
    have hc : ¬ iN e ≤ iN q := by rw [iN_le (by omega) (by omega)]; omega
    have ht := h.t (show q < e by omega)
    rw [f_X2_takes_10]
    simp (disch := omega) only [gW_B, rQi H, aT_7, h7, gW_iff hc, rQt H, rQa H, aT_2, ht]
    by_cases hl : B q < 97
    · have e1 : kL B e q = q := sk_off (fun z => by unfold isLe at z; rw [decide_eq_true_eq] at z; exact Int32.not_lt.mpr z.2.1 hl)
      rw [gW_ift hl, e1]
    · rw [gW_iff hl]
      simp (disch := omega) only [gW_B, rQt H, rQa H, aT_2, ht]
      by_cases hg : 122 < B q
      · have e1 : kL B e q = q := sk_off (fun z => by unfold isLe at z; rw [decide_eq_true_eq] at z; exact Int32.not_lt.mpr z.2.2 hg)
        rw [gW_ift hg, e1]
      · have e1 : kL B e q = kL B e (q + 1) := sk_on (by omega) (by unfold isLe; rw [decide_eq_true_eq]; exact ⟨Int32.not_lt.mp hl, Int32.not_lt.mp hg⟩)
        rw [gW_iff hg, e1]
        simp only [iNp1]
        exact ih (q + 1) n (by omega) (by omega)
theorem w_takes_117 (h : PC x iv u B e) {f g : Nat} {y : Int32} (hy : y = 0 ∨ y = 1) {P : Int32 → g_H → Prop} : gW (f_X2_takes_117 (x + 1) (iN g) y) (aT x iv f, u) P ↔ P y (aT x iv (if y = 0 then f else g), u) := by
  have H := h.X
  unfold f_X2_takes_117 f_X2_takes_127
  rcases hy with rfl | rfl
  · rw [gW_ift rfl, if_pos rfl, gW_B, gW_gd, gW_ret]
    exact ⟨fun q => q.2, fun q => ⟨Or.inl rfl, q⟩⟩
  · rw [gW_iff (by decide), if_neg (by decide), gW_B, rQp H, aT_u, gW_B, gW_gd, gW_ret]
    exact ⟨fun q => q.2, fun q => ⟨Or.inr rfl, q⟩⟩
theorem w_takes_69 (h : PC x iv u B e) {a f g : Nat} {w : List Int32} (hT : TXa (aT x iv f) u a w) {P : Int32 → g_H → Prop} : ∀ (k j n : Nat) (b : Bool), j + k = w.length → k < n → (b = true → f + w.length ≤ e) → (gW (f_X2_takes_69 n (x + 1) a (iN g) (bI (b = true)) (iN j)) (aT x iv f, u) P ↔ P (bI ((b && cE B f w k j) = true)) (aT x iv (if (b && cE B f w k j) = true then g else f), u)) := by
  have H := h.X
  have h4 := h.e4
  have hl := hT.2.2.1
  have e117 : ∀ b : Bool, gW (f_X2_takes_117 (x + 1) (iN g) (bI (b = true))) (aT x iv f, u) P ↔ P (bI (b = true)) (aT x iv (if b = true then g else f), u) := by
    intro b
    rw [w_takes_117 h bI_o]
    cases b with
    | true => rw [bI_t rfl, if_neg (by decide), if_pos rfl]
    | false => rw [bI_f (by decide), if_pos rfl, if_neg (by decide)]
  intro k
  induction k with
  | zero =>
    intro j n b h1 h2 h3
    obtain ⟨n, rfl⟩ : ∃ n', n = n' + 1 := ⟨n - 1, by omega⟩
    rw [f_X2_takes_69, gW_B, gW_Ck hT.1, gW_B, w_length hT, gW_ift (by rw [iN_le (by omega) (by omega)]; omega), e117, cE, Bool.and_true]
  | succ k ih =>
    intro j n b h1 h2 h3
    obtain ⟨n, rfl⟩ : ∃ n', n = n' + 1 := ⟨n - 1, by omega⟩
    rw [f_X2_takes_69, gW_B, gW_Ck hT.1, gW_B, w_length hT, gW_iff (by rw [iN_le (by omega) (by omega)]; omega)]
    cases b with
    | false =>
      rw [gW_ift (bI_f (by decide)), e117, Bool.false_and]
    | true =>
      have h3 := h3 rfl
      have ht := h.t (show f + j < e by omega)
      rw [gW_iff (by rw [bI_t rfl]; decide)]
      simp (disch := omega) only [gW_B, rQt H, rQi H, aT_8, iN_add, rQa H, aT_2, ht, gW_Ck hT.1, w_charAt hT]
      rw [cE, Bool.true_and]
      unfold f_X2_takes_109
      by_cases hc : B (f + j) = w.getD j 0
      · rw [gW_ift hc]
        have := ih (j + 1) n true (by omega) (by omega) (fun _ => h3)
        rw [bI_t rfl, Bool.true_and] at this
        simp only [iNp1]
        rw [this, decide_eq_true hc, Bool.true_and]
      · rw [gW_iff hc]
        have := ih (j + 1) n false (by omega) (by omega) (fun q => by cases q)
        rw [bI_f (by decide), Bool.false_and, bI_f (by decide)] at this
        simp only [iNp1]
        rw [this, decide_eq_false hc, Bool.false_and, bI_f (by decide)]
theorem w_takes (h : PC x iv u B e) {a p : Nat} (hp : p ≤ e) {w : List Int32} (hT : TXa iv u a w) (ha : u.1 a = some (.inr 16)) {P : Int32 → g_H → Prop} : gW (f_X2_takes (x + 1) a) (aT x iv p, u) P ↔ P (bI (tk B e w p = true)) (aT x iv (kT B e w p), u) := by
  have H := h.X
  have h4 := h.e4
  have b1 := kB_b (B := B) hp
  have b2 := kW_b (B := B) hp
  have hne : a ≠ x + 1 := fun q => by rw [q, H.1.2.1] at ha; cases ha
  have hT2 : TXa (aT x iv (kB B e p)) u a w := by
    obtain ⟨t1, t2, t3, y, t4, t5, t6⟩ := hT
    have hy : y ≠ x + 1 := fun q => by rw [q, H.1.2.1] at t5; cases t5
    exact ⟨t1, by rw [aT_a hne]; exact t2, t3, y, t4, t5, fun j hj => by rw [aT_a hy]; exact t6 j hj⟩
  have hl := hT.2.2.1
  unfold f_X2_takes
  simp only [gW_B, rQc H, w_sign h hp, rQi H, aT_8]
  rw [w_takes_10 h (e - kB B e p) (kB B e p) gN (by omega) (by rw [gN_eq]; omega)]
  unfold f_X2_takes_46 f_X2_takes_64
  simp only [gW_B, rQi H, aT_8, gW_Ck ha, w_length hT2]
  have hg : gN > w.length := by rw [gN_eq]; omega
  unfold kT tk
  by_cases hc : kW B e p - kB B e p = w.length
  · rw [gW_ift (by rw [iN_sub (show kB B e p ≤ kL B e (kB B e p) from b2.1)]; exact congrArg iN hc)]
    have := w_takes_69 h hT2 (g := kW B e p) (P := P) w.length 0 gN true (by omega) hg (fun _ => by omega)
    rw [bI_t rfl] at this
    rw [show wIs B w (kB B e p) (kW B e p) = (true && cE B (kB B e p) w w.length 0) from by unfold wIs; rw [decide_eq_true hc]]
    exact this
  · rw [gW_iff (by rw [iN_sub (show kB B e p ≤ kL B e (kB B e p) from b2.1)]; show ¬ iN (kW B e p - kB B e p) = _; rw [iN_eq (by omega) (by omega)]; exact hc)]
    have := w_takes_69 h hT2 (g := kW B e p) (P := P) w.length 0 gN false (by omega) hg (fun q => by cases q)
    rw [bI_f (by decide)] at this
    rw [show wIs B w (kB B e p) (kW B e p) = (false && cE B (kB B e p) w w.length 0) from by unfold wIs; rw [decide_eq_false hc]]
    exact this
/-- by its number among the texts -/
theorem w_takesT (h : PC x iv u B e) {i p : Nat} (hi : i < 42) (hp : p ≤ e) {P : Int32 → g_H → Prop} : gW (f_X2_takes (x + 1) (u.2.2.1 i)) (aT x iv p, u) P ↔ P (bI (tk B e (g_byt.getD i []) p = true)) (aT x iv (kT B e (g_byt.getD i []) p), u) := w_takes h hp (h.tx.a hi) (h.tx.a hi).1
theorem w_expect (h : PC x iv u B e) {i p : Nat} (hi : i < 42) (hp : p ≤ e) {P : Unit ⊕ gE → g_H → Prop} (h1 : tk B e (g_byt.getD i []) p = true → P (.inl ()) (aT x iv (kW B e p), u)) (h2 : ¬ tk B e (g_byt.getD i []) p = true → P (.inr (5, x + 27)) (pF x iv (kB B e p) (kB B e p), u)) : gW (f_X2_expect (x + 1) (u.2.2.1 i)) (aT x iv p, u) P := by
  have H := h.X
  unfold f_X2_expect f_X2_expect_16
  simp only [gW_B, rQc H, w_takesT h hi hp]
  by_cases hc : tk B e (g_byt.getD i []) p = true
  · rw [bI_t hc, gW_iff (by decide), gW_ret, kT_t hc]
    exact h1 hc
  · rw [bI_f hc, gW_ift rfl, kT_f hc]
    simp only [gW_B, rQi H, aT_8, rQc H, gW_T]
    rw [w_fail h.att]
    exact h2 hc
theorem w_number_95 (h : PC x iv u B e) {f p : Nat} {lo hi v : Int32} (hpe : p ≤ e) (hf : f ≤ p) {P : Int32 ⊕ gE → g_H → Prop} (h1 : p ≠ f ∧ lo ≤ v ∧ v ≤ hi → P (.inl v) (aT x iv p, u)) (h2 : ¬ (p ≠ f ∧ lo ≤ v ∧ v ≤ hi) → P (.inr (5, x + 27)) (pF x iv p f, u)) : gW (f_X2_number_95 (x + 1) lo hi (iN f) v) (aT x iv p, u) P := by
  have H := h.X
  have h4 := h.e4
  unfold f_X2_number_95 f_X2_number_115 f_X2_number_120
  simp only [gW_B, rQi H, aT_8, rQc H, gW_T, gW_ret]
  by_cases hc : p = f
  · rw [gW_ift (by rw [hc]), w_failT h.att]
    exact h2 (fun q => q.1 hc)
  · rw [gW_iff (by rw [iN_eq (by omega) (by omega)]; exact hc)]
    by_cases hc2 : v < lo
    · rw [gW_ift hc2, w_failT h.att]
      exact h2 (fun q => Int32.not_lt.mpr q.2.1 hc2)
    · rw [gW_iff hc2]
      by_cases hc3 : v ≤ hi
      · rw [gW_ift hc3, gW_ret]
        exact h1 ⟨hc, Int32.not_lt.mp hc2, hc3⟩
      · rw [gW_iff hc3, w_failT h.att]
        exact h2 (fun q => hc3 q.2.2)
theorem w_number_8 (h : PC x iv u B e) {f : Nat} {lo hi : Int32} {P : Int32 ⊕ gE → g_H → Prop} (h1 : okN B e f lo hi → P (.inl (dV B f (kD B e f - f))) (aT x iv (kD B e f), u)) (h2 : ¬ okN B e f lo hi → ∀ q, P (.inr (5, x + 27)) (pF x iv q f, u)) :
    ∀ k p n : Nat, p + k = e → k < n → f ≤ p → p - f ≤ 3 → (∀ j : Nat, f ≤ j → j < p → isDi (B j) = true) → gW (f_X2_number_8 n (x + 1) lo hi (iN f) (dV B f (p - f))) (aT x iv p, u) P := by
  have H := h.X
  have h4 := h.e4
  have h7 := h.e7
  intro k
  induction k with
  | zero =>
    intro p n q1 q2 q3 q4 q5
    obtain ⟨n, rfl⟩ : ∃ n', n = n' + 1 := ⟨n - 1, by omega⟩
    have hp : p = e := by omega
    subst hp
    have ek : kD B p f = p := (sk_to q3 (Nat.le_refl _) q5).symm.trans (sk_off (fun q => by omega))
    rw [f_X2_number_8]
    simp only [gW_B, rQi H, aT_8, aT_7, h7, gW_ift (Int32.le_refl _)]
    unfold okN at h1 h2
    rw [ek] at h1 h2
    exact w_number_95 h (Nat.le_refl _) q3 (fun z => h1 ⟨z.1, q4, z.2⟩) (fun z => h2 (fun y => z ⟨y.1, y.2.2⟩) p)
  | succ k ih =>
    intro p n q1 q2 q3 q4 q5
    obtain ⟨n, rfl⟩ : ∃ n', n = n' + 1 := ⟨n - 1, by omega⟩
    have hc : ¬ iN e ≤ iN p := by rw [iN_le (by omega) (by omega)]; omega
    have ht := h.t (show p < e by omega)
    have hoff : isDi (B p) = false → gW (f_X2_number_95 (x + 1) lo hi (iN f) (dV B f (p - f))) (aT x iv p, u) P := by
      intro hd
      have ek : kD B e f = p := (sk_to q3 (show p ≤ e by omega) q5).symm.trans (sk_off (fun q => by rw [hd] at q; cases q.2))
      unfold okN at h1 h2
      rw [ek] at h1 h2
      exact w_number_95 h (by omega) q3 (fun z => h1 ⟨z.1, q4, z.2⟩) (fun z => h2 (fun y => z ⟨y.1, y.2.2⟩) p)
    rw [f_X2_number_8]
    simp (disch := omega) only [gW_B, rQi H, aT_8, aT_7, h7, gW_iff hc, rQt H, rQa H, aT_2, ht]
    by_cases hl : B p < 48
    · rw [gW_ift hl]
      exact hoff (by unfold isDi; rw [decide_eq_false_iff_not]; exact fun z => Int32.not_lt.mpr z.1 hl)
    · rw [gW_iff hl]
      simp (disch := omega) only [gW_B, rQi H, aT_8, rQt H, rQa H, aT_2, ht]
      by_cases hg : 57 < B p
      · rw [gW_ift hg]
        exact hoff (by unfold isDi; rw [decide_eq_false_iff_not]; exact fun z => Int32.not_lt.mpr z.2 hg)
      · rw [gW_iff hg]
        have hd : isDi (B p) = true := by unfold isDi; rw [decide_eq_true_eq]; exact ⟨Int32.not_lt.mp hl, Int32.not_lt.mp hg⟩
        have q5' : ∀ j : Nat, f ≤ j → j < p + 1 → isDi (B j) = true := fun j a b => by
          by_cases ej : j = p
          · rw [ej]; exact hd
          · exact q5 j a (by omega)
        unfold f_X2_number_62
        simp (disch := omega) only [gW_B, rQi H, aT_8, rQc H, gW_T, iN_sub q3]
        by_cases h3 : p - f = 3
        · rw [gW_ift (by rw [h3]; rfl), w_failT h.att]
          refine h2 (fun z => ?_) p
          have : kD B e (p + 1) = kD B e f := sk_to (by omega) (by omega) q5'
          have b := (kD_s (B := B) (show p + 1 ≤ e by omega)).1
          have := z.2.1
          omega
        · rw [gW_iff (by rw [show (3 : Int32) = iN 3 from rfl, iN_eq (by omega) (by omega)]; exact h3)]
          simp (disch := omega) only [gW_B, rQi H, aT_8, rQt H, rQa H, aT_2, ht, gW_ret, rQp H, iNp1, aT_u]
          have := ih (p + 1) n (by omega) (by omega) (by omega) (by omega) q5'
          rw [show p + 1 - f = p - f + 1 by omega, dV, show f + (p - f) = p by omega] at this
          exact this
theorem w_number (h : PC x iv u B e) {p : Nat} (hp : p ≤ e) {lo hi : Int32} {P : Int32 ⊕ gE → g_H → Prop} (h1 : ∀ v q, pNum B e p lo hi = .inl (v, q) → P (.inl v) (aT x iv q, u)) (h2 : ∀ f, pNum B e p lo hi = .inr f → ∀ q, P (.inr (5, x + 27)) (pF x iv q f, u)) : gW (f_X2_number (x + 1) lo hi) (aT x iv p, u) P := by
  have H := h.X
  have h4 := h.e4
  have b1 := kB_b (B := B) hp
  unfold f_X2_number
  simp only [gW_B, rQc H, w_here h hp]
  have := w_number_8 (P := P) (f := kB B e p) (lo := lo) (hi := hi) h (fun z => h1 _ _ (pNum_t z)) (fun z q => h2 _ (pNum_f z) q) (e - kB B e p) (kB B e p) gN (by omega) (by rw [gN_eq]; omega) (Nat.le_refl _) (by omega) (fun j a b => by omega)
  rw [Nat.sub_self] at this
  exact this
theorem w_after (h : PC x iv u B e) {i p : Nat} (hi' : i < 42) (hp : p ≤ e) {lo hi : Int32} {P : Int32 ⊕ gE → g_H → Prop} (h1 : ∀ v q, pAft B e (g_byt.getD i []) p lo hi = .inl (v, q) → P (.inl v) (aT x iv q, u)) (h2 : ∀ f, pAft B e (g_byt.getD i []) p lo hi = .inr f → ∀ q, P (.inr (5, x + 27)) (pF x iv q f, u)) : gW (f_X2_after (x + 1) (u.2.2.1 i) lo hi) (aT x iv p, u) P := by
  have H := h.X
  unfold f_X2_after
  simp only [gW_B, rQc H, gW_T]
  unfold pAft at h1 h2
  refine w_expect h hi' hp (fun ht => ?_) (fun ht => ?_)
  · rw [if_pos ht] at h1 h2
    simp only [gW_B, rQc H, gW_T, gW_ret]
    exact w_number h (kW_b hp).2 (fun v q z => h1 v q z) (fun f z q => h2 f z q)
  · rw [if_neg ht] at h1 h2
    exact h2 _ rfl _
theorem w_letters_102 (h : PC x iv u B e) {f p : Nat} {one : Bool} {s : Int32} (hp : p ≤ e) {P : Int32 ⊕ gE → g_H → Prop} (h1 : s ≠ 0 → ¬ (one = true ∧ ¬ bC s ≤ 1) → P (.inl s) (aT x iv p, u)) (h2 : s = 0 ∨ (one = true ∧ ¬ bC s ≤ 1) → P (.inr (5, x + 27)) (pF x iv p f, u)) : gW (f_X2_letters_102 (x + 1) (bI (one = true)) (iN f) s) (aT x iv p, u) P := by
  have H := h.X
  unfold f_X2_letters_102 f_X2_letters_118 f_X2_letters_123
  by_cases hc : s = 0
  · rw [gW_ift hc, w_failT h.att]
    exact h2 (Or.inl hc)
  · rw [gW_iff hc]
    cases one with
    | false =>
      rw [gW_ift (bI_f (by decide)), gW_ret]
      exact h1 hc (fun z => by cases z.1)
    | true =>
      rw [gW_iff (by rw [bI_t rfl]; decide), gW_B, w_bitCount]
      by_cases hb : bC s ≤ 1
      · rw [gW_ift hb, gW_ret]
        exact h1 hc (fun z => z.2 hb)
      · rw [gW_iff hb, w_failT h.att]
        exact h2 (Or.inr ⟨rfl, hb⟩)
theorem w_letters_7 (h : PC x iv u B e) {p0 : Nat} (hp0 : p0 ≤ e) {one : Bool} {P : Int32 ⊕ gE → g_H → Prop} (h1 : ∀ s q, pLe B e p0 one = .inl (s, q) → P (.inl s) (aT x iv q, u)) (h2 : ∀ f, pLe B e p0 one = .inr f → ∀ q, P (.inr (5, x + 27)) (pF x iv q f, u)) :
    ∀ (k p n : Nat) (s : Int32), p + k = e → k < n → kB B e p0 ≤ p → (∀ j : Nat, kB B e p0 ≤ j → j < p → isLe (B j) = true) → lB B (kB B e p0) (p - kB B e p0) = some s → gW (f_X2_letters_7 n (x + 1) (bI (one = true)) (iN (kB B e p0)) s) (aT x iv p, u) P := by
  have H := h.X
  have h4 := h.e4
  have h7 := h.e7
  have fin : ∀ (p : Nat) (s : Int32), p ≤ e → kB B e p0 ≤ p → (∀ j : Nat, kB B e p0 ≤ j → j < p → isLe (B j) = true) → kW B e p0 = p → lB B (kB B e p0) (p - kB B e p0) = some s → gW (f_X2_letters_102 (x + 1) (bI (one = true)) (iN (kB B e p0)) s) (aT x iv p, u) P := by
    intro p s a1 a2 a3 a4 a5
    have hs0 : s = 0 ↔ p = kB B e p0 := by
      constructor
      · intro z
        cases hk : p - kB B e p0 with
        | zero => omega
        | succ k =>
          rw [hk] at a5
          exact (lB_0 (fun j b1 b2 => a3 j b1 (by omega)) a5 z).elim
      · intro z
        rw [z, Nat.sub_self, lB] at a5
        injection a5 with a5
        exact a5.symm
    refine w_letters_102 h a1 (fun z1 z2 => h1 s p ?_) (fun z => h2 _ ?_ p)
    · unfold pLe pLet
      rw [a4, if_neg (fun q => z1 (hs0.mpr q)), a5]
      show (if one = true ∧ ¬ bC s ≤ 1 then _ else _) = _
      rw [if_neg z2]
    · unfold pLe pLet
      rw [a4]
      rcases z with z | z
      · rw [if_pos (hs0.mp z)]
      · by_cases hq : p = kB B e p0
        · rw [if_pos hq]
        · rw [if_neg hq, a5]
          show (if one = true ∧ ¬ bC s ≤ 1 then _ else _) = _
          rw [if_pos z]
  intro k
  induction k with
  | zero =>
    intro p n s q1 q2 q3 q4 q5
    obtain ⟨n, rfl⟩ : ∃ n', n = n' + 1 := ⟨n - 1, by omega⟩
    have hp : p = e := by omega
    subst hp
    rw [f_X2_letters_7]
    simp only [gW_B, rQi H, aT_8, aT_7, h7, gW_ift (Int32.le_refl _)]
    refine fin p s (Nat.le_refl _) q3 q4 ?_ q5
    exact (sk_to q3 (Nat.le_refl _) q4).symm.trans (sk_off (fun q => by omega))
  | succ k ih =>
    intro p n s q1 q2 q3 q4 q5
    obtain ⟨n, rfl⟩ : ∃ n', n = n' + 1 := ⟨n - 1, by omega⟩
    have hc : ¬ iN e ≤ iN p := by rw [iN_le (by omega) (by omega)]; omega
    have ht := h.t (show p < e by omega)
    have hoff : isLe (B p) = false → gW (f_X2_letters_102 (x + 1) (bI (one = true)) (iN (kB B e p0)) s) (aT x iv p, u) P := by
      intro hd
      refine fin p s (by omega) q3 q4 ?_ q5
      exact (sk_to q3 (show p ≤ e by omega) q4).symm.trans (sk_off (fun q => by rw [hd] at q; cases q.2))
    rw [f_X2_letters_7]
    simp (disch := omega) only [gW_B, rQi H, aT_8, aT_7, h7, gW_iff hc, rQt H, rQa H, aT_2, ht]
    by_cases hl : B p < 97
    · rw [gW_ift hl]
      exact hoff (by unfold isLe; rw [decide_eq_false_iff_not]; exact fun z => Int32.not_lt.mpr z.1 hl)
    · rw [gW_iff hl]
      simp (disch := omega) only [gW_B, rQi H, aT_8, rQt H, rQa H, aT_2, ht]
      by_cases hg : 122 < B p
      · rw [gW_ift hg]
        exact hoff (by unfold isLe; rw [decide_eq_false_iff_not]; exact fun z => Int32.not_lt.mpr z.2 hg)
      · rw [gW_iff hg]
        have hd : isLe (B p) = true := by unfold isLe; rw [decide_eq_true_eq]; exact ⟨Int32.not_lt.mp hl, Int32.not_lt.mp hg⟩
        have q4' : ∀ j : Nat, kB B e p0 ≤ j → j < p + 1 → isLe (B j) = true := fun j a b => by
          by_cases ej : j = p
          · rw [ej]; exact hd
          · exact q4 j a (by omega)
        have hkw : p + 1 ≤ kW B e p0 := by
          have : kL B e (p + 1) = kL B e (kB B e p0) := sk_to (by omega) (by omega) q4'
          have b := (kL_s (B := B) (show p + 1 ≤ e by omega)).1
          show p + 1 ≤ kL B e (kB B e p0)
          omega
        have hbad : (6 ≤ B p - 97 ∨ (s >>> ((B p - 97) &&& 31)) &&& 1 = 1) → ∀ q, P (.inr (5, x + 27)) (pF x iv q (kB B e p0), u) := by
          intro z
          refine h2 _ ?_
          have hn : lB B (kB B e p0) (p - kB B e p0 + 1) = none := by
            rw [lB, q5]
            show (if _ then _ else _) = _
            rw [show kB B e p0 + (p - kB B e p0) = p by omega, if_pos z]
          have hn2 : lB B (kB B e p0) (kW B e p0 - kB B e p0) = none := by
            have := lB_none hn (kW B e p0 - (p + 1))
            rw [show p - kB B e p0 + 1 + (kW B e p0 - (p + 1)) = kW B e p0 - kB B e p0 by omega] at this
            exact this
          unfold pLe pLet
          rw [if_neg (by omega), hn2]
        unfold f_X2_letters_77 f_X2_letters_82
        simp (disch := omega) only [gW_B, rQi H, aT_8, rQt H, rQa H, aT_2, ht, rQc H, gW_T, gW_ret, rQp H, iNp1, aT_u]
        by_cases h6 : 6 ≤ B p - 97
        · rw [gW_ift h6, w_failT h.att]
          exact hbad (Or.inl h6) p
        · rw [gW_iff h6]
          by_cases hb : (s >>> ((B p - 97) &&& 31)) &&& 1 = 1
          · rw [gW_ift hb, w_failT h.att]
            exact hbad (Or.inr hb) p
          · rw [gW_iff hb]
            simp (disch := omega) only [gW_B, rQi H, aT_8, gW_ret, rQp H, iNp1, aT_u]
            refine ih (p + 1) n _ (by omega) (by omega) (by omega) q4' ?_
            rw [show p + 1 - kB B e p0 = p - kB B e p0 + 1 by omega, lB, q5]
            show (if _ then _ else _) = _
            rw [show kB B e p0 + (p - kB B e p0) = p by omega, if_neg (fun z => z.elim h6 hb)]
theorem w_letters (h : PC x iv u B e) {p : Nat} (hp : p ≤ e) {one : Bool} {P : Int32 ⊕ gE → g_H → Prop} (h1 : ∀ s q, pLe B e p one = .inl (s, q) → P (.inl s) (aT x iv q, u)) (h2 : ∀ f, pLe B e p one = .inr f → ∀ q, P (.inr (5, x + 27)) (pF x iv q f, u)) : gW (f_X2_letters (x + 1) (bI (one = true))) (aT x iv p, u) P := by
  have H := h.X
  have h4 := h.e4
  have b1 := kB_b (B := B) hp
  unfold f_X2_letters
  simp only [gW_B, rQc H, w_here h hp]
  refine w_letters_7 h hp h1 h2 (e - kB B e p) (kB B e p) gN 0 (by omega) (by rw [gN_eq]; omega) (Nat.le_refl _) (fun j a b => by omega) ?_
  rw [Nat.sub_self]
  rfl
end TXS
