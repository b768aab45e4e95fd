/-! THE COMPONENT READS SUMS AND CONDITIONS -/
section CS
variable {iv jv kv : gV} {u v w y : gU} {x : Nat} {h : g_H} {B : Nat → Int32} {e : Nat}
theorem Ux.tr {T T' : Nat} (h1 : Ux T u v) (h2 : Ux T' v w) (hT : T ≤ T') : Ux T u w := ⟨fun a ha => ⟨((h2.1 a (by omega)).1).trans (h1.1 a ha).1, ((h2.1 a (by omega)).2).trans (h1.1 a ha).2⟩, h2.2.1.trans h1.2.1, Nat.le_trans h1.2.2 h2.2.2⟩
/-- from a heap to another: the reader stands at p, c new cells at most -/
def QS (x : Nat) (iv : gV) (u : gU) (jv : gV) (w : gU) (p c : Nat) : Prop := jv (x + 1) 8 = iN p ∧ (∀ k : Nat, k ≠ 8 → jv (x + 1) k = iv (x + 1) k) ∧ (∀ a : Nat, a ≠ x + 1 → a < u.2.2.2.1 → jv a = iv a) ∧ Ux u.2.2.2.1 u w ∧ w.2.2.2.1 ≤ u.2.2.2.1 + c ∧ w.2.2.2.2 + 8 * u.2.2.2.1 ≤ u.2.2.2.2 + 8 * w.2.2.2.1
/-- the reader has failed at f -/
def QF (x : Nat) (iv : gV) (u : gU) (jv : gV) (w : gU) (f c : Nat) : Prop := jv (x + 27) 6 = iN f ∧ (∀ k : Nat, k ≠ 8 → k ≠ 9 → jv (x + 1) k = iv (x + 1) k) ∧ (∀ a : Nat, a ≠ x + 1 → a ≠ x + 27 → a < u.2.2.2.1 → jv a = iv a) ∧ Ux u.2.2.2.1 u w ∧ w.2.2.2.1 ≤ u.2.2.2.1 + c ∧ w.2.2.2.2 + 8 * u.2.2.2.1 ≤ u.2.2.2.2 + 8 * w.2.2.2.1
theorem QS.tr {p q c d : Nat} (h1 : QS x iv u jv w p c) (h2 : QS x jv w kv y q d) : QS x iv u kv y q (c + d) := by
  obtain ⟨a1, a2, a3, a4, a5, a6⟩ := h1
  obtain ⟨b1, b2, b3, b4, b5, b6⟩ := h2
  have := a4.2.2
  exact ⟨b1, fun k hk => (b2 k hk).trans (a2 k hk), fun a h h' => (b3 a h (by omega)).trans (a3 a h h'), a4.tr b4 this, by omega, by omega⟩
theorem QS.trF {p f c d : Nat} (h1 : QS x iv u jv w p c) (h2 : QF x jv w kv y f d) : QF x iv u kv y f (c + d) := by
  obtain ⟨a1, a2, a3, a4, a5, a6⟩ := h1
  obtain ⟨b1, b2, b3, b4, b5, b6⟩ := h2
  have := a4.2.2
  exact ⟨b1, fun k hk hk' => (b2 k hk hk').trans (a2 k hk), fun a h h' h'' => (b3 a h h' (by omega)).trans (a3 a h h''), a4.tr b4 this, by omega, by omega⟩
theorem QS.le {p c d : Nat} (h : QS x iv u jv w p c) (hc : c ≤ d) : QS x iv u jv w p d := ⟨h.1, h.2.1, h.2.2.1, h.2.2.2.1, by have := h.2.2.2.2.1; omega, h.2.2.2.2.2⟩
theorem QF.le {p c d : Nat} (h : QF x iv u jv w p c) (hc : c ≤ d) : QF x iv u jv w p d := ⟨h.1, h.2.1, h.2.2.1, h.2.2.2.1, by have := h.2.2.2.2.1; omega, h.2.2.2.2.2⟩
theorem QS.att {p : Nat} : QS x iv u (aT x iv p) u p 0 := ⟨aT_8, fun k hk => aT_k hk, fun a h _ => aT_a h, Ux.rf, Nat.le_refl _, Nat.le_refl _⟩
theorem QF.att {q f : Nat} : QF x iv u (pF x iv q f) u f 0 := by
  unfold pF
  refine ⟨by rw [g_u2_self, va_up_self], fun k h _ => by rw [g_u2_ne _ _ _ (by omega)]; exact aT_k h, fun a h1 h2 _ => by rw [g_u2_ne _ _ _ h2]; exact aT_a h1, Ux.rf, Nat.le_refl _, Nat.le_refl _⟩
theorem at_id {p : Nat} (h : iv (x + 1) 8 = iN p) : aT x iv p = iv := g_u2_id _ _ _ h
theorem PC.qs {p c : Nat} (h : PC x iv u B e) (hq : QS x iv u jv w p c) : PC x jv w B e := h.fr hq.2.2.2.1 (hq.2.1 7 (by decide)) (hq.2.2.1 _ (by omega) (by have := h.2.2.2.2.2; omega)) (fun a ha => hq.2.2.1 a (by omega) (by have := h.2.2.2.2.2; omega))
/-- a new cell -/
def Al (iv : gV) (u : gU) (s : g_S) (k : Nat) (jv : gV) (w : gU) : Prop := w.1 u.2.2.2.1 = some s ∧ (∀ j : Nat, jv u.2.2.2.1 j = 0) ∧ (∀ j : Nat, w.2.1 u.2.2.2.1 j = none) ∧ (∀ a : Nat, a ≠ u.2.2.2.1 → jv a = iv a ∧ w.1 a = u.1 a ∧ w.2.1 a = u.2.1 a) ∧ w.2.2.1 = u.2.2.1 ∧ w.2.2.2.1 = u.2.2.2.1 + 1 ∧ w.2.2.2.2 = u.2.2.2.2 + k
theorem w_al {s : g_S} {k : Nat} {P : Nat → g_H → Prop} (hP : ∀ (jv : gV) (w : gU), Al iv u s k jv w → P u.2.2.2.1 (jv, w)) : gW (gAl s k) (iv, u) P := by
  rw [gW_al]
  refine hP _ _ ⟨va_up_self _ _ _, fun j => congrFun (va_up_self _ _ _) j, fun j => congrFun (va_up_self _ _ _) j, fun a ha => ?_, rfl, rfl, rfl⟩
  obtain ⟨h1, h2, h3⟩ := g_addU (iv := iv) (u := u) (s := s) (k := k) a ha
  exact ⟨h3, h1, h2⟩
theorem Al.qs {s : g_S} {k p : Nat} (hA : Al iv u s k jv w) (hk : k ≤ 8) (hp : iv (x + 1) 8 = iN p) (hx : x + 370 ≤ u.2.2.2.1) : QS x iv u jv w p 1 := by
  obtain ⟨a1, a2, a3, a4, a5, a6, a7⟩ := hA
  refine ⟨by rw [(a4 (x + 1) (by omega)).1]; exact hp, fun k _ => by rw [(a4 (x + 1) (by omega)).1], fun a _ h => (a4 a (by omega)).1, ⟨fun a h => (a4 a (by omega)).2, a5, by omega⟩, by omega, by omega⟩
/-- cells that are new change -/
theorem QS.new {p c : Nat} (h : QS x iv u jv w p c) (hk : ∀ a : Nat, a < u.2.2.2.1 → kv a = jv a ∧ y.1 a = w.1 a ∧ y.2.1 a = w.2.1 a) (hx : x + 1 < u.2.2.2.1) (e1 : y.2.2 = w.2.2) : QS x iv u kv y p c := by
  obtain ⟨a1, a2, a3, ⟨a4, a4', a4''⟩, a5, a6⟩ := h
  refine ⟨by rw [(hk _ hx).1]; exact a1, fun k h => by rw [(hk _ hx).1]; exact a2 k h, fun a h h' => by rw [(hk a h').1]; exact a3 a h h', ⟨fun a h => ⟨(hk a h).2.1.trans (a4 a h).1, (hk a h).2.2.trans (a4 a h).2⟩, by rw [e1]; exact a4', by rw [e1]; exact a4''⟩, by rw [e1]; exact a5, by rw [e1]; exact a6⟩
/-! sums -/
def sumv (n : Int32) (T F : Nat → Int32) : Int32 := (((((n + T 0 * F 0) + T 1 * F 1) + T 2 * F 2) + T 3 * F 3) + T 4 * F 4) + T 5 * F 5
theorem sumv_n {n m : Int32} {T F : Nat → Int32} : sumv (n + m) T F = sumv n T F + m := by
  unfold sumv
  simp only [Int32.add_assoc, Int32.add_comm, i3_lc]
theorem sumv_t {n : Int32} {T F : Nat → Int32} {k : Nat} (hk : k < 6) : sumv n (va_up T k (T k + 1)) F = sumv n T F + F k := by
  unfold sumv
  have : k = 0 ∨ k = 1 ∨ k = 2 ∨ k = 3 ∨ k = 4 ∨ k = 5 := by omega
  rcases this with rfl | rfl | rfl | rfl | rfl | rfl
  all_goals
    simp [va_up, Int32.add_mul]
    simp only [Int32.add_assoc, Int32.add_comm, i3_lc]
theorem w_sumof {a t fx : Nat} (ha : u.1 a = some (.inr 10)) (hat : u.2.1 a 0 = some t) (ht : u.1 t = some (.inl (0, 6))) (hf : u.1 fx = some (.inl (0, 8))) {P : Int32 → g_H → Prop} : gW (f_X11_of a fx) (iv, u) P ↔ P (sumv (iv a 1) (iv t) (iv fx)) (iv, u) := by
  have st : ∀ (n : Nat) (k : Nat) (s : Int32), k < 6 → (gW (f_X11_of_7 (n + 1) a fx s (iN k)) (iv, u) P ↔ gW (f_X11_of_7 n a fx (s + iv t k * iv fx k) (iN (k + 1))) (iv, u) P) := by
    intro n k s hk
    rw [f_X11_of_7, gW_iff (by rw [show (6 : Int32) = iN 6 from rfl, iN_le (by omega) (by omega)]; omega), gW_B, gW_FR ha hat, gW_B, gW_AI ht rfl hk (by decide), gW_B, gW_AI hf rfl (show k < 8 by omega) (by decide), iNp1]
  unfold f_X11_of
  rw [gW_B, gW_FI ha]
  obtain ⟨n, hn⟩ : ∃ n, gN = n + 1 + 1 + 1 + 1 + 1 + 1 + 1 := ⟨4089, gN_eq⟩
  rw [hn, show (0 : Int32) = iN 0 from rfl, st _ _ _ (by omega), st _ _ _ (by omega), st _ _ _ (by omega), st _ _ _ (by omega), st _ _ _ (by omega), st _ _ _ (by omega), f_X11_of_7, gW_ift (by decide)]
  unfold f_X11_of_32
  rw [gW_ret]
  exact Iff.rfl
/-- a sum that is new since T -/
def sD (T : Nat) (jv : gV) (w : gU) (a : Nat) (G : sGs) : Prop := T ≤ a ∧ a < w.2.2.2.1 ∧ w.1 a = some (.inr 10) ∧ ∃ t : Nat, w.2.1 a 0 = some t ∧ T ≤ t ∧ t < w.2.2.2.1 ∧ w.1 t = some (.inl (0, 6)) ∧ ∀ F : Nat → Int32, sumv (jv a 1) (jv t) F = G F
theorem sD.kp {T : Nat} {a : Nat} {G : sGs} (h : sD T jv w a G) (hk : Kp T w.2.2.2.1 jv w kv y) (hn : w.2.2.2.1 ≤ y.2.2.2.1) : sD T kv y a G := by
  obtain ⟨h1, h2, h3, t, h4, h5, h6, h7, h8⟩ := h
  obtain ⟨a1, a2, a3⟩ := hk a h1 h2
  obtain ⟨b1, b2, b3⟩ := hk t h5 h6
  exact ⟨h1, by omega, by rw [a2]; exact h3, t, by rw [a3]; exact h4, h5, by omega, by rw [b2]; exact h7, fun F => by rw [a1, b1]; exact h8 F⟩
theorem w_isFigure (h : PC x iv u B e) {p : Nat} (hp : p ≤ e) {P : Int32 → g_H → Prop} : gW (f_X2_isFigure (x + 1)) (aT x iv p, u) P ↔ P (bI (kB B e p < e ∧ isDi (B (kB B e p)) = true)) (aT x iv (kB B e p), u) := by
  have H := h.X
  have b1 := kB_b (B := B) hp
  have g0 : ∀ {y : Int32}, (y = 0 ∨ y = 1) → (gW (f_X2_isFigure_22 y) (aT x iv (kB B e p), u) P ↔ P y (aT x iv (kB B e p), u)) := by
    intro y hy
    unfold f_X2_isFigure_22
    rw [gW_B, gW_gd, gW_ret]
    exact ⟨fun q => q.2, fun q => ⟨hy, q⟩⟩
  unfold f_X2_isFigure f_X2_isFigure_21
  rw [gW_B, rQc H, gW_B, w_sign h hp]
  unfold sgn
  by_cases hc : kB B e p < e
  · rw [if_pos hc]
    obtain ⟨c, hc1, hc2⟩ := h.b.2 _ hc
    have hd := by_di c hc1
    rw [← hc2] at hd
    by_cases h1 : B (kB B e p) &&& 255 < 48
    · rw [gW_ift h1, g0 (Or.inl rfl), bI_f]
      intro q
      unfold isDi at q
      rw [decide_eq_true_eq] at q
      exact Int32.not_lt.mpr (hd.mpr q.2).1 h1
    · rw [gW_iff h1]
      by_cases h2 : 57 < B (kB B e p) &&& 255
      · rw [gW_ift h2, g0 (Or.inl rfl), bI_f]
        intro q
        unfold isDi at q
        rw [decide_eq_true_eq] at q
        exact Int32.not_lt.mpr (hd.mpr q.2).2 h2
      · rw [gW_iff h2, g0 (Or.inr rfl), bI_t]
        refine ⟨hc, ?_⟩
        unfold isDi
        rw [decide_eq_true_eq]
        exact hd.mp ⟨Int32.not_lt.mp h1, Int32.not_lt.mp h2⟩
  · rw [if_neg hc, gW_ift (by decide), g0 (Or.inl rfl), bI_f (fun q => hc q.1)]
theorem pNum_kB {p : Nat} (hp : p ≤ e) {lo hi : Int32} : pNum B e (kB B e p) lo hi = pNum B e p lo hi := by
  unfold pNum
  rw [kBB hp]
theorem rQW (H : XS u x) {k : Nat} (hk : k < 6) {P : Nat → g_H → Prop} : gW (gAR (x + 3) 8 (iN k)) (iv, u) P ↔ P (u.2.2.1 k) (iv, u) := gW_AR H.2.2.2.2.2.1.2.2.2.1 rfl hk (by decide) (H.2.2.2.2.2.2.1 k hk)
theorem rQG (H : XS u x) {k : Nat} (hk : k < 2) {P : Nat → g_H → Prop} : gW (gAR (x + 4) 8 (iN k)) (iv, u) P ↔ P (u.2.2.1 (6 + k)) (iv, u) := gW_AR H.2.2.2.2.2.1.2.2.2.2.2.1 rfl hk (by decide) (H.2.2.2.2.2.2.2 k hk)
/-- the words of facts, one after another -/
theorem w_part_27 (h : PC x iv u B e) {a t f : Nat} (hf : f ≤ e) (hff : kB B e f = f) (ha : u.1 a = some (.inr 10)) (hat : u.2.1 a 0 = some t) (ht : u.1 t = some (.inl (0, 6))) {P : Unit ⊕ gE → g_H → Prop}
    (h1 : ∀ k, fW B e f 6 0 = some k → P (.inl ()) (g_u2 (aT x iv (kW B e f)) t k (iv t k + 1), u)) (h2 : fW B e f 6 0 = none → P (.inr (5, x + 27)) (pF x iv f f, u)) :
    ∀ n k m : Nat, k + n = 6 → n < m → fW B e f 6 0 = fW B e f n k → gW (f_X2_part_27 m (x + 1) a (iN k)) (aT x iv f, u) P := by
  have H := h.X
  have hne : t ≠ x + 1 := fun q => by rw [q, H.1.2.1] at ht; cases ht
  intro n
  induction n with
  | zero =>
    intro k m q1 q2 q3
    obtain ⟨m, rfl⟩ : ∃ m', m = m' + 1 := ⟨m - 1, by omega⟩
    have hk : k = 6 := by omega
    subst hk
    rw [f_X2_part_27, gW_ift (by decide)]
    unfold f_X2_part_66
    rw [gW_B, rQi H, aT_8, gW_B, rQc H, gW_T, w_fail h.att]
    exact h2 q3
  | succ n ih =>
    intro k m q1 q2 q3
    obtain ⟨m, rfl⟩ : ∃ m', m = m' + 1 := ⟨m - 1, by omega⟩
    rw [show fW B e f (n + 1) k = if tk B e (g_byt.getD k []) f = true then some k else fW B e f n (k + 1) from rfl] at q3
    rw [f_X2_part_27, gW_iff (by rw [show (6 : Int32) = iN 6 from rfl, iN_le (by omega) (by omega)]; omega), gW_B, rQw H, gW_B, rQW H (by omega), gW_B, rQc H, gW_B, w_takesT h (by omega) hf]
    by_cases hc : tk B e (g_byt.getD k []) f = true
    · rw [if_pos hc] at q3
      rw [bI_t hc, gW_iff (by decide), kT_t hc]
      unfold f_X2_part_49
      rw [gW_B, gW_FR ha hat, gW_B, gW_AI ht rfl (show k < 6 by omega) (by decide), gW_B, gW_SI ht rfl (show k < 6 by omega) (by decide), gW_ret, aT_a hne]
      exact h1 k q3
    · rw [if_neg hc] at q3
      rw [bI_f hc, gW_ift rfl, kT_f hc, hff, iNp1]
      exact ih (k + 1) m (by omega) (by omega) q3
theorem fW_none {p : Nat} (h : ¬ (1 ≤ kW B e p - kB B e p)) : ∀ n k : Nat, k + n ≤ 6 → fW B e p n k = none := by
  intro n
  induction n with
  | zero => exact fun _ _ => rfl
  | succ n ih =>
    intro k hk
    rw [fW, if_neg (fun q => by have h1 := tk_l q; have h2 := (bl_1 k (by omega)).1; omega)]
    exact ih (k + 1) (by omega)
theorem fW_kB {p : Nat} (hp : p ≤ e) : ∀ n k : Nat, fW B e (kB B e p) n k = fW B e p n k := by
  intro n
  induction n with
  | zero => exact fun _ => rfl
  | succ n ih => intro k; rw [fW, fW, tk_kB hp, ih]
theorem w_part (h : PC x iv u B e) {a t p : Nat} (hp : p ≤ e) (ha : u.1 a = some (.inr 10)) (hat : u.2.1 a 0 = some t) (ht : u.1 t = some (.inl (0, 6))) {P : Unit ⊕ gE → g_H → Prop}
    (h1 : ∀ (G : sGs) (q : Nat), pPart B e p = .inl (G, q) → ∀ jv : gV, jv (x + 1) = aT x iv q (x + 1) → (∀ b : Nat, b ≠ x + 1 → b ≠ a → b ≠ t → jv b = iv b) → (∀ F : Nat → Int32, sumv (jv a 1) (jv t) F = sumv (iv a 1) (iv t) F + G F) → P (.inl ()) (jv, u))
    (h2 : ∀ f, pPart B e p = .inr f → ∀ q, P (.inr (5, x + 27)) (pF x iv q f, u)) : gW (f_X2_part (x + 1) a) (aT x iv p, u) P := by
  have H := h.X
  have b1 := kB_b (B := B) hp
  have b2 := kW_b (B := B) hp
  have hne : t ≠ x + 1 := fun q => by rw [q, H.1.2.1] at ht; cases ht
  have hna : a ≠ x + 1 := fun q => by rw [q, H.1.2.1] at ha; cases ha
  have hta : t ≠ a := fun q => by rw [q, ha] at ht; cases ht
  unfold f_X2_part
  rw [gW_B, rQc H, gW_B, w_isFigure h hp]
  unfold pPart at h1 h2
  by_cases hd : kB B e p < e ∧ isDi (B (kB B e p)) = true
  · have hw : kW B e p = kB B e p := sk_off (fun q => by
      have h3 := hd.2
      have h4 := q.2
      unfold isDi at h3
      unfold isLe at h4
      rw [decide_eq_true_eq] at h3 h4
      exact absurd (Int32.le_trans h4.1 h3.2) (by decide))
    rw [if_pos hw] at h1 h2
    rw [bI_t hd, gW_iff (by decide), gW_B, gW_FI ha, aT_a hna, gW_B, rQc H, gW_T]
    refine w_number h b1.2 (fun vv q hn => ?_) (fun f hn q => ?_)
    · rw [pNum_kB hp] at hn
      rw [hn] at h1
      simp only [gW_B, gW_PI ha, gW_ret]
      refine h1 _ q rfl _ (by rw [g_u2_ne _ _ _ (fun q => hna q.symm)]) (fun b hb1 hb2 hb3 => by rw [g_u2_ne _ _ _ hb2, aT_a hb1]) (fun F => ?_)
      rw [g_u2_self, va_up_self, g_u2_ne _ _ _ hta, aT_a hne]
      exact sumv_n
    · rw [pNum_kB hp] at hn
      rw [hn] at h2
      exact h2 f rfl q
  · rw [bI_f hd, gW_ift rfl]
    refine w_part_27 h b1.2 (kBB hp) ha hat ht (fun k hk => ?_) (fun hk => ?_) 6 0 gN (by omega) (by rw [gN_eq]; omega) rfl
    · rw [fW_kB hp] at hk
      have hs := fW_s 6 0 k (by omega) hk
      have hl := tk_l hs.2.2.1
      have hl2 := (bl_1 k (by omega)).1
      rw [if_neg (by omega), hk] at h1
      rw [kWB hp]
      refine h1 _ _ rfl _ (by rw [g_u2_ne _ _ _ (fun q => hne q.symm)]) (fun b hb1 hb2 hb3 => by rw [g_u2_ne _ _ _ hb3, aT_a hb1]) (fun F => ?_)
      rw [g_u2_self, g_u2_ne _ _ _ (fun q => hta q.symm), aT_a hna, aT_a hne]
      exact sumv_t hs.1
    · rw [fW_kB hp] at hk
      refine h2 (kB B e p) ?_ _
      by_cases hc : kW B e p = kB B e p
      · rw [if_pos hc, pNum_f]
        intro q
        refine q.1 (sk_off (fun q => hd q))
      · rw [if_neg hc, hk]
/-- behind the first part of a sum -/
theorem w_sum_13 {a t : Nat} {P : Nat ⊕ gE → g_H → Prop} : ∀ (m : Nat) (iv : gV) (G : sGs) (p n : Nat), PC x iv u B e → x + 370 ≤ a → x + 370 ≤ t → u.1 a = some (.inr 10) → u.2.1 a 0 = some t → u.1 t = some (.inl (0, 6)) → p ≤ e → e < p + m → e < p + n → (∀ F : Nat → Int32, sumv (iv a 1) (iv t) F = G F) →
    (∀ (G' : sGs) (q : Nat), pSuL B e m G p = .inl (G', q) → ∀ jv : gV, jv (x + 1) = aT x iv q (x + 1) → (∀ b : Nat, b ≠ x + 1 → b ≠ a → b ≠ t → jv b = iv b) → (∀ F : Nat → Int32, sumv (jv a 1) (jv t) F = G' F) → P (.inl a) (jv, u)) →
    (∀ f, pSuL B e m G p = .inr f → ∀ (q : Nat) (jv : gV), (∀ k : Nat, k ≠ 8 → jv (x + 1) k = iv (x + 1) k) → (∀ b : Nat, b ≠ x + 1 → b ≠ a → b ≠ t → jv b = iv b) → P (.inr (5, x + 27)) (pF x jv q f, u)) → gW (f_X2_sum_13 n (x + 1) a) (aT x iv p, u) P := by
  intro m
  induction m with
  | zero => intro iv G p n h _ _ _ _ _ q1 q2; omega
  | succ m ih =>
    intro iv G p n h xa xt ha hat ht q1 q2 q3 hG h1 h2
    obtain ⟨n, rfl⟩ : ∃ n', n = n' + 1 := ⟨n - 1, by omega⟩
    have H := h.X
    have b1 := kB_b (B := B) q1
    rw [pSuL] at h1 h2
    rw [f_X2_sum_13, gW_B, rQc H, gW_B, w_sign h q1]
    by_cases hs : isS B e p 43 = true
    · have hs' := isS_b q1 hs
      rw [if_pos hs] at h1 h2
      rw [gW_ift (show sgn B e p = 43 from (sgn_is h.b (k := 43) (by decide)).mpr hs), gW_B, rQi H, aT_8, gW_B, rQp H, iNp1, aT_u, gW_B, rQc H, gW_T]
      refine w_part h (by omega) ha hat ht (fun G1 r hn jv j1 j2 j3 => ?_) (fun f hn q => ?_)
      · rw [hn] at h1 h2
        have hr := pPart_n (by omega) hn
        have hne : t ≠ x + 1 := fun q => by rw [q, H.1.2.1] at ht; cases ht
        have hna : a ≠ x + 1 := fun q => by rw [q, H.1.2.1] at ha; cases ha
        have ej : aT x jv r = jv := at_id (by rw [j1]; exact aT_8)
        have jk : ∀ k : Nat, k ≠ 8 → jv (x + 1) k = iv (x + 1) k := fun k hk => by rw [j1]; exact aT_k hk
        have hj : PC x jv u B e := by
          have hx := h.2.2.2.2.2
          exact h.fr Ux.rf (jk 7 (by decide)) (j2 _ (by omega) (by omega) (by omega)) (fun b hb => j2 b (by omega) (by omega) (by omega))
        have := ih jv (fun F => G F + G1 F) r n hj xa xt ha hat ht hr.2 (by omega) (by omega) (fun F => by rw [j3 F, hG F]) (fun G' q hq kv k1 k2 k3 => h1 G' q hq kv ?_ (fun b c1 c2 c3 => (k2 b c1 c2 c3).trans (j2 b c1 c2 c3)) k3) (fun f hf q kv k1 k2 => h2 f hf q kv (fun k hk => (k1 k hk).trans (jk k hk)) (fun b c1 c2 c3 => (k2 b c1 c2 c3).trans (j2 b c1 c2 c3)))
        · rw [ej] at this
          exact this
        · rw [k1]
          unfold aT
          rw [g_u2_self, g_u2_self, j1]
          unfold aT
          rw [g_u2_self, va_up_up]
      · rw [hn] at h2
        exact h2 f rfl q iv (fun _ _ => rfl) (fun _ _ _ _ => rfl)
    · rw [if_neg hs] at h1
      rw [gW_iff (show ¬ sgn B e p = 43 from fun q => hs ((sgn_is h.b (k := 43) (by decide)).mp q))]
      unfold f_X2_sum_40
      rw [gW_ret]
      refine h1 G _ rfl _ rfl (fun b hb _ _ => aT_a hb) (fun F => ?_)
      have hne : t ≠ x + 1 := fun q => by rw [q, H.1.2.1] at ht; cases ht
      have hna : a ≠ x + 1 := fun q => by rw [q, H.1.2.1] at ha; cases ha
      rw [aT_a hna, aT_a hne]
      exact hG F
end CS
