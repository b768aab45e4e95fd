/-! THE MODEL'S READER, BYTE BY BYTE -/
section ML
variable {iv jv kv : gV} {u v : gU} {x : Nat} {h : g_H} {B : Nat → Int32} {e : Nat}
/-- what the model's reader stands on -/
def PM (x : Nat) (iv : gV) (u : gU) (B : Nat → Int32) (e : Nat) : Prop := MS u (x + 353) ∧ iv (x + 353) 11 = iN e ∧ okB B e ∧ (∀ k : Nat, k < e → iv (x + 353 + 6) k = B k) ∧ TX x iv u
def mT (x : Nat) (iv : gV) (b p : Nat) : gV := g_u2 (g_u2 iv (x + 353) 12 (iN b)) (x + 353) 10 (iN p)
theorem mT_10 {b p : Nat} : mT x iv b p (x + 353) 10 = iN p := by unfold mT; rw [g_u2_self, va_up_self]
theorem mT_12 {b p : Nat} : mT x iv b p (x + 353) 12 = iN b := by unfold mT; rw [g_u2_self, va_up_ne _ _ (by decide), g_u2_self, va_up_self]
theorem mT_k {b p k : Nat} (h1 : k ≠ 10) (h2 : k ≠ 12) : mT x iv b p (x + 353) k = iv (x + 353) k := by unfold mT; rw [g_u2_self, va_up_ne _ _ h1, g_u2_self, va_up_ne _ _ h2]
theorem mT_11 {b p : Nat} : mT x iv b p (x + 353) 11 = iv (x + 353) 11 := mT_k (by decide) (by decide)
theorem mT_13 {b p : Nat} : mT x iv b p (x + 353) 13 = iv (x + 353) 13 := mT_k (by decide) (by decide)
theorem mT_16 {b p : Nat} : mT x iv b p (x + 353) 16 = iv (x + 353) 16 := mT_k (by decide) (by decide)
theorem mT_a {b p a : Nat} (h : a ≠ x + 353) : mT x iv b p a = iv a := by unfold mT; rw [g_u2_ne _ _ _ h, g_u2_ne _ _ _ h]
theorem mT_6 {b p : Nat} : mT x iv b p (x + 353 + 6) = iv (x + 353 + 6) := mT_a (by omega)
theorem mT_1 {b p : Nat} : mT x iv b p (x + 353 + 1) = iv (x + 353 + 1) := mT_a (by omega)
theorem mT_p {b p q : Nat} : g_u2 (mT x iv b p) (x + 353) 10 (iN q) = mT x iv b q := g_u2_u2 _ _ _ _ _
theorem g_u2_sw {α : Type} (f : Nat → Nat → α) (a : Nat) {k j : Nat} (y y' : α) (h : k ≠ j) : g_u2 (g_u2 f a k y) a j y' = g_u2 (g_u2 f a j y') a k y := by
  funext b i
  by_cases hb : b = a
  · subst hb
    rw [g_u2_self, g_u2_self, g_u2_self, g_u2_self]
    by_cases h1 : i = j
    · subst h1; rw [va_up_self, va_up_ne _ _ (fun q => h q.symm), va_up_self]
    · rw [va_up_ne _ _ h1]
      by_cases h2 : i = k
      · subst h2; rw [va_up_self, va_up_self]
      · rw [va_up_ne _ _ h2, va_up_ne _ _ h2, va_up_ne _ _ h1]
  · rw [g_u2_ne _ _ _ hb, g_u2_ne _ _ _ hb, g_u2_ne _ _ _ hb, g_u2_ne _ _ _ hb]
theorem mT_b {b p c : Nat} : g_u2 (mT x iv b p) (x + 353) 12 (iN c) = mT x iv c p := by
  unfold mT
  rw [g_u2_sw _ _ _ _ (show (10 : Nat) ≠ 12 by decide), g_u2_u2]
theorem PM.M (h : PM x iv u B e) : MS u (x + 353) := h.1
theorem PM.eE (h : PM x iv u B e) : iv (x + 353) 11 = iN e := h.2.1
theorem PM.b (h : PM x iv u B e) : okB B e := h.2.2.1
theorem PM.e4 (h : PM x iv u B e) : e ≤ 400 := h.2.2.1.1
theorem PM.t (h : PM x iv u B e) {k : Nat} (hk : k < e) : iv (x + 353 + 6) k = B k := h.2.2.2.1 k hk
theorem PM.tx (h : PM x iv u B e) : TX x iv u := h.2.2.2.2
theorem PM.att (h : PM x iv u B e) {b p : Nat} : PM x (mT x iv b p) u B e := ⟨h.1, mT_11.trans h.2.1, h.2.2.1, fun k hk => by rw [mT_6]; exact h.t hk, h.tx.fr Ux.rf (Nat.le_refl _) (fun a ha => mT_a (by omega))⟩
theorem PM.fr (h : PM x iv u B e) (e1 : jv (x + 353) 11 = iv (x + 353) 11) (e6 : jv (x + 359) = iv (x + 359)) (ex : ∀ a : Nat, a < x → jv a = iv a) : PM x jv u B e := ⟨h.1, e1.trans h.2.1, h.2.2.1, fun k hk => by rw [show jv (x + 353 + 6) = iv (x + 353 + 6) from e6]; exact h.t hk, h.tx.fr Ux.rf (Nat.le_refl _) ex⟩
theorem w_isAt (h : PM x iv u B e) {b p : Nat} (hp : p ≤ e) {lo hi : Int32} {P : Int32 → g_H → Prop} : gW (f_X8_isAt (x + 353) lo hi) (mT x iv b p, u) P ↔ P (bI (p < e ∧ lo ≤ B p ∧ B p ≤ hi)) (mT x iv b p, u) := by
  have H := h.M
  have h4 := h.e4
  have he := h.eE
  unfold f_X8_isAt f_X8_isAt_41
  have g0 : ∀ {y : Int32}, (y = 0 ∨ y = 1) → (gW (f_X8_isAt_42 y) (mT x iv b p, u) P ↔ P y (mT x iv b p, u)) := by
    intro y hy
    unfold f_X8_isAt_42
    rw [gW_B, gW_gd, gW_ret]
    exact ⟨fun q => q.2, fun q => ⟨hy, q⟩⟩
  rw [gW_B, rMi H, mT_10, gW_B, rMi H, mT_11, he]
  by_cases h1 : e ≤ p
  · rw [gW_ift (by rw [iN_le (by omega) (by omega)]; exact h1), g0 (Or.inl rfl), bI_f (fun q => by omega)]
  · have ht := h.t (show p < e by omega)
    rw [gW_iff (by rw [iN_le (by omega) (by omega)]; exact h1)]
    simp (disch := omega) only [gW_B, rMr5 H, rMi H, mT_10, rMa5 H, mT_6, ht]
    by_cases h2 : B p < lo
    · rw [gW_ift h2, g0 (Or.inl rfl), bI_f (fun q => Int32.not_lt.mpr q.2.1 h2)]
    · rw [gW_iff h2]
      simp (disch := omega) only [gW_B, rMr5 H, rMi H, mT_10, rMa5 H, mT_6, ht]
      by_cases h3 : hi < B p
      · rw [gW_ift h3, g0 (Or.inl rfl), bI_f (fun q => Int32.not_lt.mpr q.2.2 h3)]
      · rw [gW_iff h3, g0 (Or.inr rfl), bI_t ⟨by omega, Int32.not_lt.mp h2, Int32.not_lt.mp h3⟩]
theorem w_blanks_0 (h : PM x iv u B e) {b : Nat} {P : Unit → g_H → Prop} : ∀ k p n : Nat, p + k = e → k < n → (gW (f_X8_blanks_0 n (x + 353)) (mT x iv b p, u) P ↔ P () (mT x iv (kB B e p) (kB B e p), u)) := by
  have H := h.M
  have h4 := h.e4
  have off : ∀ p : Nat, p ≤ e → ¬ (p < e ∧ 32 ≤ B p ∧ B p ≤ 32) → ∀ n : Nat, (gW (f_X8_blanks_0 (n + 1) (x + 353)) (mT x iv b p, u) P ↔ P () (mT x iv (kB B e p) (kB B e p), u)) := by
    intro p hp hc n
    have e1 : kB B e p = p := sk_off (fun q => by
      unfold isBl at q
      rw [decide_eq_true_eq] at q
      exact hc ⟨q.1, by rw [q.2]; exact Int32.le_refl _, by rw [q.2]; exact Int32.le_refl _⟩)
    rw [f_X8_blanks_0, e1]
    unfold f_X8_blanks_24
    rw [gW_B, rMc H, gW_B, w_isAt h hp, bI_f hc, gW_ift rfl, gW_B, rMi H, mT_10, gW_B, rMp H, mT_b, gW_ret]
  intro k
  induction k with
  | zero =>
    intro p n h1 h2
    obtain ⟨n, rfl⟩ : ∃ n', n = n' + 1 := ⟨n - 1, by omega⟩
    exact off p (by omega) (fun q => by omega) n
  | succ k ih =>
    intro p n h1 h2
    obtain ⟨n, rfl⟩ : ∃ n', n = n' + 1 := ⟨n - 1, by omega⟩
    by_cases hc : p < e ∧ 32 ≤ B p ∧ B p ≤ 32
    · have e1 : kB B e p = kB B e (p + 1) := sk_on hc.1 (by unfold isBl; rw [decide_eq_true_eq]; exact Int32.le_antisymm hc.2.2 hc.2.1)
      rw [f_X8_blanks_0, e1, gW_B, rMc H, gW_B, w_isAt h (by omega), bI_t hc, gW_iff (by decide), gW_B, rMi H, mT_10, gW_B, rMp H, iNp1, mT_p]
      exact ih (p + 1) n (by omega) (by omega)
    · exact off p (by omega) hc n
theorem w_blanks (h : PM x iv u B e) {b p : Nat} (hp : p ≤ e) {P : Unit → g_H → Prop} : gW (f_X8_blanks (x + 353)) (mT x iv b p, u) P ↔ P () (mT x iv (kB B e p) (kB B e p), u) := by
  have := h.e4
  unfold f_X8_blanks
  exact w_blanks_0 h (e - p) p gN (by omega) (by rw [gN_eq]; omega)
theorem w_mlet_4 (h : PM x iv u B e) {b : Nat} {P : Unit → g_H → Prop} : ∀ k p n : Nat, p + k = e → k < n → (gW (f_X8_letters_4 n (x + 353)) (mT x iv b p, u) P ↔ P () (mT x iv b (kL B e p), u)) := by
  have H := h.M
  have h4 := h.e4
  have off : ∀ p : Nat, p ≤ e → ¬ (p < e ∧ 97 ≤ B p ∧ B p ≤ 122) → ∀ n : Nat, (gW (f_X8_letters_4 (n + 1) (x + 353)) (mT x iv b p, u) P ↔ P () (mT x iv b (kL B e p), u)) := by
    intro p hp hc n
    have e1 : kL B e p = p := sk_off (fun q => by
      unfold isLe at q
      rw [decide_eq_true_eq] at q
      exact hc q)
    rw [f_X8_letters_4, e1, gW_B, rMc H, gW_B, w_isAt h hp, bI_f hc, gW_ift rfl, gW_ret]
  intro k
  induction k with
  | zero =>
    intro p n h1 h2
    obtain ⟨n, rfl⟩ : ∃ n', n = n' + 1 := ⟨n - 1, by omega⟩
    exact off p (by omega) (fun q => by omega) n
  | succ k ih =>
    intro p n h1 h2
    obtain ⟨n, rfl⟩ : ∃ n', n = n' + 1 := ⟨n - 1, by omega⟩
    by_cases hc : p < e ∧ 97 ≤ B p ∧ B p ≤ 122
    · have e1 : kL B e p = kL B e (p + 1) := sk_on hc.1 (by unfold isLe; rw [decide_eq_true_eq]; exact hc.2)
      rw [f_X8_letters_4, e1, gW_B, rMc H, gW_B, w_isAt h (by omega), bI_t hc, gW_iff (by decide), gW_B, rMi H, mT_10, gW_B, rMp H, iNp1, mT_p]
      exact ih (p + 1) n (by omega) (by omega)
    · exact off p (by omega) hc n
theorem w_mlet (h : PM x iv u B e) {b p : Nat} (hp : p ≤ e) {P : Unit → g_H → Prop} : gW (f_X8_letters (x + 353)) (mT x iv b p, u) P ↔ P () (mT x iv (kB B e p) (kW B e p), u) := by
  have H := h.M
  have h4 := h.e4
  have b1 := kB_b (B := B) hp
  unfold f_X8_letters
  rw [gW_B, rMc H, gW_B, w_blanks h hp]
  exact w_mlet_4 h (e - kB B e p) (kB B e p) gN (by omega) (by rw [gN_eq]; omega)
theorem w_isWord_24 (h : PM x iv u B e) {a b q : Nat} {w : List Int32} (hT : TXa (mT x iv b q) u a w) {P : Int32 → g_H → Prop} : ∀ (k j n : Nat) (y : Bool), j + k = w.length → k < n → (y = true → b + w.length ≤ e) → (gW (f_X8_isWord_24 n (x + 353) a (bI (y = true)) (iN j)) (mT x iv b q, u) P ↔ P (bI ((y && cE B b w k j) = true)) (mT x iv b q, u)) := by
  have H := h.M
  have h4 := h.e4
  have hl := hT.2.2.1
  have e67 : ∀ y : Bool, gW (f_X8_isWord_67 (bI (y = true))) (mT x iv b q, u) P ↔ P (bI (y = true)) (mT x iv b q, u) := by
    intro y
    unfold f_X8_isWord_67
    rw [gW_B, gW_gd, gW_ret]
    exact ⟨fun q => q.2, fun q => ⟨bI_o, q⟩⟩
  have efal : ∀ (k j n : Nat), (gW (f_X8_isWord_24 (n + 1) (x + 353) a (bI (false = true)) (iN j)) (mT x iv b q, u) P ↔ P (bI ((false && cE B b w k j) = true)) (mT x iv b q, u)) := by
    intro k j n
    rw [f_X8_isWord_24, gW_ift (bI_f (by decide)), e67, Bool.false_and]
  intro k
  induction k with
  | zero =>
    intro j n y h1 h2 h3
    obtain ⟨n, rfl⟩ : ∃ n', n = n' + 1 := ⟨n - 1, by omega⟩
    cases y with
    | false => exact efal 0 j n
    | true =>
      rw [f_X8_isWord_24, gW_iff (by rw [bI_t rfl]; decide), gW_B, gW_Ck hT.1, gW_B, w_length hT, gW_ift (by rw [iN_le (by omega) (by omega)]; omega), e67, cE, Bool.and_true]
  | succ k ih =>
    intro j n y h1 h2 h3
    obtain ⟨n, rfl⟩ : ∃ n', n = n' + 1 := ⟨n - 1, by omega⟩
    cases y with
    | false => exact efal (k + 1) j n
    | true =>
      have h3 := h3 rfl
      have ht := h.t (show b + j < e by omega)
      rw [f_X8_isWord_24, gW_iff (by rw [bI_t rfl]; decide), gW_B, gW_Ck hT.1, gW_B, w_length hT, gW_iff (by rw [iN_le (by omega) (by omega)]; omega)]
      simp (disch := omega) only [gW_B, rMr5 H, rMi H, mT_12, iN_add, rMa5 H, mT_6, ht, gW_Ck hT.1, w_charAt hT]
      rw [cE, Bool.true_and]
      unfold f_X8_isWord_60
      by_cases hc : B (b + j) = w.getD j 0
      · rw [gW_ift hc]
        have := ih (j + 1) n true (by omega) (by omega) (fun _ => h3)
        rw [bI_t rfl, Bool.true_and] at this
        simp only [iNp1]
        rw [this, decide_eq_true hc, Bool.true_and]
      · rw [gW_iff hc]
        have := ih (j + 1) n false (by omega) (by omega) (fun q => by cases q)
        rw [bI_f (by decide), Bool.false_and, bI_f (by decide)] at this
        simp only [iNp1]
        rw [this, decide_eq_false hc, Bool.false_and, bI_f (by decide)]
theorem w_isWord (h : PM x iv u B e) {i b q : Nat} (hi : i < 42) (hb : b ≤ q) (hq : q ≤ e) {P : Int32 → g_H → Prop} : gW (f_X8_isWord (x + 353) (u.2.2.1 i)) (mT x iv b q, u) P ↔ P (bI (wIs B (g_byt.getD i []) b q = true)) (mT x iv b q, u) := by
  have H := h.M
  have h4 := h.e4
  have hT := (h.att (b := b) (p := q)).tx.a hi
  have hl := hT.2.2.1
  have hg : gN > (g_byt.getD i []).length := by rw [gN_eq]; omega
  unfold f_X8_isWord f_X8_isWord_21
  simp only [gW_B, rMi H, mT_10, mT_12, gW_Ck hT.1, w_length hT, iN_sub hb]
  by_cases hc : q - b = (g_byt.getD i []).length
  · rw [gW_ift (by rw [hc])]
    have := w_isWord_24 h hT (P := P) (g_byt.getD i []).length 0 gN true (by omega) hg (fun _ => by omega)
    rw [bI_t rfl] at this
    rw [show wIs B (g_byt.getD i []) b q = (true && cE B b (g_byt.getD i []) (g_byt.getD i []).length 0) from by unfold wIs; rw [decide_eq_true hc]]
    exact this
  · rw [gW_iff (by rw [iN_eq (by omega) (by omega)]; exact hc)]
    have := w_isWord_24 h hT (P := P) (g_byt.getD i []).length 0 gN false (by omega) hg (fun q => by cases q)
    rw [bI_f (by decide)] at this
    rw [show wIs B (g_byt.getD i []) b q = (false && cE B b (g_byt.getD i []) (g_byt.getD i []).length 0) from by unfold wIs; rw [decide_eq_false hc]]
    exact this
/-- behind letters -/
theorem w_isWordP (h : PM x iv u B e) {i p : Nat} (hi : i < 42) (hp : p ≤ e) {P : Int32 → g_H → Prop} : gW (f_X8_isWord (x + 353) (u.2.2.1 i)) (mT x iv (kB B e p) (kW B e p), u) P ↔ P (bI (tk B e (g_byt.getD i []) p = true)) (mT x iv (kB B e p) (kW B e p), u) := w_isWord h hi (kW_b hp).1 (kW_b hp).2
theorem w_passes (h : PM x iv u B e) {i b p : Nat} (hi : i < 42) (hp : p ≤ e) {P : Int32 → g_H → Prop} : gW (f_X8_passes (x + 353) (u.2.2.1 i)) (mT x iv b p, u) P ↔ P (bI (tk B e (g_byt.getD i []) p = true)) (mT x iv (kB B e p) (kT B e (g_byt.getD i []) p), u) := by
  have H := h.M
  unfold f_X8_passes
  rw [gW_B, rMc H, gW_B, w_mlet h hp, gW_B, rMc H, gW_B, w_isWordP h hi hp]
  by_cases hc : tk B e (g_byt.getD i []) p = true
  · rw [bI_t hc, gW_iff (by decide), gW_ret, kT_t hc]
  · rw [bI_f hc, gW_ift rfl, gW_B, rMi H, mT_12, gW_B, rMp H, mT_p, gW_ret, kT_f hc]
theorem w_msign (h : PM x iv u B e) {k b p : Nat} (hp : p ≤ e) {P : Int32 → g_H → Prop} : gW (f_X8_sign (x + 353) (iN k)) (mT x iv b p, u) P ↔ P (bI (isS B e p k = true)) (mT x iv (kB B e p) (if isS B e p k = true then kB B e p + 1 else kB B e p), u) := by
  have H := h.M
  have b1 := kB_b (B := B) hp
  unfold f_X8_sign
  rw [gW_B, rMc H, gW_B, w_blanks h hp, gW_B, rMc H, gW_B, w_isAt h b1.2]
  have hiff : (kB B e p < e ∧ iN k ≤ B (kB B e p) ∧ B (kB B e p) ≤ iN k) ↔ isS B e p k = true := by
    unfold isS
    rw [Bool.and_eq_true, decide_eq_true_eq, decide_eq_true_eq]
    exact ⟨fun q => ⟨q.1, Int32.le_antisymm q.2.2 q.2.1⟩, fun q => ⟨q.1, by rw [q.2]; exact Int32.le_refl _, by rw [q.2]; exact Int32.le_refl _⟩⟩
  by_cases hc : isS B e p k = true
  · rw [bI_t (hiff.mpr hc), gW_iff (by decide), gW_B, rMi H, mT_10, gW_B, rMp H, iNp1, mT_p, gW_ret, bI_t hc, if_pos hc]
  · rw [bI_f (fun q => hc (hiff.mp q)), gW_ift rfl, gW_ret, bI_f hc, if_neg hc]
theorem w_mnum_65 (h : PM x iv u B e) {f p : Nat} (hfp : f ≤ p) (hp : p ≤ e) {lo hi y : Int32} {P : Int32 → g_H → Prop} (h1 : p ≠ f → p - f ≤ 3 → lo ≤ y → y ≤ hi → P y (mT x iv f p, u)) (h2 : ¬ (p ≠ f ∧ p - f ≤ 3 ∧ lo ≤ y ∧ y ≤ hi) → P (-1) (mT x iv f p, u)) : gW (f_X8_number_65 (x + 353) lo hi y) (mT x iv f p, u) P := by
  have H := h.M
  have h4 := h.e4
  unfold f_X8_number_65 f_X8_number_99 f_X8_number_104
  rw [gW_B, rMi H, mT_10, gW_B, rMi H, mT_12]
  by_cases c1 : p = f
  · rw [gW_ift (by rw [c1]), gW_ret]
    exact h2 (fun q => q.1 c1)
  · rw [gW_iff (by rw [iN_eq (by omega) (by omega)]; exact c1), gW_B, rMi H, mT_10, gW_B, rMi H, mT_12, iN_sub hfp]
    by_cases c2 : 3 < p - f
    · rw [gW_ift (by rw [show (3 : Int32) = iN 3 from rfl, iN_lt (by omega) (by omega)]; exact c2), gW_ret]
      exact h2 (fun q => by omega)
    · rw [gW_iff (by rw [show (3 : Int32) = iN 3 from rfl, iN_lt (by omega) (by omega)]; exact c2)]
      by_cases c3 : y < lo
      · rw [gW_ift c3, gW_ret]
        exact h2 (fun q => Int32.not_lt.mpr q.2.2.1 c3)
      · rw [gW_iff c3]
        by_cases c4 : y ≤ hi
        · rw [gW_ift c4, gW_ret]
          exact h1 c1 (by omega) (Int32.not_lt.mp c3) c4
        · rw [gW_iff c4, gW_ret]
          exact h2 (fun q => c4 q.2.2.2)
theorem w_mnum_6 (h : PM x iv u B e) {f : Nat} {lo hi : Int32} {P : Int32 → g_H → Prop} (h1 : okN B e f lo hi → P (dV B f (kD B e f - f)) (mT x iv f (kD B e f), u)) (h2 : ¬ okN B e f lo hi → P (-1) (mT x iv f (kD B e f), u)) :
    ∀ k p n : Nat, p + k = e → k < n → f ≤ p → (∀ j : Nat, f ≤ j → j < p → isDi (B j) = true) → gW (f_X8_number_6 n (x + 353) lo hi (dV B f (min 3 (p - f)))) (mT x iv f p, u) P := by
  have H := h.M
  have h4 := h.e4
  have off : ∀ p n : Nat, p ≤ e → f ≤ p → (∀ j : Nat, f ≤ j → j < p → isDi (B j) = true) → ¬ (p < e ∧ 48 ≤ B p ∧ B p ≤ 57) → gW (f_X8_number_6 (n + 1) (x + 353) lo hi (dV B f (min 3 (p - f)))) (mT x iv f p, u) P := by
    intro p n a1 a2 a3 hc
    have ek : kD B e f = p := (sk_to a2 a1 a3).symm.trans (sk_off (fun q => by
        unfold isDi at q
        rw [decide_eq_true_eq] at q
        exact hc q))
    unfold okN at h1 h2
    rw [ek] at h1 h2
    rw [f_X8_number_6, gW_B, rMc H, gW_B, w_isAt h a1, bI_f hc, gW_ift rfl]
    refine w_mnum_65 h a2 a1 (fun c1 c2 c3 c4 => ?_) (fun c => h2 (fun q => c ?_))
    · rw [show min 3 (p - f) = p - f by omega] at c3 c4 ⊢
      exact h1 ⟨c1, c2, c3, c4⟩
    · rw [show min 3 (p - f) = p - f by have := q.2.1; omega]
      exact q
  intro k
  induction k with
  | zero =>
    intro p n q1 q2 q3 q4
    obtain ⟨n, rfl⟩ : ∃ n', n = n' + 1 := ⟨n - 1, by omega⟩
    exact off p n (by omega) q3 q4 (fun q => by omega)
  | succ k ih =>
    intro p n q1 q2 q3 q4
    obtain ⟨n, rfl⟩ : ∃ n', n = n' + 1 := ⟨n - 1, by omega⟩
    by_cases hc : p < e ∧ 48 ≤ B p ∧ B p ≤ 57
    · have hd : isDi (B p) = true := by unfold isDi; rw [decide_eq_true_eq]; exact hc.2
      have q4' : ∀ j : Nat, f ≤ j → j < p + 1 → isDi (B j) = true := fun j a b => by
        by_cases ej : j = p
        · rw [ej]; exact hd
        · exact q4 j a (by omega)
      have ht := h.t hc.1
      have hi' := ih (p + 1) n (by omega) (by omega) (by omega) q4'
      rw [f_X8_number_6, gW_B, rMc H, gW_B, w_isAt h (by omega), bI_t hc, gW_iff (by decide), gW_B, rMi H, mT_10, gW_B, rMi H, mT_12, iN_sub q3]
      unfold f_X8_number_51
      by_cases h3 : 3 ≤ p - f
      · rw [gW_ift (by rw [show (3 : Int32) = iN 3 from rfl, iN_le (by omega) (by omega)]; exact h3), gW_B, rMi H, mT_10, gW_B, rMp H, iNp1, mT_p]
        rw [show min 3 (p + 1 - f) = min 3 (p - f) by omega] at hi'
        exact hi'
      · rw [gW_iff (by rw [show (3 : Int32) = iN 3 from rfl, iN_le (by omega) (by omega)]; exact h3)]
        simp (disch := omega) only [gW_B, rMr5 H, rMi H, mT_10, rMa5 H, mT_6, ht, rMp H, iNp1, mT_p]
        rw [show min 3 (p + 1 - f) = min 3 (p - f) + 1 by omega, dV, show f + min 3 (p - f) = p by omega] at hi'
        exact hi'
    · exact off p n (by omega) q3 q4 hc
theorem w_mnum (h : PM x iv u B e) {b p : Nat} (hp : p ≤ e) {lo hi : Int32} {P : Int32 → g_H → Prop} (h1 : ∀ y q, pNum B e p lo hi = .inl (y, q) → P y (mT x iv (kB B e p) q, u)) (h2 : ∀ f, pNum B e p lo hi = .inr f → ∀ q, q ≤ e → P (-1) (mT x iv f q, u)) : gW (f_X8_number (x + 353) lo hi) (mT x iv b p, u) P := by
  have H := h.M
  have h4 := h.e4
  have b1 := kB_b (B := B) hp
  unfold f_X8_number
  rw [gW_B, rMc H, gW_B, w_blanks h hp]
  have := w_mnum_6 (P := P) (f := kB B e p) (lo := lo) (hi := hi) h (fun z => h1 _ _ (pNum_t z)) (fun z => h2 _ (pNum_f z) _ (kD_s (B := B) b1.2).2.1) (e - kB B e p) (kB B e p) gN (by omega) (by rw [gN_eq]; omega) (Nat.le_refl _) (fun j a b => by omega)
  rw [Nat.sub_self] at this
  exact this
theorem w_mafter (h : PM x iv u B e) {i b p : Nat} (hi' : i < 42) (hp : p ≤ e) {lo hi : Int32} {P : Int32 → g_H → Prop} (h1 : ∀ y q, pAft B e (g_byt.getD i []) p lo hi = .inl (y, q) → ∀ c, P y (mT x iv c q, u)) (h2 : ∀ f, pAft B e (g_byt.getD i []) p lo hi = .inr f → ∀ q, q ≤ e → P (-1) (mT x iv f q, u)) : gW (f_X8_after (x + 353) (u.2.2.1 i) lo hi) (mT x iv b p, u) P := by
  have H := h.M
  unfold f_X8_after f_X8_after_22
  rw [gW_B, rMc H, gW_B, w_mlet h hp, gW_B, rMc H, gW_B, w_isWordP h hi' hp]
  unfold pAft at h1 h2
  by_cases ht : tk B e (g_byt.getD i []) p = true
  · rw [if_pos ht] at h1 h2
    rw [bI_t ht, gW_iff (by decide), gW_B, rMc H, gW_B]
    refine w_mnum h (kW_b hp).2 (fun y q z => ?_) (fun f z q hq => ?_)
    · rw [gW_ret]; exact h1 y q z _
    · rw [gW_ret]; exact h2 f z q hq
  · rw [if_neg ht] at h1 h2
    rw [bI_f ht, gW_ift rfl, gW_ret]
    exact h2 _ rfl _ (kW_b hp).2
theorem w_deeds_28 (h : PM x iv u B e) {f g : Nat} (hg : g ≤ e) (hle : ∀ j : Nat, f ≤ j → j < g → isLe (B j) = true) {P : Int32 → g_H → Prop} (h1 : ∀ s, lB B f (g - f) = some s → P s (mT x iv f g, u)) (h2 : lB B f (g - f) = none → P (-1) (mT x iv f g, u)) :
    ∀ (k p n : Nat) (s : Int32), p + k = g → k < n → f ≤ p → lB B f (p - f) = some s → gW (f_X8_deedsTold_28 n (x + 353) s 1 (iN p)) (mT x iv f g, u) P := by
  have H := h.M
  have h4 := h.e4
  intro k
  induction k with
  | zero =>
    intro p n s q1 q2 q3 q4
    obtain ⟨n, rfl⟩ : ∃ n', n = n' + 1 := ⟨n - 1, by omega⟩
    have hp : p = g := by omega
    subst hp
    rw [f_X8_deedsTold_28, gW_B, rMi H, mT_10, gW_ift (Int32.le_refl _)]
    unfold f_X8_deedsTold_97 f_X8_deedsTold_106
    rw [gW_iff (by decide), gW_ret]
    exact h1 s q4
  | succ k ih =>
    intro p n s q1 q2 q3 q4
    obtain ⟨n, rfl⟩ : ∃ n', n = n' + 1 := ⟨n - 1, by omega⟩
    have ht := h.t (show p < e by omega)
    have hd := hle p q3 (by omega)
    unfold isLe at hd
    rw [decide_eq_true_eq] at hd
    obtain ⟨d, e1, e2⟩ := i_get2 (n := 122) (by decide) ⟨Int32.le_trans (by decide : (0 : Int32) ≤ 97) hd.1, hd.2⟩
    have e3 : 97 ≤ d := by
      have := hd.1
      rw [e2, show (97 : Int32) = iN 97 from rfl, iN_le (by omega) (by omega)] at this
      exact this
    have e4 : B p - 97 = iN (d - 97) := by rw [e2, show (97 : Int32) = iN 97 from rfl, iN_sub e3]
    rw [f_X8_deedsTold_28, gW_B, rMi H, mT_10, gW_iff (by rw [iN_le (by omega) (by omega)]; omega), gW_iff (by decide)]
    simp (disch := omega) only [gW_B, rMr5 H, rMa5 H, mT_6, ht]
    have hbad : (6 ≤ B p - 97 ∨ (s >>> ((B p - 97) &&& 31)) &&& 1 = 1) → gW (f_X8_deedsTold_74 (f_X8_deedsTold_28 n) (x + 353) s (iN p) (B p - 97)) (mT x iv f g, u) P := by
      intro z
      have hn : lB B f (p - f + 1) = none := by
        rw [lB, q4]
        show (if _ then _ else _) = _
        rw [show f + (p - f) = p by omega, if_pos z]
      have hn2 := lB_none hn (g - (p + 1))
      rw [show p - f + 1 + (g - (p + 1)) = g - f by omega] at hn2
      obtain ⟨n, rfl⟩ : ∃ n', n = n' + 1 := ⟨n - 1, by omega⟩
      unfold f_X8_deedsTold_74 f_X8_deedsTold_75 f_X8_deedsTold_89
      rw [gW_ift rfl]
      simp only [iNp1]
      rw [f_X8_deedsTold_28, gW_B, rMi H, mT_10]
      unfold f_X8_deedsTold_97 f_X8_deedsTold_106
      by_cases hq : iN g ≤ iN (p + 1)
      · rw [gW_ift hq, gW_ift rfl, gW_ret]; exact h2 hn2
      · rw [gW_iff hq, gW_ift rfl, gW_ift rfl, gW_ret]; exact h2 hn2
    by_cases h6 : 6 ≤ B p - 97
    · have hin : ¬ (0 ≤ B p - 97 ∧ B p - 97 ≤ 5) := by
        rw [e4, show (6 : Int32) = iN 6 from rfl, iN_le (by omega) (by omega)] at h6
        rw [e4, show (5 : Int32) = iN 5 from rfl, iN_le (by omega) (by omega)]
        omega
      rw [m_in_f hin, gW_ift rfl]
      exact hbad (Or.inl h6)
    · have hin : 0 ≤ B p - 97 ∧ B p - 97 ≤ 5 := by
        rw [e4, show (6 : Int32) = iN 6 from rfl, iN_le (by omega) (by omega)] at h6
        rw [e4, show (5 : Int32) = iN 5 from rfl, show (0 : Int32) = iN 0 from rfl, iN_le (by omega) (by omega), iN_le (by omega) (by omega)]
        omega
      rw [m_in_t hin, gW_iff (by decide), gW_B, w_has]
      by_cases hb : (s >>> ((B p - 97) &&& 31)) &&& 1 = 1
      · rw [bI_t hb, gW_iff (by decide)]
        exact hbad (Or.inr hb)
      · rw [bI_f hb, gW_ift rfl]
        unfold f_X8_deedsTold_75 f_X8_deedsTold_89
        rw [gW_iff (by decide)]
        simp only [iNp1]
        refine ih (p + 1) n _ (by omega) (by omega) (by omega) ?_
        rw [show p + 1 - f = p - f + 1 by omega, lB, q4]
        show (if _ then _ else _) = _
        rw [show f + (p - f) = p by omega, if_neg (fun z => z.elim h6 hb)]
theorem w_deeds (h : PM x iv u B e) {b p : Nat} (hp : p ≤ e) {P : Int32 → g_H → Prop} (h1 : ∀ s q, pLet B e p = .inl (s, q) → P s (mT x iv (kB B e p) q, u)) (h2 : ∀ f, pLet B e p = .inr f → ∀ q, q ≤ e → P (-1) (mT x iv f q, u)) : gW (f_X8_deedsTold (x + 353)) (mT x iv b p, u) P := by
  have H := h.M
  have h4 := h.e4
  have b1 := kB_b (B := B) hp
  have b2 := kW_b (B := B) hp
  unfold pLet at h1 h2
  unfold f_X8_deedsTold f_X8_deedsTold_22
  rw [gW_B, rMc H, gW_B, w_mlet h hp, gW_B, rMi H, mT_10, gW_B, rMi H, mT_12]
  by_cases hc : kW B e p = kB B e p
  · rw [if_pos hc] at h1 h2
    rw [gW_ift (by rw [hc]; exact Int32.le_refl _), gW_B, rMi H, mT_12]
    obtain ⟨n, hn⟩ : ∃ n, gN = n + 1 := ⟨4095, gN_eq⟩
    rw [hn, f_X8_deedsTold_28, gW_B, rMi H, mT_10, gW_ift (by rw [hc]; exact Int32.le_refl _)]
    unfold f_X8_deedsTold_97 f_X8_deedsTold_106
    rw [gW_ift rfl, gW_ret]
    exact h2 _ rfl _ b2.2
  · rw [if_neg hc] at h1 h2
    rw [gW_iff (by rw [iN_le (by omega) (by omega)]; omega), gW_B, rMi H, mT_12]
    refine w_deeds_28 h b2.2 (fun j a b => (kW_s (B := B) hp).2.2 j a b) (fun s hs => ?_) (fun hs => ?_) (kW B e p - kB B e p) (kB B e p) gN 0 (by omega) (by rw [gN_eq]; omega) (Nat.le_refl _) ?_
    · rw [hs] at h1
      exact h1 s _ rfl
    · rw [hs] at h2
      exact h2 _ rfl _ b2.2
    · rw [Nat.sub_self]; rfl
end ML
