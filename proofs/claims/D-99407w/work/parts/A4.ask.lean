/-! OPS: ask -/
section ASK
variable {iv jv kv lv : gV} {u v : gU} {x z b n t : Nat} {V : Nat → Int32} {pn on : Nat} {L : gLw}
/-- the most of some numbers -/
def mxF (c : Nat → Nat) : Nat → Nat → Nat → Nat
  | 0, _, m => m
  | k + 1, i, m => mxF c k (i + 1) (max m (c i))
theorem mxF_s {c : Nat → Nat} : ∀ (k i m : Nat), mxF c (k + 1) i m = max (mxF c k i m) (c (i + k)) := by
  intro k
  induction k with
  | zero => intro i m; rw [mxF, mxF, mxF, Nat.add_zero]
  | succ k ih =>
    intro i m
    rw [mxF, ih (i + 1), mxF, show i + 1 + k = i + (k + 1) by omega]
theorem mxF_c {c d : Nat → Nat} : ∀ (k i m : Nat), (∀ j : Nat, i ≤ j → j < i + k → c j = d j) → mxF c k i m = mxF d k i m := by
  intro k
  induction k with
  | zero => exact fun _ _ _ => rfl
  | succ k ih => intro i m h; rw [mxF, mxF, h i (Nat.le_refl _) (by omega), ih (i + 1) _ (fun j a b => h j (by omega) (by omega))]
theorem mxF_b {c : Nat → Nat} {q : Nat} : ∀ (k i m : Nat), m ≤ q → (∀ j : Nat, c j ≤ q) → mxF c k i m ≤ q := by
  intro k
  induction k with
  | zero => exact fun _ _ h _ => h
  | succ k ih => intro i m h h2; rw [mxF]; exact ih (i + 1) _ (Nat.max_le.mpr ⟨h, h2 i⟩) h2
theorem nS_b {c : Nat → Nat} : ∀ (k i : Nat), (∀ j : Nat, c j ≤ 1) → nS c k i ≤ k := by
  intro k
  induction k with
  | zero => exact fun _ _ => Nat.le_refl _
  | succ k ih => intro i h; rw [nS]; have := h i; have := ih (i + 1) h; omega
theorem mX_N {a c : Nat} (ha : a < 1000) (hc : c < 1000) : mX (iN a) (iN c) = iN (max a c) := by
  unfold mX
  by_cases h : a < c
  · rw [if_pos (by rw [iN_lt (by omega) (by omega)]; exact h), Nat.max_eq_right (by omega)]
  · rw [if_neg (by rw [iN_lt (by omega) (by omega)]; exact h), Nat.max_eq_left (by omega)]
/-- those that fit, by rank -/
theorem re_sum {fit : Nat → Bool} {h : Nat → Nat} : ∀ i : Nat, nS h (fiN fit i) 0 = nS (fun e => if fit e = true then h (fiN fit e) else 0) i 0 := by
  intro i
  induction i with
  | zero => rfl
  | succ i ih =>
    rw [nS_snoc, ← ih, fiN_s, Nat.zero_add]
    by_cases c : fit i = true
    · rw [if_pos c, if_pos c, nS_snoc, Nat.zero_add]
    · rw [if_neg c, if_neg c, Nat.add_zero, Nat.add_zero]
theorem re_max {fit : Nat → Bool} {h : Nat → Nat} : ∀ i : Nat, mxF h (fiN fit i) 0 0 = mxF (fun e => if fit e = true then h (fiN fit e) else 0) i 0 0 := by
  intro i
  induction i with
  | zero => rfl
  | succ i ih =>
    rw [mxF_s, ← ih, fiN_s, Nat.zero_add]
    by_cases c : fit i = true
    · rw [if_pos c, if_pos c, mxF_s, Nat.zero_add]
    · rw [if_neg c, if_neg c, Nat.add_zero, Nat.max_eq_left (Nat.zero_le _)]
theorem fiN_mono {fit : Nat → Bool} {i j : Nat} (h : i ≤ j) : fiN fit i ≤ fiN fit j := by
  obtain ⟨d, rfl⟩ : ∃ d, j = i + d := ⟨j - i, by omega⟩
  clear h
  induction d with
  | zero => exact Nat.le_refl _
  | succ d ih => rw [← Nat.add_assoc, fiN_s]; omega
theorem fiN_lt {fit : Nat → Bool} {i j : Nat} (h : i < j) (hf : fit i = true) : fiN fit i < fiN fit j := by
  have := fiN_mono (fit := fit) (show i + 1 ≤ j from h)
  rw [fiN_s, if_pos hf] at this
  omega
/-- how many fit with the same fright in a slot -/
def paC (fit : Nat → Bool) (g : Nat → Nat → Int32) (s e : Nat) : Nat := nS (fun o => if fit e = true ∧ fit o = true ∧ g o s = g e s then 1 else 0) 64 0
def paO (fit : Nat → Bool) (g : Nat → Nat → Int32) (s : Nat) : Nat := mxF (paC fit g s) 64 0 0
theorem paC_le {fit : Nat → Bool} {g : Nat → Nat → Int32} {s e : Nat} : paC fit g s e ≤ 64 := nS_b 64 0 (fun j => by
  show (if _ then 1 else 0) ≤ 1
  split <;> omega)
theorem c_part_16 (HX : XS u x) {fit : Nat → Bool} {g : Nat → Nat → Int32} (hf : feI x 64 fit g iv) {s e : Nat} (hs : s < 10) (he : e < 64) {y : Int32} {k4 : Nat → Int32 → Int32 → Int32 → gM Int32} {P : Int32 → g_H → Prop} : ∀ (k o N m : Nat), o + k = 64 → k < N → (gW (f_X1_part_16 k4 N x (iN s) y (iN e) (iN m) (iN o)) (iv, u) P ↔ gW (f_X1_part_84 k4 x (iN s) y (iN e) (iN (m + nS (fun o => if fit e = true ∧ fit o = true ∧ g o s = g e s then 1 else 0) k o))) (iv, u) P) := by
  intro k
  induction k with
  | zero =>
    intro o N m h1 h2
    obtain ⟨N, rfl⟩ : ∃ N', N = N' + 1 := ⟨N - 1, by omega⟩
    have : o = 64 := by omega
    subst this
    rw [f_X1_part_16, gW_ift (by decide)]
    rfl
  | succ k ih =>
    intro o N m h1 h2
    obtain ⟨N, rfl⟩ : ∃ N', N = N' + 1 := ⟨N - 1, by omega⟩
    have eo : (10 : Int32) * iN o + iN s = iN (10 * o + s) := by rw [show (10 : Int32) = iN 10 from rfl, iN_mul, iN_add]
    have ee : (10 : Int32) * iN e + iN s = iN (10 * e + s) := by rw [show (10 : Int32) = iN 10 from rfl, iN_mul, iN_add]
    rw [f_X1_part_16, gW_iff (by rw [show (64 : Int32) = iN 64 from rfl, iN_le (by omega) (by omega)]; omega), gW_B, rXr10 HX, gW_B, rXa100 HX he, (hf e he).1, nS, ← Nat.add_assoc]
    unfold f_X1_part_74 f_X1_part_75
    have go : ∀ w : Nat, w = (if fit e = true ∧ fit o = true ∧ g o s = g e s then 1 else 0) → (gW (f_X1_part_16 k4 N x (iN s) y (iN e) (iN m + iN w) (iN o + 1)) (iv, u) P ↔ gW (f_X1_part_84 k4 x (iN s) y (iN e) (iN (m + (if fit e = true ∧ fit o = true ∧ g o s = g e s then 1 else 0) + nS (fun o => if fit e = true ∧ fit o = true ∧ g o s = g e s then 1 else 0) k (o + 1)))) (iv, u) P) := by
      intro w hw
      rw [← hw, iN_add, iNp1]
      exact ih (o + 1) N _ (by omega) (by omega)
    by_cases c1 : fit e = true
    · rw [bI_t c1, gW_iff (by decide), gW_B, rXr10 HX, gW_B, rXa100 HX (by omega), (hf o (by omega)).1]
      by_cases c2 : fit o = true
      · rw [bI_t c2, gW_iff (by decide), gW_B, rXr9 HX, gW_B, eo, rXa99 HX (by omega), (hf o (by omega)).2 s hs, gW_B, rXr9 HX, gW_B, ee, rXa99 HX (by omega), (hf e he).2 s hs]
        by_cases c3 : g o s = g e s
        · rw [gW_ift c3]
          exact go 1 (by rw [if_pos ⟨c1, c2, c3⟩])
        · rw [gW_iff c3]
          exact go 0 (by rw [if_neg (fun q => c3 q.2.2)])
      · rw [bI_f c2, gW_ift rfl]
        exact go 0 (by rw [if_neg (fun q => c2 q.2.1)])
    · rw [bI_f c1, gW_ift rfl]
      exact go 0 (by rw [if_neg (fun q => c1 q.1)])
theorem c_part_4 (HX : XS u x) {fit : Nat → Bool} {g : Nat → Nat → Int32} (hf : feI x 64 fit g iv) {s : Nat} (hs : s < 10) {P : Int32 → g_H → Prop} : ∀ (k e N m : Nat), m ≤ 64 → e + k = 64 → k < N → (gW (f_X1_part_4 N x (iN s) (iN m) (iN e)) (iv, u) P ↔ P (iN (mxF (paC fit g s) k e m)) (iv, u)) := by
  intro k
  induction k with
  | zero =>
    intro e N m hm h1 h2
    obtain ⟨N, rfl⟩ : ∃ N', N = N' + 1 := ⟨N - 1, by omega⟩
    have : e = 64 := by omega
    subst this
    unfold f_X1_part_4 f_X1_part_97
    rw [gW_ift (by decide), gW_ret]
    rfl
  | succ k ih =>
    intro e N m hm h1 h2
    obtain ⟨N, rfl⟩ : ∃ N', N = N' + 1 := ⟨N - 1, by omega⟩
    rw [f_X1_part_4, gW_iff (by rw [show (64 : Int32) = iN 64 from rfl, iN_le (by omega) (by omega)]; omega)]
    show gW (f_X1_part_16 (f_X1_part_4 N) gN x (iN s) (iN m) (iN e) (iN 0) (iN 0)) _ _ ↔ _
    rw [c_part_16 HX hf hs (show e < 64 by omega) 64 0 gN 0 (by omega) (by rw [gN_eq]; omega), Nat.zero_add]
    show gW (f_X1_part_84 (f_X1_part_4 N) x (iN s) (iN m) (iN e) (iN (paC fit g s e))) _ _ ↔ _
    unfold f_X1_part_84
    have hp := paC_le (fit := fit) (g := g) (s := s) (e := e)
    rw [gW_B, w_max, mX_N (by omega) (by omega), iNp1, ih (e + 1) N _ (Nat.max_le.mpr ⟨hm, hp⟩) (by omega) (by omega), mxF]
theorem m_gp_17 (H : MS u (x + 353)) {F : Nat → Int32} (hF : ∀ i : Nat, i < 640 → iv (x + 368) i = F i) {s e q : Nat} (hs : s < 10) (he : e < q) (hq : q ≤ 64) {y : Int32} {k5 : Nat → Int32 → Int32 → Int32 → Int32 → gM Int32} {P : Int32 → g_H → Prop} : ∀ (k o N m : Nat), o + k = q → k < N → (gW (f_X8_greatestPart_17 k5 N (x + 353) (iN q) (iN s) y (iN e) (iN m) (iN o)) (iv, u) P ↔ gW (f_X8_greatestPart_66 k5 (x + 353) (iN q) (iN s) y (iN e) (iN (m + nS (fun o => if F (10 * o + s) = F (10 * e + s) then 1 else 0) k o))) (iv, u) P) := by
  intro k
  induction k with
  | zero =>
    intro o N m h1 h2
    obtain ⟨N, rfl⟩ : ∃ N', N = N' + 1 := ⟨N - 1, by omega⟩
    rw [f_X8_greatestPart_17, gW_ift (by rw [iN_le (by omega) (by omega)]; omega)]
    rfl
  | succ k ih =>
    intro o N m h1 h2
    obtain ⟨N, rfl⟩ : ∃ N', N = N' + 1 := ⟨N - 1, by omega⟩
    have eo : (10 : Int32) * iN o + iN s = iN (10 * o + s) := by rw [show (10 : Int32) = iN 10 from rfl, iN_mul, iN_add]
    have ee : (10 : Int32) * iN e + iN s = iN (10 * e + s) := by rw [show (10 : Int32) = iN 10 from rfl, iN_mul, iN_add]
    rw [f_X8_greatestPart_17, gW_iff (by rw [iN_le (by omega) (by omega)]; omega), gW_B, rMr14 H, gW_B, eo, rMa14 H (by omega), show iv (x + 353 + 15) (10 * o + s) = F (10 * o + s) from hF _ (by omega), gW_B, rMr14 H, gW_B, ee, rMa14 H (by omega), show iv (x + 353 + 15) (10 * e + s) = F (10 * e + s) from hF _ (by omega), nS, ← Nat.add_assoc]
    unfold f_X8_greatestPart_57
    by_cases c3 : F (10 * o + s) = F (10 * e + s)
    · rw [gW_ift c3, if_pos c3, iNp1, iNp1]
      exact ih (o + 1) N _ (by omega) (by omega)
    · rw [gW_iff c3, if_neg c3, show iN m + 0 = iN (m + 0) from iN_add m 0, iNp1]
      exact ih (o + 1) N _ (by omega) (by omega)
def gpC (F : Nat → Int32) (q s e : Nat) : Nat := nS (fun o => if F (10 * o + s) = F (10 * e + s) then 1 else 0) q 0
theorem gpC_le {F : Nat → Int32} {q s e : Nat} : gpC F q s e ≤ q := nS_b q 0 (fun j => by
  show (if _ then 1 else 0) ≤ 1
  split <;> omega)
theorem m_gp_5 (H : MS u (x + 353)) {F : Nat → Int32} (hF : ∀ i : Nat, i < 640 → iv (x + 368) i = F i) {s q : Nat} (hs : s < 10) (hq : q ≤ 64) {P : Int32 → g_H → Prop} : ∀ (k e N m : Nat), m ≤ 64 → e + k = q → k < N → (gW (f_X8_greatestPart_5 N (x + 353) (iN q) (iN s) (iN m) (iN e)) (iv, u) P ↔ P (iN (mxF (gpC F q s) k e m)) (iv, u)) := by
  intro k
  induction k with
  | zero =>
    intro e N m hm h1 h2
    obtain ⟨N, rfl⟩ : ∃ N', N = N' + 1 := ⟨N - 1, by omega⟩
    unfold f_X8_greatestPart_5 f_X8_greatestPart_79
    rw [gW_ift (by rw [iN_le (by omega) (by omega)]; omega), gW_ret]
    rfl
  | succ k ih =>
    intro e N m hm h1 h2
    obtain ⟨N, rfl⟩ : ∃ N', N = N' + 1 := ⟨N - 1, by omega⟩
    rw [f_X8_greatestPart_5, gW_iff (by rw [iN_le (by omega) (by omega)]; omega)]
    show gW (f_X8_greatestPart_17 (f_X8_greatestPart_5 N) gN (x + 353) (iN q) (iN s) (iN m) (iN e) (iN 0) (iN 0)) _ _ ↔ _
    rw [m_gp_17 H hF hs (show e < q by omega) hq q 0 gN 0 (by omega) (by rw [gN_eq]; omega), Nat.zero_add]
    show gW (f_X8_greatestPart_66 (f_X8_greatestPart_5 N) (x + 353) (iN q) (iN s) (iN m) (iN e) (iN (gpC F q s e))) _ _ ↔ _
    unfold f_X8_greatestPart_66
    have hp := gpC_le (F := F) (q := q) (s := s) (e := e)
    rw [gW_B, w_max, mX_N (by omega) (by omega), iNp1, ih (e + 1) N _ (Nat.max_le.mpr ⟨hm, by omega⟩) (by omega) (by omega), mxF]
/-- the model's list of those that fit says the same -/
theorem gp_pa {fit : Nat → Bool} {g : Nat → Nat → Int32} {F : Nat → Int32} (hF : ∀ e : Nat, e < 64 → fit e = true → ∀ s : Nat, s < 10 → F (10 * fiN fit e + s) = g e s) {s : Nat} (hs : s < 10) : mxF (gpC F (fiN fit 64) s) (fiN fit 64) 0 0 = paO fit g s := by
  unfold paO
  rw [re_max]
  refine mxF_c 64 0 0 (fun e _ he => ?_)
  unfold paC
  by_cases c : fit e = true
  · rw [if_pos c]
    unfold gpC
    rw [re_sum]
    refine nS_c 64 0 (fun o _ ho => ?_)
    show (if fit o = true then (if F (10 * fiN fit o + s) = F (10 * fiN fit e + s) then 1 else 0) else 0) = (if fit e = true ∧ fit o = true ∧ g o s = g e s then 1 else 0)
    rw [hF e (by omega) c s hs]
    by_cases c2 : fit o = true
    · rw [if_pos c2, hF o (by omega) c2 s hs]
      by_cases c3 : g o s = g e s
      · rw [if_pos c3, if_pos ⟨c, c2, c3⟩]
      · rw [if_neg c3, if_neg (fun q => c3 q.2.2)]
    · rw [if_neg c2, if_neg (fun q => c2 q.2.1)]
  · rw [if_neg c]
    have z : ∀ k i : Nat, nS (fun o => if fit e = true ∧ fit o = true ∧ g o s = g e s then 1 else 0) k i = 0 := by
      intro k
      induction k with
      | zero => exact fun _ => rfl
      | succ k ih => intro i; rw [nS, ih, if_neg (fun q => c q.1)]
    exact (z 64 0).symm
def asF (V : Nat → Int32) (pn : Nat) (c : Nat → Int32) : Nat → Nat → Int32 → Int32 → Int32
  | 0, _, f, _ => f
  | k + 1, s, f, l => if (if sIn V pn (iN s) = -1 then 100000000 else c s) < l then asF V pn c k (s + 1) (iN s) (if sIn V pn (iN s) = -1 then 100000000 else c s) else asF V pn c k (s + 1) f l
theorem c_ask_16 (hC : CI x iv u V pn on L) {fit : Nat → Bool} {g : Nat → Nat → Int32} (hf : feI x 64 fit g iv) {q : Nat} (hq : 1 < q) (hq2 : q ≤ 64) {P : Int32 ⊕ gE → g_H → Prop} : ∀ (k s N : Nat) (f l : Int32), s + k = 10 → k < N → P (.inl (asF V pn (fun s => iN (paO fit g s)) k s f l)) (iv, u) → gW (f_X1_ask_16 N x (iN q) f l (iN s)) (iv, u) P := by
  have HX := hC.X
  intro k
  induction k with
  | zero =>
    intro s N f l h1 h2 hP
    obtain ⟨N, rfl⟩ : ∃ N', N = N' + 1 := ⟨N - 1, by omega⟩
    have : s = 10 := by omega
    subst this
    unfold f_X1_ask_16 f_X1_ask_79
    rw [gW_ift (by decide), gW_ret]
    exact hP
  | succ k ih =>
    intro s N f l h1 h2 hP
    obtain ⟨N, rfl⟩ : ∃ N', N = N' + 1 := ⟨N - 1, by omega⟩
    rw [f_X1_ask_16, gW_iff (by rw [show (10 : Int32) = iN 10 from rfl, iN_le (by omega) (by omega)]; omega), gW_iff (by rw [show (1 : Int32) = iN 1 from rfl, iN_le (by omega) (by omega)]; omega), gW_B, rXr1 HX, gW_B, rSr3 HX.nw, gW_B, rSa3 HX.nw (by omega), hC.s (by omega)]
    rw [asF] at hP
    have key : ∀ y : Int32, y = (if sIn V pn (iN s) = -1 then 100000000 else iN (paO fit g s)) → gW (f_X1_ask_54 (f_X1_ask_16 N) x (iN q) f l (iN s) y) (iv, u) P := by
      intro y hy
      unfold f_X1_ask_54 f_X1_ask_73
      rw [← hy] at hP
      by_cases e : y < l
      · rw [if_pos e] at hP
        rw [gW_ift e, iNp1]
        exact ih (s + 1) N _ _ (by omega) (by omega) hP
      · rw [if_neg e] at hP
        rw [gW_iff e, iNp1]
        exact ih (s + 1) N _ _ (by omega) (by omega) hP
    by_cases c : sIn V pn (iN s) = -1
    · rw [gW_ift c]
      exact key _ (by rw [if_pos c])
    · rw [gW_iff c, gW_B, rXc HX, gW_B]
      unfold f_X1_part
      show gW (f_X1_part_4 gN x (iN s) (iN 0) (iN 0)) _ _
      rw [c_part_4 HX hf (show s < 10 by omega) 64 0 gN 0 (by omega) (by omega) (by rw [gN_eq]; omega)]
      exact key _ (by rw [if_neg c]; rfl)
theorem m_ask_103 (hM : MI x iv u V pn on L) {F : Nat → Int32} (hF : ∀ i : Nat, i < 640 → iv (x + 368) i = F i) {q : Nat} (hq : 1 < q) (hq2 : q ≤ 64) {P : Int32 → g_H → Prop} : ∀ (k s N : Nat) (f l : Int32), s + k = 10 → k < N → P (asF V pn (fun s => iN (mxF (gpC F q s) q 0 0)) k s f l) (iv, u) → gW (f_X8_ask_103 N (x + 353) (iN q) f l (iN s)) (iv, u) P := by
  have H := hM.M
  have h8 := hM.p8
  intro k
  induction k with
  | zero =>
    intro s N f l h1 h2 hP
    obtain ⟨N, rfl⟩ : ∃ N', N = N' + 1 := ⟨N - 1, by omega⟩
    have : s = 10 := by omega
    subst this
    unfold f_X8_ask_103 f_X8_ask_169
    rw [gW_ift (by decide), gW_ret]
    exact hP
  | succ k ih =>
    intro s N f l h1 h2 hP
    obtain ⟨N, rfl⟩ : ∃ N', N = N' + 1 := ⟨N - 1, by omega⟩
    rw [f_X8_ask_103, gW_iff (by rw [show (10 : Int32) = iN 10 from rfl, iN_le (by omega) (by omega)]; omega), gW_iff (by rw [show (1 : Int32) = iN 1 from rfl, iN_le (by omega) (by omega)]; omega), gW_B, rMc H, gW_B, w_propIn H hM.pN h8, hM.vE]
    rw [asF] at hP
    have key : ∀ y : Int32, y = (if sIn V pn (iN s) = -1 then 100000000 else iN (mxF (gpC F q s) q 0 0)) → gW (f_X8_ask_138 (f_X8_ask_103 N) (x + 353) (iN q) f l (iN s) y) (iv, u) P := by
      intro y hy
      unfold f_X8_ask_138 f_X8_ask_153
      rw [← hy] at hP
      by_cases e : y < l
      · rw [if_pos e] at hP
        rw [gW_iff (Int32.not_le.mpr e), gW_B, w_min, show mN l y = y from if_pos e, iNp1]
        exact ih (s + 1) N _ _ (by omega) (by omega) hP
      · rw [if_neg e] at hP
        rw [gW_ift (Int32.not_lt.mp e), gW_B, w_min, show mN l y = l from if_neg e, iNp1]
        exact ih (s + 1) N _ _ (by omega) (by omega) hP
    by_cases c : sIn V pn (iN s) = -1
    · rw [gW_ift c]
      exact key _ (by rw [if_pos c])
    · rw [gW_iff c, gW_B, rMc H, gW_B]
      unfold f_X8_greatestPart
      show gW (f_X8_greatestPart_5 gN (x + 353) (iN q) (iN s) (iN 0) (iN 0)) _ _
      rw [m_gp_5 H hF (show s < 10 by omega) hq2 q 0 gN 0 (by omega) (by omega) (by rw [gN_eq]; omega)]
      exact key _ (by rw [if_neg c])
theorem m_ask_52 (H : MS u (x + 353)) {q e : Nat} (hq : q < 64) {a : Int32} {G : Nat → Int32} {k31 : Nat → Int32 → Int32 → Int32 → gM Int32} {P : Int32 → g_H → Prop} : ∀ (k s N : Nat) (jv : gV), s + k = 10 → k < N → (∀ i : Nat, i < 10 → jv (x + 363) i = G i) → (∀ i : Nat, i < s → jv (x + 368) (10 * q + i) = G i) → (∀ kv : gV, (∀ c : Nat, c ≠ x + 368 → kv c = jv c) → (∀ i : Nat, (i < 10 * q ∨ 10 * q + 10 ≤ i) → kv (x + 368) i = jv (x + 368) i) → (∀ i : Nat, i < 10 → kv (x + 368) (10 * q + i) = G i) → gW (f_X8_ask_84 k31 (x + 353) a (iN q) (iN e)) (kv, u) P) → gW (f_X8_ask_52 k31 N (x + 353) a (iN q) (iN e) (iN s)) (jv, u) P := by
  intro k
  induction k with
  | zero =>
    intro s N jv h1 h2 hG hf hP
    obtain ⟨N, rfl⟩ : ∃ N', N = N' + 1 := ⟨N - 1, by omega⟩
    have : s = 10 := by omega
    subst this
    rw [f_X8_ask_52, gW_ift (by decide)]
    exact hP jv (fun _ _ => rfl) (fun _ _ => rfl) hf
  | succ k ih =>
    intro s N jv h1 h2 hG hf hP
    obtain ⟨N, rfl⟩ : ∃ N', N = N' + 1 := ⟨N - 1, by omega⟩
    have em : (10 : Int32) * iN q + iN s = iN (10 * q + s) := by rw [show (10 : Int32) = iN 10 from rfl, iN_mul, iN_add]
    rw [f_X8_ask_52, gW_iff (by rw [show (10 : Int32) = iN 10 from rfl, iN_le (by omega) (by omega)]; omega), gW_B, rMr14 H, gW_B, rMr9 H, gW_B, rMa9 H (by omega), show jv (x + 353 + 10) s = G s from hG s (by omega), gW_B, em, rMs14 H (by omega), iNp1]
    have a1 : ∀ c : Nat, c ≠ x + 368 → g_u2 jv (x + 353 + 15) (10 * q + s) (G s) c = jv c := fun c hc => g_u2_ne _ _ _ hc
    have a2 : g_u2 jv (x + 353 + 15) (10 * q + s) (G s) (x + 368) = va_up (jv (x + 368)) (10 * q + s) (G s) := g_u2_self _ _ _ _
    refine ih (s + 1) N _ (by omega) (by omega) (fun i hi => by rw [a1 _ (by omega)]; exact hG i hi) (fun i hi => ?_) (fun kv g1 g2 g3 => hP kv (fun c hc => by rw [g1 c hc, a1 c hc]) (fun i hi => by rw [g2 i hi, a2, va_up_ne _ _ (by omega)]) g3)
    rw [a2]
    by_cases ei : i = s
    · rw [ei, va_up_self]
    · rw [va_up_ne _ _ (by omega)]; exact hf i (by omega)
theorem m_ask_31 {a : Int32} {T : Nat → Int32} {m : Nat} (hm : m ≤ 40) (h2 : m % 2 = 0) (hs : ∀ i : Nat, i < m / 2 → 0 ≤ T (2 * i) ∧ T (2 * i) ≤ 9) {P : Int32 → g_H → Prop} : ∀ (k e N : Nat) (jv : gV), e + k = 64 → k < N → MI x jv u V pn on L → jv (x + 353) 11 = iN m → jv (x + 353) 23 = 0 → jv (x + 353) 24 = 0 → (∀ k : Nat, k < m → jv (x + 359) k = T k) → (∀ e' : Nat, e' < e → fiO V pn L a T m e' = true → ∀ s : Nat, s < 10 → jv (x + 368) (10 * fiN (fiO V pn L a T m) e' + s) = heG V pn L a e' s) → (∀ kv : gV, Sm x jv kv → MI x kv u V pn on L → (∀ e' : Nat, e' < 64 → fiO V pn L a T m e' = true → ∀ s : Nat, s < 10 → kv (x + 368) (10 * fiN (fiO V pn L a T m) e' + s) = heG V pn L a e' s) → gW (f_X8_ask_93 (x + 353) (iN (fiN (fiO V pn L a T m) 64))) (kv, u) P) → gW (f_X8_ask_31 N (x + 353) a (iN (fiN (fiO V pn L a T m) e)) (iN e)) (jv, u) P := by
  intro k
  induction k with
  | zero =>
    intro e N jv h1 h3 hM e11 h23 h24 hT hf hP
    obtain ⟨N, rfl⟩ : ∃ N', N = N' + 1 := ⟨N - 1, by omega⟩
    have : e = 64 := by omega
    subst this
    rw [f_X8_ask_31, gW_ift (by decide)]
    exact hP jv Sm.rf hM hf
  | succ k ih =>
    intro e N jv h1 h3 hM e11 h23 h24 hT hf hP
    obtain ⟨N, rfl⟩ : ∃ N', N = N' + 1 := ⟨N - 1, by omega⟩
    have H := hM.M
    rw [f_X8_ask_31, gW_iff (by rw [show (64 : Int32) = iN 64 from rfl, iN_le (by omega) (by omega)]; omega), gW_B, rMc H, gW_B]
    refine m_fits hM hm h2 e11 h23 h24 hT hs (fun kv g1 g2 g3 g4 => ?_)
    by_cases cc : fiO V pn L a T m e = true
    · have fs : fiN (fiO V pn L a T m) (e + 1) = fiN (fiO V pn L a T m) e + 1 := by rw [fiN_s, if_pos cc]
      have hle := fiN_le (fiO V pn L a T m) e
      rw [bI_t cc, gW_iff (by decide)]
      show gW (f_X8_ask_52 (f_X8_ask_31 N) gN (x + 353) a _ (iN e) (iN 0)) _ _
      refine m_ask_52 g2.M (by omega) (G := heG V pn L a e) 10 0 gN kv (by omega) (by rw [gN_eq]; omega) g3 (fun i hi => absurd hi (Nat.not_lt_zero i)) (fun lv b1 b2 b3 => ?_)
      unfold f_X8_ask_84 f_X8_ask_87
      have S2 : Sm x kv lv := ⟨fun k _ => by rw [b1 _ (by omega)], fun c hc => b1 c (by omega)⟩
      have S3 := g1.tr S2
      rw [iNp1, iNp1, ← fs]
      refine ih (e + 1) N lv (by omega) (by omega) (hM.fr S3.S) (by rw [S3.1 11 (by omega)]; exact e11) (by rw [S3.1 23 (by omega)]; exact h23) (by rw [S3.1 24 (by omega)]; exact h24) (fun k hk => by rw [S3.a (by omega)]; exact hT k hk) (fun e' he' hf' s hs' => ?_) (fun mv q => hP mv (S3.tr q))
      by_cases ee : e' = e
      · subst ee
        exact b3 s hs'
      · have := fiN_lt (fit := fiO V pn L a T m) (show e' < e by omega) hf'
        rw [b2 _ (by omega), g4]
        exact hf e' (by omega) hf' s hs'
    · have fs : fiN (fiO V pn L a T m) (e + 1) = fiN (fiO V pn L a T m) e := by rw [fiN_s, if_neg cc, Nat.add_zero]
      unfold f_X8_ask_87
      rw [bI_f cc, gW_ift rfl, iNp1, ← fs]
      refine ih (e + 1) N kv (by omega) (by omega) g2 (by rw [g1.1 11 (by omega)]; exact e11) (by rw [g1.1 23 (by omega)]; exact h23) (by rw [g1.1 24 (by omega)]; exact h24) (fun k hk => by rw [g1.a (by omega)]; exact hT k hk) (fun e' he' hf' s hs' => ?_) (fun mv q => hP mv (g1.tr q))
      have ee : e' ≠ e := fun q => cc (by rw [← q]; exact hf')
      rw [g4]
      exact hf e' (by omega) hf' s hs'
theorem o_ask {a : Int32} : gOp x z b n t (f_X0_ask x a (x + 369)) (f_X8_ask (x + 353) a) := by
  intro iv u hR
  obtain ⟨pn, on, rm, L, hC, hM, h1⟩ := hR.get
  have HX := hC.X
  have hT := hR.2.1
  obtain ⟨⟨m, t1, t2, t3, t4⟩, -, t5, t6, t7, t8⟩ := hT
  have hT0 : ∀ k : Nat, k < m → iv (x + 2) k = iv (x + 359) k ∧ byO (iv (x + 359) k) := t4
  unfold f_X0_ask f_X1_ask
  rw [gW_B, rXc HX, gW_B, gW_B, rXc HX, gW_T]
  by_cases ok : tdO (iv (x + 359)) m a = true
  · have ok' := ok
    unfold tdO at ok'
    rw [Bool.and_eq_true, decide_eq_true_eq] at ok'
    obtain ⟨⟨o1, o2, o3⟩, o4⟩ := ok'
    refine c_hears hC t8 t1 t2 hT0 ok (fun kv hF => ?_)
    dsimp only
    obtain ⟨hS, hC2, hf⟩ := hF
    generalize hfit : fiO (iv (x + 354)) pn L a (iv (x + 359)) m = fit at hf ⊢
    have hle := fiN_le fit 64
    generalize hq : fiN fit 64 = q at hle ⊢
    have mod : ∀ {lv : gV} {y : Int32}, Sx x (g_u2 iv (x + 1) 6 0) lv → y = (if 1 < q then asF (iv (x + 354)) pn (fun s => iN (paO fit (heG (iv (x + 354)) pn L a) s)) 10 0 (-1) 100000000 else -1) → gW (f_X8_ask (x + 353) a) (lv, u) (fun c h2 => c = y ∧ h2.1 (x + 353) 0 = 0 ∧ h2.1 (x + 369) = lv (x + 369) ∧ oU h2 u ∧ Sx x (g_u2 lv (x + 353) 9 0) h2.1) := by
      intro lv y hL hy
      unfold f_X8_ask f_X8_ask_18
      have hMl : MI x lv u (iv (x + 354)) pn on L := ⟨hM.1, by rw [hL.a (by omega), g_u2_ne _ _ _ (by omega)], hM.2.2⟩
      refine m_use hMl (fun j1 z1 z2 z11 z3 hM2 => ?_)
      have H := hM2.M
      have l359 : ∀ k : Nat, j1 (x + 359) k = iv (x + 359) k := fun k => by rw [z3 _ (by omega), hL.a (by omega), g_u2_ne _ _ _ (by omega)]
      have e11 : j1 (x + 353) 11 = iN m := by rw [z11, hL.2.2.2.1 9 (by omega), g_u2_ne _ _ _ (by omega)]; exact t3
      have e23 : j1 (x + 353) 23 = 0 := by rw [z1.2.2.2.1 23 (by omega), g_u2_self, va_up_ne _ _ (by decide), hL.2.2.2.1 23 (by omega), g_u2_ne _ _ _ (by omega)]; exact t6
      have e24 : j1 (x + 353) 24 = 0 := by rw [z1.2.2.2.1 24 (by omega), g_u2_self, va_up_ne _ _ (by decide), hL.2.2.2.1 24 (by omega), g_u2_ne _ _ _ (by omega)]; exact t7
      rw [gW_B, rMc H, gW_B]
      refine m_isTold H t1 e11 (T := iv (x + 359)) (fun k hk => ⟨l359 k, (hT0 k hk).2⟩) ?_
      rw [bI_t ok, gW_iff (by decide), gW_B, rMc H, gW_B, m_thr0, gW_ift rfl]
      show gW (f_X8_ask_31 gN (x + 353) a (iN (fiN (fiO (iv (x + 354)) pn L a (iv (x + 359)) m) 0)) (iN 0)) _ _
      refine m_ask_31 o2 o1 (fun i hi => tdF_at _ 0 o4 i (by omega) (by omega)) 64 0 gN j1 (by omega) (by rw [gN_eq]; omega) hM2 e11 e23 e24 (fun k _ => l359 k) (fun e' he' => absurd he' (Nat.not_lt_zero e')) (fun mv m1 hM3 hF => ?_)
      rw [hfit] at hF
      rw [hfit, hq]
      unfold f_X8_ask_93
      by_cases c1 : 1 < q
      · rw [if_pos c1] at hy
        show gW (f_X8_ask_103 gN (x + 353) _ (-1) 100000000 (iN 0)) _ _
        refine m_ask_103 hM3 (F := mv (x + 368)) (fun _ _ => rfl) c1 hle 10 0 gN _ _ (by omega) (by rw [gN_eq]; omega) ?_
        refine m_endT z1 z2 z3 m1 (m1.a (by omega)) ?_
        rw [hy]
        have ce : ∀ (k s : Nat) (f l : Int32), s + k = 10 → asF (iv (x + 354)) pn (fun s => iN (mxF (gpC (mv (x + 368)) q s) q 0 0)) k s f l = asF (iv (x + 354)) pn (fun s => iN (paO fit (heG (iv (x + 354)) pn L a) s)) k s f l := by
          intro k
          induction k with
          | zero => intro s f l h; rw [asF, asF]
          | succ k ih =>
            intro s f l h
            have hp := gp_pa hF (show s < 10 by omega)
            rw [hq] at hp
            rw [asF, asF, hp, ih (s + 1) _ _ (by omega), ih (s + 1) _ _ (by omega)]
        exact ce 10 0 _ _ (by omega)
      · rw [if_neg c1] at hy
        obtain ⟨G, hG⟩ : ∃ G, gN = G + 1 := ⟨gN - 1, by rw [gN_eq]⟩
        unfold f_X8_ask_103 f_X8_ask_169
        rw [hG]
        dsimp only
        rw [gW_iff (by decide), gW_ift (by rw [show (1 : Int32) = iN 1 from rfl, iN_le (by omega) (by omega)]; omega), gW_ret]
        exact m_endT z1 z2 z3 m1 (m1.a (by omega)) hy.symm
    have fin : ∀ y : Int32, y = (if 1 < q then asF (iv (x + 354)) pn (fun s => iN (paO fit (heG (iv (x + 354)) pn L a) s)) 10 0 (-1) 100000000 else -1) → gW (gSI (x + 369) 2 (0 : Int32) y) (kv, u) (fun _ h1 => gW (f_X8_ask (x + 353) a) h1 (fun c h2 => h2.1 (x + 353) 0 = 0 ∧ oE 0 (h2.1 (x + 369) 0) c ∧ RR x z b n (t + 1) h2.1 h2.2)) := fun y hy => op_endT hR hS (fun lv hL _ => mod hL hy)
    by_cases c1 : 1 < q
    · show gW (f_X1_ask_16 gN x _ (-1) 100000000 (iN 0)) _ _
      refine c_ask_16 hC2 hf c1 hle 10 0 gN _ _ (by omega) (by rw [gN_eq]; omega) ?_
      show gW (gB (gSI (x + 369) 2 (0 : Int32) _) _) _ _
      rw [gW_B]
      simp only [gW_ret]
      exact fin _ (by rw [if_pos c1])
    · obtain ⟨G, hG⟩ : ∃ G, gN = G + 1 := ⟨gN - 1, by rw [gN_eq]⟩
      unfold f_X1_ask_16 f_X1_ask_79
      rw [hG]
      dsimp only
      rw [gW_iff (by decide), gW_ift (by rw [show (1 : Int32) = iN 1 from rfl, iN_le (by omega) (by omega)]; omega), gW_ret]
      show gW (gB (gSI (x + 369) 2 (0 : Int32) _) _) _ _
      rw [gW_B]
      simp only [gW_ret]
      exact fin _ (by rw [if_neg c1])
  · refine c_hears_f hC t1 t2 hT0 ok (fun a' jv v hTh => ?_)
    show gW (gIf ((17 : Nat) = 17) (gRet 1) gFail) (jv, v) _
    rw [gW_ift rfl, gW_ret]
    refine op_thrT hR hTh (by decide) ?_
    have hx := hR.nx
    have jc : ∀ c : Nat, c < x + 370 → c ≠ x + 1 → jv c = iv c := fun c h1 h2 => by rw [hTh.2.1 c (by omega), g_u2_ne _ _ _ h2]
    unfold f_X8_ask f_X8_ask_18
    have hMl : MI x jv v (iv (x + 354)) pn on L := ⟨hM.1.fr hTh.1 (by omega), jc _ (by omega) (by omega), hM.2.2⟩
    refine m_use hMl (fun j1 z1 z2 z11 z3 hM2 => ?_)
    have H := hM2.M
    have e11 : j1 (x + 353) 11 = iN m := by rw [z11, jc _ (by omega) (by omega)]; exact t3
    rw [gW_B, rMc H, gW_B]
    refine m_isTold H t1 e11 (T := iv (x + 359)) (fun k hk => ⟨by rw [z3 _ (by omega), jc _ (by omega) (by omega)], (hT0 k hk).2⟩) ?_
    rw [bI_f ok, gW_ift rfl, gW_B, rMc H, gW_B, m_thr1 H, gW_iff (by decide), gW_ret]
    exact m_te z1
end ASK
