/-! OPS: cover; how a set is sought -/
section CVR
variable {iv jv kv lv : gV} {u v : gU} {x z b n t : Nat} {V : Nat → Int32} {pn on : Nat} {L : gLw}
/-- upward; downward -/
def srF (T : Nat → Bool) : Nat → Nat → Int32 → Int32
  | 0, _, F => F
  | k + 1, s, F => srF T k (s + 1) (if (F = -1 ∨ ¬ bC F ≤ bC (iN s)) ∧ T s = true then iN s else F)
def smF (T : Nat → Bool) : Nat → Int32 → Int32
  | 0, F => F
  | s + 1, F => smF T s (if ¬ bC F < bC (iN s) ∧ T s = true then iN s else F)
/-- the least set by number and by order, of those below s -/
def srI (T : Nat → Bool) (s : Nat) (F : Int32) : Prop := (F = -1 ∧ ∀ j : Nat, j < s → T j = false) ∨ ∃ f : Nat, f < s ∧ F = iN f ∧ T f = true ∧ ∀ j : Nat, j < s → T j = true → (bC (iN f)).toInt < (bC (iN j)).toInt ∨ ((bC (iN f)).toInt = (bC (iN j)).toInt ∧ f ≤ j)
theorem srF_I (T : Nat → Bool) : ∀ (k s : Nat) (F : Int32), s + k < 1000 → srI T s F → srI T (s + k) (srF T k s F) := by
  intro k
  induction k with
  | zero => exact fun s F _ h => h
  | succ k ih =>
    intro s F hb h
    rw [srF, show s + (k + 1) = s + 1 + k by omega]
    refine ih (s + 1) _ (by omega) ?_
    by_cases c : (F = -1 ∨ ¬ bC F ≤ bC (iN s)) ∧ T s = true
    · rw [if_pos c]
      refine Or.inr ⟨s, by omega, rfl, c.2, fun j hj hT => ?_⟩
      by_cases e : j = s
      · subst e; exact Or.inr ⟨rfl, Nat.le_refl _⟩
      · rcases h with ⟨-, h2⟩ | ⟨f, f1, f2, f3, f4⟩
        · rw [h2 j (by omega)] at hT; exact absurd hT (by decide)
        · have h5 := f4 j (by omega) hT
          rcases c.1 with q | q
          · exact absurd (f2.symm.trans q) (iN_eqm (by omega))
          · rw [f2, Int32.le_iff_toInt_le] at q
            exact Or.inl (by omega)
    · rw [if_neg c]
      rcases h with ⟨h1, h2⟩ | ⟨f, f1, f2, f3, f4⟩
      · refine Or.inl ⟨h1, fun j hj => ?_⟩
        by_cases e : j = s
        · subst e
          cases hT : T j
          · rfl
          · exact absurd ⟨Or.inl h1, hT⟩ c
        · exact h2 j (by omega)
      · refine Or.inr ⟨f, by omega, f2, f3, fun j hj hT => ?_⟩
        by_cases e : j = s
        · subst e
          have : bC F ≤ bC (iN j) := by
            by_cases q : bC F ≤ bC (iN j)
            · exact q
            · exact absurd ⟨Or.inr q, hT⟩ c
          rw [f2, Int32.le_iff_toInt_le] at this
          omega
        · exact f4 j (by omega) hT
def smI (T : Nat → Bool) (g s : Nat) (F : Int32) : Prop := ∃ f : Nat, f ≤ g ∧ F = iN f ∧ T f = true ∧ (s ≤ f ∨ f = g) ∧ ∀ j : Nat, s ≤ j → j ≤ g → T j = true → (bC (iN f)).toInt < (bC (iN j)).toInt ∨ ((bC (iN f)).toInt = (bC (iN j)).toInt ∧ f ≤ j)
theorem smF_I (T : Nat → Bool) (g : Nat) : ∀ (s : Nat) (F : Int32), s ≤ g + 1 → smI T g s F → smI T g 0 (smF T s F) := by
  intro s
  induction s with
  | zero => exact fun F _ h => h
  | succ s ih =>
    intro F hs h
    rw [smF]
    refine ih _ (by omega) ?_
    obtain ⟨f, f1, f2, f3, f5, f4⟩ := h
    by_cases c : ¬ bC F < bC (iN s) ∧ T s = true
    · rw [if_pos c]
      refine ⟨s, by omega, rfl, c.2, Or.inl (Nat.le_refl _), fun j h1 h2 hT => ?_⟩
      by_cases e : j = s
      · subst e; exact Or.inr ⟨rfl, Nat.le_refl _⟩
      · have h5 := f4 j (by omega) h2 hT
        have q := c.1
        rw [f2, Int32.lt_iff_toInt_lt] at q
        omega
    · rw [if_neg c]
      refine ⟨f, f1, f2, f3, by omega, fun j h1 h2 hT => ?_⟩
      by_cases e : j = s
      · subst e
        have : bC F < bC (iN j) := by
          by_cases q : bC F < bC (iN j)
          · exact q
          · exact absurd ⟨q, hT⟩ c
        rw [f2, Int32.lt_iff_toInt_lt] at this
        exact Or.inl this
      · exact f4 j (by omega) h2 hT
theorem sr_sm {T : Nat → Bool} {M g : Nat} (hM : M < 1000) (hg : g < M) (hT : T g = true) (hn : ∀ j : Nat, g < j → j < M → T j = false) : srF T M 0 (-1) = smF T (g + 1) (iN g) := by
  have h1 := srF_I T M 0 (-1) (by omega) (Or.inl ⟨rfl, fun j hj => absurd hj (Nat.not_lt_zero j)⟩)
  have h2 := smF_I T g (g + 1) (iN g) (Nat.le_refl _) ⟨g, Nat.le_refl _, rfl, hT, Or.inr rfl, fun j h1 h2 => by omega⟩
  rw [Nat.zero_add] at h1
  obtain ⟨e, e1, e2, e3, -, e4⟩ := h2
  rcases h1 with ⟨-, q⟩ | ⟨f, f1, f2, f3, f4⟩
  · rw [q g hg] at hT; exact absurd hT (by decide)
  · have fg : f ≤ g := by
      by_cases c : f ≤ g
      · exact c
      · rw [hn f (by omega) f1] at f3; exact absurd f3 (by decide)
    have a1 := f4 e (by omega) e3
    have a2 := e4 f (by omega) fg f3
    have : f = e := by omega
    rw [f2, e2, this]
/-! what is shown, what was done -/
def shF (V : Nat → Int32) (w : Int32) : Nat → Nat → Int32 → Int32
  | 0, _, y => y
  | k + 1, p, y => shF V w k (p + 1) (y ||| (if (w >>> (iN p &&& 31)) &&& 1 = 1 then (1 : Int32) <<< (V (9 + 4 * p + 0) &&& 31) else 0))
def didF (V : Nat → Int32) : Nat → Nat → Int32 → Int32
  | 0, _, y => y
  | k + 1, o, y => didF V k (o + 1) (y ||| (if V (41 + 4 * o + 3) = 0 then V (41 + 4 * o + 0) else 0))
theorem c_shown_4 (hC : CI x iv u V pn on L) {w : Int32} {P : Int32 → g_H → Prop} : ∀ (k p N : Nat) (y : Int32), p + k = pn → k < N → (gW (f_X1_shown_4 N x w y (iN p)) (iv, u) P ↔ P (shF V w k p y) (iv, u)) := by
  have HX := hC.X
  have h8 := hC.p8
  intro k
  induction k with
  | zero =>
    intro p N y h1 h2
    obtain ⟨N, rfl⟩ : ∃ N', N = N' + 1 := ⟨N - 1, by omega⟩
    unfold f_X1_shown_4 f_X1_shown_51
    rw [gW_B, rXr1 HX, gW_B, rSi HX.nw, hC.pN, gW_ift (by rw [iN_le (by omega) (by omega)]; omega), gW_ret]
    rfl
  | succ k ih =>
    intro p N y h1 h2
    obtain ⟨N, rfl⟩ : ∃ N', N = N' + 1 := ⟨N - 1, by omega⟩
    rw [f_X1_shown_4, gW_B, rXr1 HX, gW_B, rSi HX.nw, hC.pN, gW_iff (by rw [iN_le (by omega) (by omega)]; omega), shF]
    unfold f_X1_shown_43
    by_cases c : (w >>> (iN p &&& 31)) &&& 1 = 1
    · rw [gW_ift c, gW_B, rXr1 HX, gW_B, rSr0 HX.nw, gW_B, rSP HX.nw (by omega), gW_B, rSPi HX.nw (by omega), hC.p (show p < pn by omega) (by decide), if_pos c, iNp1]
      exact ih (p + 1) N _ (by omega) (by omega)
    · rw [gW_iff c, if_neg c, iNp1]
      exact ih (p + 1) N _ (by omega) (by omega)
theorem c_shown (hC : CI x iv u V pn on L) {w : Int32} {P : Int32 → g_H → Prop} : gW (f_X1_shown x w) (iv, u) P ↔ P (shF V w pn 0 0) (iv, u) := by
  have h8 := hC.p8
  unfold f_X1_shown
  show gW (f_X1_shown_4 gN x w 0 (iN 0)) _ _ ↔ _
  exact c_shown_4 hC pn 0 gN 0 (by omega) (by rw [gN_eq]; omega)
theorem m_shown_4 (hM : MI x iv u V pn on L) {w : Int32} {P : Int32 → g_H → Prop} : ∀ (k p N : Nat) (y : Int32), p + k = pn → k < N → (gW (f_X8_shownBy_4 N (x + 353) w y (iN p)) (iv, u) P ↔ P (shF V w k p y) (iv, u)) := by
  have H := hM.M
  have h8 := hM.p8
  intro k
  induction k with
  | zero =>
    intro p N y h1 h2
    obtain ⟨N, rfl⟩ : ∃ N', N = N' + 1 := ⟨N - 1, by omega⟩
    unfold f_X8_shownBy_4 f_X8_shownBy_41
    rw [gW_B, rMc H, gW_B, w_props H, hM.pN, gW_ift (by rw [iN_le (by omega) (by omega)]; omega), gW_ret]
    rfl
  | succ k ih =>
    intro p N y h1 h2
    obtain ⟨N, rfl⟩ : ∃ N', N = N' + 1 := ⟨N - 1, by omega⟩
    rw [f_X8_shownBy_4, gW_B, rMc H, gW_B, w_props H, hM.pN, gW_iff (by rw [iN_le (by omega) (by omega)]; omega), shF, gW_B, w_has]
    unfold f_X8_shownBy_33
    by_cases c : (w >>> (iN p &&& 31)) &&& 1 = 1
    · rw [bI_t c, gW_iff (by decide), gW_B, rMc H, gW_B, w_ofProp0 H (by omega), hM.vE, if_pos c, iNp1]
      exact ih (p + 1) N _ (by omega) (by omega)
    · rw [bI_f c, gW_ift rfl, if_neg c, iNp1]
      exact ih (p + 1) N _ (by omega) (by omega)
theorem m_shown (hM : MI x iv u V pn on L) {w : Int32} {P : Int32 → g_H → Prop} : gW (f_X8_shownBy (x + 353) w) (iv, u) P ↔ P (shF V w pn 0 0) (iv, u) := by
  have h8 := hM.p8
  unfold f_X8_shownBy
  show gW (f_X8_shownBy_4 gN (x + 353) w 0 (iN 0)) _ _ ↔ _
  exact m_shown_4 hM pn 0 gN 0 (by omega) (by rw [gN_eq]; omega)
theorem sh2 : ∀ p : Nat, p ≤ 8 → (1 : Int32) <<< (iN p &&& 31) = iN (2 ^ p) ∧ ((1 : Int32) <<< (iN p &&& 31)) - 1 = iN (2 ^ p - 1) := by decide +kernel
theorem p2_le {p : Nat} (hp : p ≤ 8) : 1 ≤ 2 ^ p ∧ 2 ^ p ≤ 256 := ⟨Nat.pow_pos (by decide), Nat.le_trans (Nat.pow_le_pow_right (by decide) hp) (by decide)⟩
theorem and_nn (d s : Int32) : (d &&& s) &&& (s ^^^ -1) = 0 := by
  apply Int32.toBitVec_inj.mp
  show (d.toBitVec &&& s.toBitVec) &&& (s.toBitVec ^^^ BitVec.allOnes 32) = 0#32
  apply BitVec.eq_of_getLsbD_eq
  intro i hi
  rw [BitVec.getLsbD_and, BitVec.getLsbD_and, BitVec.getLsbD_xor, BitVec.getLsbD_allOnes, BitVec.getLsbD_zero, decide_eq_true hi]
  cases d.toBitVec.getLsbD i <;> cases s.toBitVec.getLsbD i <;> rfl
/-- is a set a cover -/
def cvT (V : Nat → Int32) (pn : Nat) (d : Int32) (s : Nat) : Bool := decide ((d &&& (shF V (iN s) pn 0 0 ^^^ -1)) = 0)
theorem c_cover_77 (hC : CI x iv u V pn on L) {d : Int32} {P : Int32 → g_H → Prop} : ∀ (k s N : Nat) (F : Int32), s + k = 2 ^ pn → k < N → P (srF (cvT V pn d) k s F) (iv, u) → gW (f_X1_cover_77 N x d F (iN s)) (iv, u) P := by
  have HX := hC.X
  have h8 := hC.p8
  have hp := p2_le h8
  intro k
  induction k with
  | zero =>
    intro s N F h1 h2 hP
    obtain ⟨N, rfl⟩ : ∃ N', N = N' + 1 := ⟨N - 1, by omega⟩
    unfold f_X1_cover_77 f_X1_cover_126
    rw [gW_B, rXr1 HX, gW_B, rSi HX.nw, hC.pN, (sh2 pn h8).1, gW_ift (by rw [iN_le (by omega) (by omega)]; omega), gW_ret]
    exact hP
  | succ k ih =>
    intro s N F h1 h2 hP
    obtain ⟨N, rfl⟩ : ∃ N', N = N' + 1 := ⟨N - 1, by omega⟩
    rw [f_X1_cover_77, gW_B, rXr1 HX, gW_B, rSi HX.nw, hC.pN, (sh2 pn h8).1, gW_iff (by rw [iN_le (by omega) (by omega)]; omega)]
    rw [srF] at hP
    have tst : (F = -1 ∨ ¬ bC F ≤ bC (iN s)) → gW (f_X1_cover_106 (f_X1_cover_77 N) x d F (iN s)) (iv, u) P := by
      intro hF
      unfold f_X1_cover_106 f_X1_cover_120
      rw [gW_B, rXc HX, gW_B, c_shown hC]
      by_cases c : (d &&& (shF V (iN s) pn 0 0 ^^^ -1)) = 0
      · rw [if_pos ⟨hF, decide_eq_true c⟩] at hP
        rw [gW_ift c, iNp1]
        exact ih (s + 1) N _ (by omega) (by omega) hP
      · rw [if_neg (fun q => c (of_decide_eq_true q.2))] at hP
        rw [gW_iff c, iNp1]
        exact ih (s + 1) N _ (by omega) (by omega) hP
    by_cases c1 : F = -1
    · rw [gW_ift c1]
      exact tst (Or.inl c1)
    · rw [gW_iff c1, gW_B, w_bitCount, gW_B, w_bitCount]
      by_cases c2 : bC F ≤ bC (iN s)
      · unfold f_X1_cover_120
        rw [if_neg (fun q => q.1.elim c1 (fun q2 => q2 c2))] at hP
        rw [gW_ift c2, iNp1]
        exact ih (s + 1) N _ (by omega) (by omega) hP
      · rw [gW_iff c2]
        exact tst (Or.inr c2)
theorem m_cover_63 (hM : MI x iv u V pn on L) {d : Int32} {P : Int32 → g_H → Prop} : ∀ (s N : Nat) (F : Int32), s ≤ 256 → s < N → P (smF (cvT V pn d) s F) (iv, u) → gW (f_X8_cover_63 N (x + 353) F d (iN s - 1)) (iv, u) P := by
  have H := hM.M
  intro s
  induction s with
  | zero =>
    intro N F h1 h2 hP
    obtain ⟨N, rfl⟩ : ∃ N', N = N' + 1 := ⟨N - 1, by omega⟩
    unfold f_X8_cover_63 f_X8_cover_102
    rw [gW_ift (by decide), gW_ret]
    exact hP
  | succ s ih =>
    intro N F h1 h2 hP
    obtain ⟨N, rfl⟩ : ∃ N', N = N' + 1 := ⟨N - 1, by omega⟩
    have es : iN (s + 1) - 1 = iN s := by rw [iNs1 (by omega)]; rfl
    have ed : iN s + -1 = iN s - 1 := (Int32.sub_eq_add_neg (iN s) 1).symm
    rw [es, f_X8_cover_63, gW_iff (iN_0 (by omega)), gW_B, w_bitCount, gW_B, w_bitCount]
    unfold f_X8_cover_94 f_X8_cover_95
    rw [ed]
    rw [smF] at hP
    by_cases c1 : bC F < bC (iN s)
    · rw [if_neg (fun q => q.1 c1)] at hP
      rw [gW_ift c1]
      exact ih N _ (by omega) (by omega) hP
    · rw [gW_iff c1, gW_B, rMc H, gW_B, m_shown hM]
      by_cases c : (d &&& (shF V (iN s) pn 0 0 ^^^ -1)) = 0
      · rw [if_pos ⟨c1, decide_eq_true c⟩] at hP
        rw [gW_ift c]
        exact ih N _ (by omega) (by omega) hP
      · rw [if_neg (fun q => c (of_decide_eq_true q.2))] at hP
        rw [gW_iff c]
        exact ih N _ (by omega) (by omega) hP
theorem c_cover_4 (hC : CI x iv u V pn on L) {P : Int32 → g_H → Prop} : ∀ (k o N : Nat) (y : Int32), o + k = on → k < N → gW (f_X1_cover_55 x (didF V k o y)) (iv, u) P → gW (f_X1_cover_4 N x y (iN o)) (iv, u) P := by
  have HX := hC.X
  have h6 := hC.o6
  intro k
  induction k with
  | zero =>
    intro o N y h1 h2 hP
    obtain ⟨N, rfl⟩ : ∃ N', N = N' + 1 := ⟨N - 1, by omega⟩
    rw [f_X1_cover_4, gW_B, rXr1 HX, gW_B, rSi HX.nw, hC.oN, gW_ift (by rw [iN_le (by omega) (by omega)]; omega)]
    exact hP
  | succ k ih =>
    intro o N y h1 h2 hP
    obtain ⟨N, rfl⟩ : ∃ N', N = N' + 1 := ⟨N - 1, by omega⟩
    have ho : o < on := by omega
    rw [f_X1_cover_4, gW_B, rXr1 HX, gW_B, rSi HX.nw, hC.oN, gW_iff (by rw [iN_le (by omega) (by omega)]; omega), gW_B, rXr1 HX, gW_B, rSr1 HX.nw, gW_B, rSO HX.nw (by omega), gW_B, rSOi HX.nw (by omega), hC.o ho (by decide)]
    unfold f_X1_cover_47
    rw [didF] at hP
    by_cases c : V (41 + 4 * o + 3) = 0
    · rw [if_pos c] at hP
      rw [gW_ift c, gW_B, rXr1 HX, gW_B, rSr1 HX.nw, gW_B, rSO HX.nw (by omega), gW_B, rSOi HX.nw (by omega), hC.o ho (by decide), iNp1]
      exact ih (o + 1) N _ (by omega) (by omega) hP
    · rw [if_neg c] at hP
      rw [gW_iff c, iNp1]
      exact ih (o + 1) N _ (by omega) (by omega) hP
theorem m_cover_18 (hM : MI x iv u V pn on L) {F : Int32} {P : Int32 → g_H → Prop} : ∀ (k o N : Nat) (y : Int32), o + k = on → k < N → gW (f_X8_cover_53 (x + 353) F (didF V k o y)) (iv, u) P → gW (f_X8_cover_18 N (x + 353) F y (iN o)) (iv, u) P := by
  have H := hM.M
  have h6 := hM.o6
  intro k
  induction k with
  | zero =>
    intro o N y h1 h2 hP
    obtain ⟨N, rfl⟩ : ∃ N', N = N' + 1 := ⟨N - 1, by omega⟩
    rw [f_X8_cover_18, gW_B, rMc H, gW_B, w_oneCount H, hM.oN, gW_ift (by rw [iN_le (by omega) (by omega)]; omega)]
    exact hP
  | succ k ih =>
    intro o N y h1 h2 hP
    obtain ⟨N, rfl⟩ : ∃ N', N = N' + 1 := ⟨N - 1, by omega⟩
    rw [f_X8_cover_18, gW_B, rMc H, gW_B, w_oneCount H, hM.oN, gW_iff (by rw [iN_le (by omega) (by omega)]; omega), gW_B, rMc H, gW_B, w_waits H (by omega), hM.vE]
    unfold f_X8_cover_45
    rw [didF] at hP
    by_cases c : V (41 + 4 * o + 3) = 0
    · rw [if_pos c] at hP
      rw [bI_t c, gW_iff (by decide), gW_B, rMc H, gW_B, w_of0 H (by omega), hM.vE, iNp1]
      exact ih (o + 1) N _ (by omega) (by omega) hP
    · rw [if_neg c] at hP
      rw [bI_f c, gW_ift rfl, iNp1]
      exact ih (o + 1) N _ (by omega) (by omega) hP
theorem o_cover : gOp1 x z b n t (f_X1_cover x) (f_X8_cover (x + 353)) := by
  intro iv u hR
  obtain ⟨pn, on, rm, L, hC, hM, h1⟩ := hR.get
  have HX := hC.X
  have h6 := hC.o6
  have h8 := hC.p8
  have hp := p2_le h8
  unfold f_X1_cover
  show gW (f_X1_cover_4 gN x 0 (iN 0)) _ _
  refine c_cover_4 hC on 0 gN 0 (by omega) (by rw [gN_eq]; omega) ?_
  unfold f_X1_cover_55
  rw [gW_B, rXr1 HX, gW_B, rSi HX.nw, hC.pN, gW_B, rXc HX, gW_B, c_shown hC, (sh2 pn h8).2]
  generalize hd : didF (iv (x + 354)) on 0 0 = d
  generalize hs : shF (iv (x + 354)) (iN (2 ^ pn - 1)) pn 0 0 = s
  show gW (f_X1_cover_77 gN x (d &&& s) (-1) (iN 0)) _ _
  refine c_cover_77 hC (2 ^ pn) 0 gN (-1) (by omega) (by rw [gN_eq]; omega) ?_
  refine op_end1 hR Sx.rf ?_
  unfold f_X8_cover
  refine m_z hM (fun lv z1 z2 z3 hM2 => ?_)
  have H := hM2.M
  rw [gW_B, rMc H, gW_B, w_props H, hM2.pN, gW_B, gW_ret, (sh2 pn h8).2]
  show gW (f_X8_cover_18 gN (x + 353) (iN (2 ^ pn - 1)) 0 (iN 0)) _ _
  refine m_cover_18 hM2 on 0 gN 0 (by omega) (by rw [gN_eq]; omega) ?_
  unfold f_X8_cover_53
  rw [gW_B, rMc H, gW_B, m_shown hM2, hd, hs]
  have e1 : iN (2 ^ pn - 1) = iN (2 ^ pn) - 1 := (iNs1 (by omega)).symm
  have key := m_cover_63 hM2 (d := d &&& s) (2 ^ pn) gN (iN (2 ^ pn - 1)) (P := fun c h2 => srF (cvT (iv (x + 354)) pn (d &&& s)) (2 ^ pn) 0 (-1) = c ∧ oU h2 u ∧ Sx x iv h2.1) (by omega) (by rw [gN_eq]; omega) ?_
  · rw [← e1] at key
    exact key
  · refine ⟨?_, rfl, z1⟩
    have hg : 2 ^ pn - 1 + 1 = 2 ^ pn := by omega
    have := sr_sm (T := cvT (iv (x + 354)) pn (d &&& s)) (M := 2 ^ pn) (g := 2 ^ pn - 1) (by omega) (by omega) (by unfold cvT; rw [hs]; exact decide_eq_true (and_nn d s)) (fun j h1 h2 => by omega)
    rw [hg] at this
    exact this
end CVR
