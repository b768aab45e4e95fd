/-! OPS: leave -/
section LEA
variable {iv jv kv lv : gV} {u v w : gU} {x z b n t : Nat} {V M : Nat → Int32} {pn on rm : Nat} {L : gLw}
/-! sets as bits -/
def obF (P : Nat → Bool) : Nat → Nat → Int32 → Int32
  | 0, _, y => y
  | k + 1, o, y => obF P k (o + 1) (y ||| (if P o = true then (1 : Int32) <<< (iN o &&& 31) else 0))
theorem obF_n (P : Nat → Bool) : ∀ (k o m0 : Nat), o + k ≤ 8 → m0 < 2 ^ o → ∃ m : Nat, m < 2 ^ (o + k) ∧ obF P k o (iN m0) = iN m ∧ ∀ i : Nat, (m.testBit i = true ↔ m0.testBit i = true ∨ (o ≤ i ∧ i < o + k ∧ P i = true)) := by
  intro k
  induction k with
  | zero => exact fun o m0 _ h => ⟨m0, h, rfl, fun i => ⟨Or.inl, fun q => q.elim id (fun q => by omega)⟩⟩
  | succ k ih =>
    intro o m0 hk hm
    rw [obF]
    have h2 : 2 ^ o < 2 ^ (o + 1) := Nat.pow_lt_pow_right (by decide) (by omega)
    by_cases c : P o = true
    · rw [if_pos c, (sh2 o (by omega)).1, iOr]
      obtain ⟨m, m1, m2, m3⟩ := ih (o + 1) (m0 ||| 2 ^ o) (by omega) (Nat.or_lt_two_pow (by omega) h2)
      refine ⟨m, by rw [show o + (k + 1) = o + 1 + k by omega]; exact m1, m2, fun i => (m3 i).trans ?_⟩
      rw [Nat.testBit_or, Nat.testBit_two_pow, Bool.or_eq_true, decide_eq_true_eq]
      constructor
      · rintro ((q | q) | q)
        · exact Or.inl q
        · exact Or.inr ⟨by omega, by omega, by rw [← q]; exact c⟩
        · exact Or.inr ⟨by omega, by omega, q.2.2⟩
      · rintro (q | ⟨q1, q2, q3⟩)
        · exact Or.inl (Or.inl q)
        · by_cases e : o = i
          · exact Or.inl (Or.inr e)
          · exact Or.inr ⟨by omega, by omega, q3⟩
    · rw [if_neg c, Int32.or_zero]
      obtain ⟨m, m1, m2, m3⟩ := ih (o + 1) m0 (by omega) (by omega)
      refine ⟨m, by rw [show o + (k + 1) = o + 1 + k by omega]; exact m1, m2, fun i => (m3 i).trans ?_⟩
      constructor
      · rintro (q | q)
        · exact Or.inl q
        · exact Or.inr ⟨by omega, by omega, q.2.2⟩
      · rintro (q | ⟨q1, q2, q3⟩)
        · exact Or.inl q
        · by_cases e : o = i
          · rw [e] at c; exact absurd q3 c
          · exact Or.inr ⟨by omega, by omega, q3⟩
theorem ob_and {P Q : Nat → Bool} {k : Nat} (hk : k ≤ 8) : (obF P k 0 0 &&& obF Q k 0 0 = 0) ↔ ∀ o : Nat, o < k → ¬ (P o = true ∧ Q o = true) := by
  obtain ⟨a, a1, a2, a3⟩ := obF_n P k 0 0 (by omega) (by decide)
  obtain ⟨c, c1, c2, c3⟩ := obF_n Q k 0 0 (by omega) (by decide)
  have h256 : 2 ^ (0 + k) ≤ 256 := (p2_le (p := 0 + k) (by omega)).2
  rw [show (0 : Int32) = iN 0 from rfl, a2, c2, iAnd, iN_eq (by have := Nat.and_le_left (n := a) (m := c); omega) (by omega)]
  have z0 : ∀ i : Nat, ¬ (0 : Nat).testBit i = true := fun i => by rw [Nat.zero_testBit]; decide
  constructor
  · intro h o ho q
    have : (a &&& c).testBit o = true := by
      rw [Nat.testBit_and, Bool.and_eq_true]
      exact ⟨(a3 o).mpr (Or.inr ⟨by omega, by omega, q.1⟩), (c3 o).mpr (Or.inr ⟨by omega, by omega, q.2⟩)⟩
    rw [h] at this
    exact z0 o this
  · intro h
    refine Nat.eq_of_testBit_eq (fun i => ?_)
    rw [Nat.zero_testBit]
    refine Bool.eq_false_iff.mpr (fun q => ?_)
    rw [Nat.testBit_and, Bool.and_eq_true] at q
    rcases (a3 i).mp q.1 with q1 | q1
    · exact z0 i q1
    · rcases (c3 i).mp q.2 with q2 | q2
      · exact z0 i q2
      · exact h i (by omega) ⟨q1.2.2, q2.2.2⟩
theorem bit_tb : ∀ k : Nat, k < 256 → ∀ p : Nat, p < 8 → (bit (iN k) p ↔ k.testBit p = true) := by decide +kernel
/-- a set is part of another -/
theorem sub_and {a g : Int32} (h : a &&& (g ^^^ -1) = 0) : a &&& g = a := by
  apply Int32.toBitVec_inj.mp
  have h : a.toBitVec &&& (g.toBitVec ^^^ BitVec.allOnes 32) = 0#32 := congrArg Int32.toBitVec h
  show a.toBitVec &&& g.toBitVec = a.toBitVec
  apply BitVec.eq_of_getLsbD_eq
  intro i hi
  have hb := congrArg (fun y : BitVec 32 => y.getLsbD i) h
  simp only [BitVec.getLsbD_and, BitVec.getLsbD_xor, BitVec.getLsbD_allOnes, BitVec.getLsbD_zero, decide_eq_true hi] at hb
  rw [BitVec.getLsbD_and]
  revert hb
  cases a.toBitVec.getLsbD i <;> cases g.toBitVec.getLsbD i <;> decide
theorem sub_nat {a g : Nat} (ha : a < 256) (hg : g < 256) (h : iN a &&& (iN g ^^^ -1) = 0) : a &&& g = a := by
  have := sub_and h
  rw [iAnd, iN_eq (by have := Nat.and_le_left (n := a) (m := g); omega) (by omega)] at this
  exact this
/-! props that are nailed -/
def nlB (V : Nat → Int32) (p : Nat) : Bool := decide (¬ V (9 + 4 * p + 3) = -1)
def slF (V : Nat → Int32) (pn : Nat) : Nat → Nat → Int32 → Int32
  | 0, _, y => y
  | k + 1, s, y => slF V pn k (s + 1) (y ||| (if sIn V pn (iN s) = -1 then 0 else (1 : Int32) <<< (sIn V pn (iN s) &&& 31)))
theorem slF_n (h8 : pn ≤ 8) : ∀ (k s m0 : Nat), m0 < 256 → ∃ m : Nat, m < 256 ∧ slF V pn k s (iN m0) = iN m ∧ ∀ i : Nat, i < 8 → (m.testBit i = true ↔ m0.testBit i = true ∨ ∃ s' : Nat, s ≤ s' ∧ s' < s + k ∧ sIn V pn (iN s') = iN i) := by
  intro k
  induction k with
  | zero => exact fun s m0 h => ⟨m0, h, rfl, fun i _ => ⟨Or.inl, fun q => q.elim id (fun ⟨s', q1, q2, _⟩ => by omega)⟩⟩
  | succ k ih =>
    intro s m0 hm
    rw [slF]
    rcases sIn_or V pn (iN s) with e | ⟨p, hp, e, -⟩
    · rw [if_pos e, Int32.or_zero]
      obtain ⟨m, m1, m2, m3⟩ := ih (s + 1) m0 hm
      refine ⟨m, m1, m2, fun i hi => (m3 i hi).trans ?_⟩
      constructor
      · rintro (q | ⟨s', q1, q2, q3⟩)
        · exact Or.inl q
        · exact Or.inr ⟨s', by omega, by omega, q3⟩
      · rintro (q | ⟨s', q1, q2, q3⟩)
        · exact Or.inl q
        · by_cases es : s' = s
          · rw [es, e] at q3; exact absurd q3.symm (iN_eqm (by omega))
          · exact Or.inr ⟨s', by omega, by omega, q3⟩
    · rw [e, if_neg (iN_eqm (by omega)), (sh2 p (by omega)).1, iOr]
      have hp2 : 2 ^ p < 2 ^ 8 := Nat.pow_lt_pow_right (by decide) (by omega)
      obtain ⟨m, m1, m2, m3⟩ := ih (s + 1) (m0 ||| 2 ^ p) (Nat.or_lt_two_pow (n := 8) hm hp2)
      refine ⟨m, m1, m2, fun i hi => (m3 i hi).trans ?_⟩
      rw [Nat.testBit_or, Nat.testBit_two_pow, Bool.or_eq_true, decide_eq_true_eq]
      constructor
      · rintro ((q | q) | ⟨s', q1, q2, q3⟩)
        · exact Or.inl q
        · exact Or.inr ⟨s, by omega, by omega, by rw [e, q]⟩
        · exact Or.inr ⟨s', by omega, by omega, q3⟩
      · rintro (q | ⟨s', q1, q2, q3⟩)
        · exact Or.inl (Or.inl q)
        · by_cases es : s' = s
          · rw [es, e, iN_eq (by omega) (by omega)] at q3
            exact Or.inl (Or.inr q3)
          · exact Or.inr ⟨s', by omega, by omega, q3⟩
theorem sl_ob (hW : WI V pn on) : slF V pn 10 0 0 = obF (nlB V) pn 0 0 := by
  have h8 := hW.1.2.1
  obtain ⟨a, a1, a2, a3⟩ := slF_n (V := V) h8 10 0 0 (by decide)
  obtain ⟨c, c1, c2, c3⟩ := obF_n (nlB V) pn 0 0 (by omega) (by decide)
  have h256 : 2 ^ (0 + pn) ≤ 256 := (p2_le (p := 0 + pn) (by omega)).2
  have z0 : ∀ i : Nat, ¬ (0 : Nat).testBit i = true := fun i => by rw [Nat.zero_testBit]; decide
  rw [show (0 : Int32) = iN 0 from rfl, a2, c2]
  congr 1
  refine Nat.eq_of_testBit_eq (fun i => ?_)
  by_cases hi : i < 8
  · have : (a.testBit i = true ↔ c.testBit i = true) := by
      rw [a3 i hi, c3 i]
      constructor
      · rintro (q | ⟨s, q1, q2, q3⟩)
        · exact absurd q (z0 i)
        · rcases sIn_or V pn (iN s) with e | ⟨p, hp, e, e2⟩
          · rw [e] at q3; exact absurd q3.symm (iN_eqm (by omega))
          · rw [e, iN_eq (by omega) (by omega)] at q3
            subst q3
            exact Or.inr ⟨by omega, by omega, decide_eq_true (by rw [e2]; exact iN_eqm (by omega))⟩
      · rintro (q | ⟨q1, q2, q3⟩)
        · exact absurd q (z0 i)
        · have hV : ¬ V (9 + 4 * i + 3) = -1 := of_decide_eq_true q3
          rcases (hW.2.1 i (by omega)).1 with e | ⟨s, hs, e⟩
          · exact absurd e hV
          · have hf := sIn_found hW (show i < pn by omega) hV
            rw [e] at hf
            exact Or.inr ⟨s, by omega, by omega, hf⟩
    cases h1 : a.testBit i <;> cases h2 : c.testBit i
    · rfl
    · rw [h1, h2] at this; exact absurd (this.mpr rfl) (by decide)
    · rw [h1, h2] at this; exact absurd (this.mp rfl) (by decide)
    · rfl
  · rw [Nat.testBit_lt_two_pow (Nat.lt_of_lt_of_le a1 (Nat.pow_le_pow_right (n := 2) (by decide) (show 8 ≤ i by omega))), Nat.testBit_lt_two_pow (Nat.lt_of_lt_of_le (show c < 256 by omega) (Nat.pow_le_pow_right (n := 2) (by decide) (show 8 ≤ i by omega)))]
theorem c_nailed_4 (hC : CI x iv u V pn on L) {P : Int32 → g_H → Prop} : ∀ (k s N : Nat) (y : Int32), s + k = 10 → k < N → (gW (f_X1_nailedOnes_4 N x y (iN s)) (iv, u) P ↔ P (slF V pn k s y) (iv, u)) := by
  have HX := hC.X
  intro k
  induction k with
  | zero =>
    intro s N y h1 h2
    obtain ⟨N, rfl⟩ : ∃ N', N = N' + 1 := ⟨N - 1, by omega⟩
    have : s = 10 := by omega
    subst this
    unfold f_X1_nailedOnes_4 f_X1_nailedOnes_47
    rw [gW_ift (by decide), gW_ret]
    rfl
  | succ k ih =>
    intro s N y h1 h2
    obtain ⟨N, rfl⟩ : ∃ N', N = N' + 1 := ⟨N - 1, by omega⟩
    rw [f_X1_nailedOnes_4, gW_iff (by rw [show (10 : Int32) = iN 10 from rfl, iN_le (by omega) (by omega)]; omega), gW_B, rXr1 HX, gW_B, rSr3 HX.nw, gW_B, rSa3 HX.nw (by omega), hC.s (by omega), slF]
    unfold f_X1_nailedOnes_39
    by_cases c : sIn V pn (iN s) = -1
    · rw [gW_ift c, if_pos c, iNp1]
      exact ih (s + 1) N _ (by omega) (by omega)
    · rw [gW_iff c, if_neg c, gW_B, rXr1 HX, gW_B, rSr3 HX.nw, gW_B, rSa3 HX.nw (by omega), hC.s (by omega), iNp1]
      exact ih (s + 1) N _ (by omega) (by omega)
theorem m_nailed_4 (hM : MI x iv u V pn on L) {P : Int32 → g_H → Prop} : ∀ (k p N : Nat) (y : Int32), p + k = pn → k < N → (gW (f_X8_nailedOnes_4 N (x + 353) y (iN p)) (iv, u) P ↔ P (obF (nlB V) k p y) (iv, u)) := by
  have H := hM.M
  have h8 := hM.p8
  intro k
  induction k with
  | zero =>
    intro p N y h1 h2
    obtain ⟨N, rfl⟩ : ∃ N', N = N' + 1 := ⟨N - 1, by omega⟩
    unfold f_X8_nailedOnes_4 f_X8_nailedOnes_36
    rw [gW_B, rMc H, gW_B, w_props H, hM.pN, gW_ift (by rw [iN_le (by omega) (by omega)]; omega), gW_ret]
    rfl
  | succ k ih =>
    intro p N y h1 h2
    obtain ⟨N, rfl⟩ : ∃ N', N = N' + 1 := ⟨N - 1, by omega⟩
    rw [f_X8_nailedOnes_4, gW_B, rMc H, gW_B, w_props H, hM.pN, gW_iff (by rw [iN_le (by omega) (by omega)]; omega), gW_B, rMc H, gW_B, w_isNailed H (by omega), hM.vE, obF]
    unfold f_X8_nailedOnes_28
    by_cases c : V (9 + 4 * p + 3) = -1
    · have : ¬ nlB V p = true := fun q => of_decide_eq_true q c
      rw [bI_f (fun q => q c), gW_ift rfl, if_neg this, iNp1]
      exact ih (p + 1) N _ (by omega) (by omega)
    · have : nlB V p = true := decide_eq_true c
      rw [bI_t c, gW_iff (by decide), if_pos this, iNp1]
      exact ih (p + 1) N _ (by omega) (by omega)
/-! quiet -/
def scT (V : Nat → Int32) (pn : Nat) (L : gLw) (w : Int32) (o : Nat) : Bool := decide (¬ (rO V pn L o false false w 0).2.1 = -1)
def quQ (V : Nat → Int32) (pn : Nat) (L : gLw) (w : Int32) (o : Nat) : Bool := !(decide (V (41 + 4 * o + 3) = 0) && (scT V pn L w o && decide (¬ V (41 + 4 * o + 0) = 0)))
def qaF (Q : Nat → Bool) : Nat → Nat → Bool
  | 0, _ => true
  | k + 1, o => Q o && qaF Q k (o + 1)
theorem qaF_iff {Q : Nat → Bool} : ∀ (k o : Nat), (qaF Q k o = true ↔ ∀ i : Nat, o ≤ i → i < o + k → Q i = true) := by
  intro k
  induction k with
  | zero => exact fun o => ⟨fun _ i h1 h2 => by omega, fun _ => rfl⟩
  | succ k ih =>
    intro o
    rw [qaF, Bool.and_eq_true, ih (o + 1)]
    constructor
    · intro h i h1 h2
      by_cases e : i = o
      · rw [e]; exact h.1
      · exact h.2 i (by omega) (by omega)
    · exact fun h => ⟨h o (by omega) (by omega), fun i h1 h2 => h i (by omega) (by omega)⟩
theorem m_quiet_4 {o0 : Nat} {wt : Int32} (e24 : iv (x + 353) 24 = 0) (e23 : iv (x + 353) 23 = wt) {P : Int32 → g_H → Prop} : ∀ (k o N : Nat) (q : Bool) (jv : gV), o + k = on → k < N → Sm x iv jv → MI x jv u V pn on L → (∀ kv : gV, Sm x iv kv → MI x kv u V pn on L → P (bI ((q && qaF (quQ V pn L wt) k o) = true)) (kv, u)) → gW (f_X8_isQuiet_4 N (x + 353) (bI (q = true)) (iN o)) (jv, u) P := by
  intro k
  induction k with
  | zero =>
    intro o N q jv h1 h2 hS hM hP
    obtain ⟨N, rfl⟩ : ∃ N', N = N' + 1 := ⟨N - 1, by omega⟩
    have H := hM.M
    have h6 := hM.o6
    unfold f_X8_isQuiet_4 f_X8_isQuiet_53
    rw [gW_B, rMc H, gW_B, w_oneCount H, hM.oN, gW_ift (by rw [iN_le (by omega) (by omega)]; omega), gW_gd1 bI_o]
    have := hP jv hS hM
    rw [qaF, Bool.and_true] at this
    exact this
  | succ k ih =>
    intro o N q jv h1 h2 hS hM hP
    obtain ⟨N, rfl⟩ : ∃ N', N = N' + 1 := ⟨N - 1, by omega⟩
    have H := hM.M
    have h6 := hM.o6
    have ho : o < on := by omega
    rw [f_X8_isQuiet_4, gW_B, rMc H, gW_B, w_oneCount H, hM.oN, gW_iff (by rw [iN_le (by omega) (by omega)]; omega)]
    unfold f_X8_isQuiet_45 f_X8_isQuiet_41 f_X8_isQuiet_46
    rw [qaF] at hP
    have go : ∀ (q2 : Bool) (kv : gV), q2 = (q && quQ V pn L wt o) → Sm x iv kv → MI x kv u V pn on L → gW (f_X8_isQuiet_4 N (x + 353) (bI (q2 = true)) (iN o + 1)) (kv, u) P := by
      intro q2 kv hq g1 g2
      rw [iNp1]
      rw [← Bool.and_assoc, ← hq] at hP
      exact ih (o + 1) N q2 kv (by omega) (by omega) g1 g2 hP
    have go0 : ∀ kv : gV, (q && quQ V pn L wt o) = false → Sm x iv kv → MI x kv u V pn on L → gW (f_X8_isQuiet_4 N (x + 353) 0 (iN o + 1)) (kv, u) P := fun kv hq g1 g2 => by
      have := go false kv hq.symm g1 g2
      rw [bI_f (show ¬ false = true by decide)] at this
      exact this
    have go1 : ∀ kv : gV, (q && quQ V pn L wt o) = true → Sm x iv kv → MI x kv u V pn on L → gW (f_X8_isQuiet_4 N (x + 353) 1 (iN o + 1)) (kv, u) P := fun kv hq g1 g2 => by
      have := go true kv hq.symm g1 g2
      rw [bI_t (show true = true from rfl)] at this
      exact this
    cases q with
    | false =>
      rw [bI_f (show ¬ false = true by decide), gW_ift rfl]
      exact go0 jv (by rw [Bool.false_and]) hS hM
    | true =>
      rw [bI_t (show true = true from rfl), gW_iff (by decide), gW_B, rMc H, gW_B, w_waits H (by omega), hM.vE]
      by_cases c : V (41 + 4 * o + 3) = 0
      · rw [bI_t c, gW_iff (by decide), gW_B, rMc H, gW_B, w_isInnocent H (by omega), hM.vE]
        by_cases c2 : V (41 + 4 * o + 0) = 0
        · rw [bI_t c2, gW_iff (by decide)]
          have d2 : decide (¬ V (41 + 4 * o + 0) = 0) = false := decide_eq_false (fun q => q c2)
          exact go1 jv (by unfold quQ; rw [d2, Bool.and_false, Bool.and_false]; rfl) hS hM
        · rw [bI_f c2, gW_ift rfl, gW_B, rMc H, gW_B]
          obtain ⟨r, hr⟩ : ∃ r, rO V pn L o false false wt 0 = r := ⟨_, rfl⟩
          have hsc : scT V pn L wt o = decide (¬ r.2.1 = -1) := by unfold scT; rw [hr]
          have hqq : quQ V pn L wt o = !decide (¬ r.2.1 = -1) := by
            unfold quQ
            rw [hsc, decide_eq_true c, decide_eq_true c2, Bool.true_and, Bool.and_true]
          rw [hqq] at go0 go1
          refine m_straight hM ho (r := r) (by rw [hS.1 23 (by omega), hS.1 24 (by omega), e23, e24]; exact hr) (fun j1 S1 _ _ => ?_)
          clear hr hsc hqq
          have M1 := hM.fr S1.S
          refine scr_if (fun q => ?_) (fun q => ?_)
          · exact go1 j1 (by rw [Bool.eq_false_iff.mpr q]; rfl) (hS.tr S1) M1
          · exact go0 j1 (by rw [q]; rfl) (hS.tr S1) M1
      · rw [bI_f c, gW_ift rfl]
        have d2 : decide (V (41 + 4 * o + 3) = 0) = false := decide_eq_false c
        exact go1 jv (by unfold quQ; rw [d2, Bool.false_and]; rfl) hS hM
/-- which sets leave it quiet -/
def leT (V : Nat → Int32) (pn on : Nat) (L : gLw) (g : Int32) (s : Nat) : Bool := decide (iN s &&& (g ^^^ -1) = 0) && qaF (quQ V pn L (iN s)) on 0
/-! the component: who screams in what is left -/
theorem snF_ob {V : Nat → Int32} : ∀ (k o : Nat) (y : Int32), snF V pn L k o y = obF (fun o => decide (V (41 + 4 * o + 3) = 0) && scO V pn L o) k o y := by
  intro k
  induction k with
  | zero => exact fun _ _ => rfl
  | succ k ih =>
    intro o y
    rw [snF, obF, ih]
    by_cases c : V (41 + 4 * o + 3) = 0
    · rw [if_pos c, decide_eq_true c, Bool.true_and]
    · rw [if_neg c, decide_eq_false c, Bool.false_and, if_neg (by decide), Int32.or_zero]
theorem c_guilty_4 (hC : CI x iv u V pn on L) {P : Int32 → g_H → Prop} : ∀ (k o N : Nat) (y : Int32), o + k = on → k < N → (gW (f_X1_guiltyOnes_4 N x y (iN o)) (iv, u) P ↔ P (obF (fun o => decide (¬ V (41 + 4 * o + 0) = 0)) k o y) (iv, u)) := by
  have HX := hC.X
  have h6 := hC.o6
  intro k
  induction k with
  | zero =>
    intro o N y h1 h2
    obtain ⟨N, rfl⟩ : ∃ N', N = N' + 1 := ⟨N - 1, by omega⟩
    unfold f_X1_guiltyOnes_4 f_X1_guiltyOnes_46
    rw [gW_B, rXr1 HX, gW_B, rSi HX.nw, hC.oN, gW_ift (by rw [iN_le (by omega) (by omega)]; omega), gW_ret]
    rfl
  | succ k ih =>
    intro o N y h1 h2
    obtain ⟨N, rfl⟩ : ∃ N', N = N' + 1 := ⟨N - 1, by omega⟩
    rw [f_X1_guiltyOnes_4, gW_B, rXr1 HX, gW_B, rSi HX.nw, hC.oN, gW_iff (by rw [iN_le (by omega) (by omega)]; omega), gW_B, rXr1 HX, gW_B, rSr1 HX.nw, gW_B, rSO HX.nw (by omega), gW_B, rSOi HX.nw (by omega), hC.o (show o < on by omega) (by decide), obF]
    unfold f_X1_guiltyOnes_38
    by_cases c : V (41 + 4 * o + 0) = 0
    · have : ¬ decide (¬ V (41 + 4 * o + 0) = 0) = true := fun q => of_decide_eq_true q c
      rw [gW_ift c, if_neg this, iNp1]
      exact ih (o + 1) N _ (by omega) (by omega)
    · have : decide (¬ V (41 + 4 * o + 0) = 0) = true := decide_eq_true c
      rw [gW_iff c, if_pos this, iNp1]
      exact ih (o + 1) N _ (by omega) (by omega)
end LEA
