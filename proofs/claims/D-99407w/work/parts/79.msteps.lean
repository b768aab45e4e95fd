/-! THE MODEL'S STEPS, AND WHAT THEY SAY -/
section MD
variable {iv jv kv lv : gV} {u v w y : gU} {x : Nat} {h : g_H} {B : Nat → Int32} {e : Nat} {D D' F : Nat → Int32}
theorem sRun_add : ∀ (k l i : Nat) (q : gQs), sRun D F (k + l) i q = sRun D F l (i + k) (sRun D F k i q) := by
  intro k
  induction k with
  | zero => intro l i q; rw [Nat.zero_add]; rfl
  | succ k ih => intro l i q; rw [show k + 1 + l = k + l + 1 by omega, sRun, ih, sRun, show i + 1 + k = i + (k + 1) by omega]
theorem sRok_add : ∀ (k l i : Nat) (q : gQs), sRok D F (k + l) i q ↔ sRok D F k i q ∧ sRok D F l (i + k) (sRun D F k i q) := by
  intro k
  induction k with
  | zero => intro l i q; rw [Nat.zero_add]; exact ⟨fun z => ⟨trivial, z⟩, fun z => z.2⟩
  | succ k ih =>
    intro l i q
    rw [show k + 1 + l = k + l + 1 by omega, sRok, ih, sRok, sRun, show i + 1 + k = i + (k + 1) by omega]
    exact ⟨fun z => ⟨⟨z.1, z.2.1⟩, z.2.2⟩, fun z => ⟨z.1.1, z.1.2, z.2⟩⟩
theorem sRun_c : ∀ (k i : Nat) (q : gQs), (∀ j : Nat, 354 + 2 * i ≤ j → j < 354 + 2 * (i + k) → D j = D' j) → sRun D F k i q = sRun D' F k i q ∧ (sRok D F k i q ↔ sRok D' F k i q) := by
  intro k
  induction k with
  | zero => exact fun _ _ _ => ⟨rfl, Iff.rfl⟩
  | succ k ih =>
    intro i q hD
    have h1 := hD (354 + 2 * i) (by omega) (by omega)
    have h2 := hD (354 + 2 * i + 1) (by omega) (by omega)
    obtain ⟨i1, i2⟩ := ih (i + 1) (sStp F (D (354 + 2 * i)) (D (354 + 2 * i + 1)) q) (fun j a b => hD j (by omega) (by omega))
    rw [sRun, sRun, sRok, sRok, ← h1, ← h2, i1]
    exact ⟨rfl, and_congr_right fun _ => i2⟩
/-- steps b to f lay one value: what G says -/
def mD (D : Nat → Int32) (b f : Nat) (G : sGs) : Prop := b < f ∧ ∀ F : Nat → Int32, okF F → ∀ q : gQs, q.1 + (f - b) ≤ 400 → sRok D F (f - b) b q ∧ (sRun D F (f - b) b q).1 = q.1 + 1 ∧ (∀ j : Nat, j < q.1 → (sRun D F (f - b) b q).2 j = q.2 j) ∧ (sRun D F (f - b) b q).2 q.1 = G F
theorem mD.c {b f : Nat} {G : sGs} (h : mD D b f G) (hD : ∀ j : Nat, 354 + 2 * b ≤ j → j < 354 + 2 * f → D j = D' j) : mD D' b f G := by
  refine ⟨h.1, fun F hF q hq => ?_⟩
  obtain ⟨c1, c2⟩ := sRun_c (F := F) (f - b) b q (fun j h1 h2 => hD j h1 (by have := h.1; omega))
  have := h.2 F hF q hq
  rw [c1, c2] at this
  exact this
theorem mD_push {b : Nat} {k n : Int32} {G : sGs} (hk : ¬ 8 < k) (h1 : D (354 + 2 * b) = k) (h2 : D (354 + 2 * b + 1) = n) (hG : ∀ F : Nat → Int32, okF F → sFact F k n = G F) : mD D b (b + 1) G := by
  refine ⟨by omega, fun F hF q hq => ?_⟩
  rw [show b + 1 - b = 1 by omega] at hq ⊢
  rw [sRun, sRun, sRok, sRok, h1, h2]
  unfold sStp sOk1
  rw [if_neg hk, if_neg hk]
  refine ⟨⟨by omega, trivial⟩, rfl, fun j hj => va_up_ne _ _ (by omega), ?_⟩
  show va_up q.2 q.1 _ q.1 = _
  rw [va_up_self]
  exact hG F hF
theorem mD_bin {b c d : Nat} {op : Int32} {G G' H : sGs} (h1 : mD D b c G) (h2 : mD D c d G') (hop : 8 < op) (hop2 : op ≠ 12) (ho : D (354 + 2 * d) = op) (hH : ∀ F : Nat → Int32, okF F → sBin op (G F) (G' F) = H F) : mD D b (d + 1) H := by
  obtain ⟨l1, m1⟩ := h1
  obtain ⟨l2, m2⟩ := h2
  refine ⟨by omega, fun F hF q hq => ?_⟩
  obtain ⟨a1, a2, a3, a4⟩ := m1 F hF q (by omega)
  obtain ⟨b1, b2, b3, b4⟩ := m2 F hF (sRun D F (c - b) b q) (by omega)
  rw [show d + 1 - b = (c - b) + ((d - c) + 1) by omega, sRun_add, sRok_add, show b + (c - b) = c by omega, sRun_add, sRok_add, show c + (d - c) = d by omega]
  generalize sRun D F (c - b) b q = q1 at a2 a3 a4 b1 b2 b3 b4 ⊢
  generalize sRun D F (d - c) c q1 = q2 at b2 b3 b4 ⊢
  rw [sRun, sRun, sRok, sRok, ho]
  unfold sStp sOk1
  rw [if_pos hop, if_neg hop2, if_pos hop, if_neg hop2]
  have e1 : q2.1 = q.1 + 2 := by omega
  refine ⟨⟨a1, b1, ⟨by omega, by omega⟩, trivial⟩, by show q2.1 - 1 = _; omega, fun j hj => ?_, ?_⟩
  · show va_up q2.2 (q2.1 - 2) _ j = _
    rw [va_up_ne _ _ (by omega), b3 j (by omega), a3 j hj]
  · show va_up q2.2 (q2.1 - 2) _ q.1 = _
    rw [show q2.1 - 2 = q.1 by omega, va_up_self, show q2.1 - 1 = q1.1 by omega, b4, b3 q.1 (by omega), a4]
    exact hH F hF
theorem mD_not {b c : Nat} {G H : sGs} (h1 : mD D b c G) (ho : D (354 + 2 * c) = 12) (hH : ∀ F : Nat → Int32, okF F → 1 - G F = H F) : mD D b (c + 1) H := by
  obtain ⟨l1, m1⟩ := h1
  refine ⟨by omega, fun F hF q hq => ?_⟩
  obtain ⟨a1, a2, a3, a4⟩ := m1 F hF q (by omega)
  rw [show c + 1 - b = (c - b) + 1 by omega, sRun_add, sRok_add, show b + (c - b) = c by omega]
  generalize sRun D F (c - b) b q = q1 at a2 a3 a4 ⊢
  rw [sRun, sRun, sRok, sRok, ho]
  unfold sStp sOk1
  rw [if_pos (by decide), if_pos rfl, if_pos (by decide), if_pos rfl]
  refine ⟨⟨a1, ⟨by omega, by omega⟩, trivial⟩, a2, fun j hj => ?_, ?_⟩
  · show va_up q1.2 (q1.1 - 1) _ j = _
    rw [va_up_ne _ _ (by omega), a3 j hj]
  · show va_up q1.2 (q1.1 - 1) _ q.1 = _
    rw [show q1.1 - 1 = q.1 by omega, va_up_self, a4]
    exact hH F hF
/-- the draft's steps, as if they were the law's -/
def Dw (x : Nat) (iv : gV) : Nat → Int32 := fun k => iv (x + 353 + 1) (k + 849)
/-- from a heap to another: steps st to st' are new -/
def QM (x : Nat) (iv jv : gV) (st st' : Nat) : Prop := (∀ k : Nat, k ≠ 10 → k ≠ 12 → k ≠ 16 → jv (x + 353) k = iv (x + 353) k) ∧ jv (x + 353) 16 = iN st' ∧ (∀ a : Nat, a ≠ x + 353 → a ≠ x + 353 + 1 → jv a = iv a) ∧ ∀ k : Nat, k < 1203 + 2 * st → jv (x + 353 + 1) k = iv (x + 353 + 1) k
/-- the reading has failed at f -/
def QN (x : Nat) (iv jv : gV) (st f : Nat) : Prop := (∀ k : Nat, k ≠ 10 → k ≠ 12 → k ≠ 13 → k ≠ 16 → jv (x + 353) k = iv (x + 353) k) ∧ jv (x + 353) 12 = iN f ∧ (∀ a : Nat, a ≠ x + 353 → a ≠ x + 353 + 1 → jv a = iv a) ∧ ∀ k : Nat, k < 1203 + 2 * st → jv (x + 353 + 1) k = iv (x + 353 + 1) k
theorem QM.tr {a b c : Nat} (h : QM x iv jv a b) (g : QM x jv kv b c) (hab : a ≤ b) : QM x iv kv a c := ⟨fun k k1 k2 k3 => (g.1 k k1 k2 k3).trans (h.1 k k1 k2 k3), g.2.1, fun k k1 k2 => (g.2.2.1 k k1 k2).trans (h.2.2.1 k k1 k2), fun k hk => (g.2.2.2 k (by omega)).trans (h.2.2.2 k hk)⟩
theorem QM.trF {a b f : Nat} (h : QM x iv jv a b) (g : QN x jv kv b f) (hab : a ≤ b) : QN x iv kv a f := ⟨fun k k1 k2 k3 k4 => (g.1 k k1 k2 k3 k4).trans (h.1 k k1 k2 k4), g.2.1, fun k k1 k2 => (g.2.2.1 k k1 k2).trans (h.2.2.1 k k1 k2), fun k hk => (g.2.2.2 k (by omega)).trans (h.2.2.2 k hk)⟩
theorem QM.rf {st : Nat} (h : iv (x + 353) 16 = iN st) : QM x iv iv st st := ⟨fun _ _ _ _ => rfl, h, fun _ _ _ => rfl, fun _ _ => rfl⟩
theorem QM.mt {a b c d : Nat} (h : QM x iv jv a b) : QM x iv (mT x jv c d) a b := ⟨fun k k1 k2 k3 => (mT_k k1 k2).trans (h.1 k k1 k2 k3), mT_16.trans h.2.1, fun k k1 k2 => (mT_a k1).trans (h.2.2.1 k k1 k2), fun k hk => (by rw [mT_1]; exact h.2.2.2 k hk)⟩
theorem QM.mN {a b c d : Nat} (h : QM x iv jv a b) : QN x iv (mT x jv c d) a c := ⟨fun k k1 k2 _ k4 => (mT_k k1 k2).trans (h.1 k k1 k2 k4), mT_12, fun k k1 k2 => (mT_a k1).trans (h.2.2.1 k k1 k2), fun k hk => (by rw [mT_1]; exact h.2.2.2 k hk)⟩
theorem PM.qm {a b : Nat} (h : PM x iv u B e) (q : QM x iv jv a b) : PM x jv u B e := h.fr (q.1 11 (by decide) (by decide) (by decide)) (q.2.2.1 _ (by omega) (by omega)) (fun a ha => q.2.2.1 a (by omega) (by omega))
/-- a step is laid -/
def em (x : Nat) (iv : gV) (st : Nat) (op n : Int32) : gV := g_u2 (g_u2 (g_u2 iv (x + 353 + 1) (1203 + 2 * st) op) (x + 353 + 1) (1203 + 2 * st + 1) n) (x + 353) 16 (iN (st + 1))
theorem em_q {st : Nat} {op n : Int32} : QM x iv (em x iv st op n) st (st + 1) := by
  unfold em
  refine ⟨fun k _ _ k3 => ?_, ?_, fun a a1 a2 => ?_, fun k hk => ?_⟩
  · rw [g_u2_self, va_up_ne _ _ k3, g_u2_ne _ _ _ (by omega), g_u2_ne _ _ _ (by omega)]
  · rw [g_u2_self, va_up_self]
  · rw [g_u2_ne _ _ _ a1, g_u2_ne _ _ _ a2, g_u2_ne _ _ _ a2]
  · rw [g_u2_ne _ _ _ (by omega), g_u2_self, va_up_ne _ _ (by omega), g_u2_self, va_up_ne _ _ (by omega)]
theorem em_D {st : Nat} {op n : Int32} : Dw x (em x iv st op n) (354 + 2 * st) = op ∧ Dw x (em x iv st op n) (354 + 2 * st + 1) = n := by
  unfold Dw em
  rw [g_u2_ne _ _ _ (by omega), g_u2_self, g_u2_self]
  refine ⟨?_, ?_⟩
  · rw [show 354 + 2 * st + 849 = 1203 + 2 * st by omega, va_up_ne _ _ (by omega), va_up_self]
  · rw [show 354 + 2 * st + 1 + 849 = 1203 + 2 * st + 1 by omega, va_up_self]
theorem em_mT {st c d : Nat} {op n : Int32} : em x (mT x iv c d) st op n = mT x (em x iv st op n) c d := by
  unfold em mT
  have cm : ∀ (f : gV) (a a' k k' : Nat) (z z' : Int32), a ≠ a' → g_u2 (g_u2 f a k z) a' k' z' = g_u2 (g_u2 f a' k' z') a k z := by
    intro f a a' k k' z z' hne
    funext b
    by_cases h1 : b = a
    · subst h1
      rw [g_u2_ne _ _ _ hne, g_u2_self, g_u2_self, g_u2_ne _ _ _ hne]
    · by_cases h2 : b = a'
      · subst h2
        rw [g_u2_self, g_u2_ne _ _ _ h1, g_u2_ne _ _ _ h1, g_u2_self]
      · rw [g_u2_ne _ _ _ h2, g_u2_ne _ _ _ h1, g_u2_ne _ _ _ h1, g_u2_ne _ _ _ h2]
  rw [cm _ (x + 353) (x + 353 + 1) 10 (1203 + 2 * st) _ _ (by omega), cm _ (x + 353) (x + 353 + 1) 12 (1203 + 2 * st) _ _ (by omega), cm _ (x + 353) (x + 353 + 1) 10 _ _ _ (by omega), cm _ (x + 353) (x + 353 + 1) 12 _ _ _ (by omega), g_u2_sw _ _ _ _ (show (10 : Nat) ≠ 16 by decide), g_u2_sw _ _ _ _ (show (12 : Nat) ≠ 16 by decide)]
theorem w_emits (H : MS u (x + 353)) {st : Nat} (hst : st ≤ 399) (h16 : iv (x + 353) 16 = iN st) {op n : Int32} {P : Unit → g_H → Prop} : gW (f_X8_emits (x + 353) op n) (iv, u) P ↔ P () (em x iv st op n, u) := by
  have e1 : ∀ (k : Nat) (z : Int32), g_u2 iv (x + 353 + 1) k z (x + 353) = iv (x + 353) := fun k z => g_u2_ne _ _ _ (by omega)
  have e2 : ∀ (k k' : Nat) (z z' : Int32), g_u2 (g_u2 iv (x + 353 + 1) k z) (x + 353 + 1) k' z' (x + 353) = iv (x + 353) := fun k k' z z' => by rw [g_u2_ne _ _ _ (by omega), g_u2_ne _ _ _ (by omega)]
  unfold f_X8_emits em
  simp (disch := omega) only [gW_B, gW_ret, gW_tr, gW_fa, rMi H, rMp H, rMc H, rMr0 H, rMr1 H, rMr2 H, rMr3 H, rMr4 H, rMr5 H, rMr6 H, rMr7 H, rMr8 H, rMr9 H, rMr10 H, rMr11 H, rMr12 H, rMr13 H, rMr14 H, rMa0 H, rMa1 H, rMa2 H, rMa3 H, rMa4 H, rMa5 H, rMa6 H, rMa7 H, rMa8 H, rMa9 H, rMa10 H, rMa11 H, rMa12 H, rMa13 H, rMa14 H, rMs0 H, rMs1 H, rMs2 H, rMs3 H, rMs4 H, rMs5 H, rMs6 H, rMs7 H, rMs8 H, rMs9 H, rMs10 H, rMs11 H, rMs12 H, rMs13 H, rMs14 H, rMA0_0 H, rMA0_1 H, rMA0_2 H, rMA0_3 H, rMA0_4 H, rMA0_5 H, rMA0_6 H, rMA0_7 H, rMA0_8 H, rMA0_65 H, rMA0_66 H, rMA0_67 H, rMA0_68 H, rMA0_305 H, rMA0_1154 H, rMS0_0 H, rMS0_1 H, rMS0_2 H, rMS0_3 H, rMS0_4 H, rMS0_5 H, rMS0_6 H, rMS0_7 H, rMS0_8 H, rMS0_65 H, rMS0_66 H, rMS0_67 H, rMS0_68 H, rMS0_305 H, rMS0_1154 H, rMA7_0 H, rMS6_0 H, rMS6_1 H, rMS6_2 H, rMS6_3 H, rMS6_4 H, iN_add, iN_mul, iN_sub, iN_m1, iNp1, iNp2, iNp3, iNp4, iNp5, iNp6, iNp8, iNp12, iNp16, iNp20, iNp305, iNl1, iNl6, iNl9, iNl12, iNl41, iNl65, iNl305, iNl306, iNl354, iNl1154, iNl1155, iNl1203, iNm2, iNm4, iNm6, iNm8, iNm10, iNm12, iNm60, iNm305, iNs1, iNs4, iNs8, h16, e1, e2]
/-- a step behind others -/
theorem w_emM (h : PM x iv u B e) {st c d : Nat} (hst : st ≤ 399) (h16 : iv (x + 353) 16 = iN st) {op n : Int32} {P : Unit → g_H → Prop} : gW (f_X8_emits (x + 353) op n) (mT x iv c d, u) P ↔ P () (mT x (em x iv st op n) c d, u) := by
  rw [w_emits h.M hst (by rw [mT_16]; exact h16), em_mT]
theorem Dw_lo {a b : Nat} (q : QM x iv jv a b) {j : Nat} (hj : j < 354 + 2 * a) : Dw x iv j = Dw x jv j := (q.2.2.2 (j + 849) (by omega)).symm
theorem mD.qm {a b c d : Nat} {G : sGs} (hm : mD (Dw x iv) a b G) (q : QM x iv jv c d) (hbc : b ≤ c) : mD (Dw x jv) a b G := hm.c (fun j _ h2 => Dw_lo q (by omega))
end MD
