/-! OPS: mornings -/
section MOR
variable {iv jv kv lv : gV} {u v : gU} {x z b n t : Nat} {V : Nat → Int32} {pn on rm : Nat} {L : gLw}
/-- how worn a prop is -/
noncomputable def wnP (V : Nat → Int32) (p : Nat) : Nat := (V (9 + 4 * p + 2)).toNatClampNeg
theorem wnP_e (hW : WI V pn on) {p : Nat} (hp : p < pn) : V (9 + 4 * p + 2) = iN (wnP V p) ∧ wnP V p ≤ 99 := by
  obtain ⟨-, -, -, w, h1, h2⟩ := hW.2.1 p hp
  unfold wnP
  rw [h2, iN_c (by omega)]
  exact ⟨rfl, h1⟩
/-- behind j props -/
noncomputable def moS (V : Nat → Int32) (nn j : Nat) : Nat → Int32 := fun k => if 11 ≤ k ∧ k < 11 + 4 * j ∧ k % 4 = 3 ∧ ¬ V (k + 1) = -1 then iN ((V k).toNatClampNeg - nn) else V k
theorem mo_p {nn j p f : Nat} (hf : f < 4) : moS V nn j (9 + 4 * p + f) = if f = 2 ∧ p < j ∧ ¬ V (9 + 4 * p + 3) = -1 then iN (wnP V p - nn) else V (9 + 4 * p + f) := by
  unfold moS
  by_cases c : f = 2 ∧ p < j ∧ ¬ V (9 + 4 * p + 3) = -1
  · rw [if_pos c]
    obtain ⟨rfl, c1, c2⟩ := c
    rw [if_pos ⟨by omega, by omega, by omega, by rw [show 9 + 4 * p + 2 + 1 = 9 + 4 * p + 3 by omega]; exact c2⟩]
    rfl
  · rw [if_neg c, if_neg (fun q => c ?_)]
    have e2 : f = 2 := by omega
    subst e2
    exact ⟨rfl, by omega, by have := q.2.2.2; rw [show 9 + 4 * p + 2 + 1 = 9 + 4 * p + 3 by omega] at this; exact this⟩
theorem mo_o {nn j k : Nat} (h : ¬ (11 ≤ k ∧ k < 11 + 4 * j ∧ k % 4 = 3)) : moS V nn j k = V k := if_neg (fun q => h ⟨q.1, q.2.1, q.2.2.1⟩)
theorem mo_n {nn j : Nat} (h : V (9 + 4 * j + 3) = -1) : moS V nn (j + 1) = moS V nn j := by
  funext k
  unfold moS
  by_cases c : 11 ≤ k ∧ k < 11 + 4 * j ∧ k % 4 = 3 ∧ ¬ V (k + 1) = -1
  · rw [if_pos c, if_pos ⟨c.1, by omega, c.2.2⟩]
  · rw [if_neg c, if_neg (fun q => ?_)]
    have : k = 9 + 4 * j + 2 := by
      by_cases e : k < 11 + 4 * j
      · exact absurd ⟨q.1, e, q.2.2⟩ c
      · omega
    rw [this, show 9 + 4 * j + 2 + 1 = 9 + 4 * j + 3 by omega] at q
    exact q.2.2.2 h
theorem mo_y {nn j : Nat} (h : ¬ V (9 + 4 * j + 3) = -1) : moS V nn (j + 1) = va_up (moS V nn j) (9 + 4 * j + 2) (iN (wnP V j - nn)) := by
  funext k
  by_cases e : k = 9 + 4 * j + 2
  · rw [e, va_up_self, mo_p (by decide), if_pos ⟨rfl, by omega, h⟩]
  · rw [va_up_ne _ _ e]
    unfold moS
    by_cases c : 11 ≤ k ∧ k < 11 + 4 * j ∧ k % 4 = 3 ∧ ¬ V (k + 1) = -1
    · rw [if_pos c, if_pos ⟨c.1, by omega, c.2.2⟩]
    · rw [if_neg c, if_neg (fun q => c ⟨q.1, by omega, q.2.2⟩)]
theorem mo_0 {nn : Nat} : moS V nn 0 = V := by
  funext k
  exact mo_o (by omega)
/-- the component's props, behind s slots -/
def moC (x : Nat) (jv : gV) (V : Nat → Int32) (pn nn s : Nat) : Prop := ∀ p : Nat, p < pn → ∀ f : Nat, f < 4 → jv (x + 28 + 7 + p) f = if f = 2 ∧ ¬ V (9 + 4 * p + 3) = -1 ∧ (V (9 + 4 * p + 3)).toNatClampNeg < s then iN (wnP V p - nn) else V (9 + 4 * p + f)
theorem c_morn_18 (H : XS v x) (hW : WI V pn on) {nn : Nat} (hn : nn ≤ 60) {P : Int32 ⊕ gE → g_H → Prop} : ∀ (k s N m : Nat) (jv : gV), s + k = 10 → k < N → (∀ s : Nat, s < 10 → jv (x + 28 + 4) s = sIn V pn (iN s)) → moC x jv V pn nn s → (∀ kv : gV, (∀ c : Nat, (c < x + 28 + 7 ∨ x + 28 + 15 ≤ c) → kv c = jv c) → moC x kv V pn nn 10 → gW (f_X1_mornings_89 x (iN nn) (iN (m + nS (tSl V pn (fun p => wnP V p - nn)) k s))) (kv, v) P) → gW (f_X1_mornings_18 N x (iN nn) (iN m) (iN s)) (jv, v) P := by
  have h8 := hW.1.2.1
  intro k
  induction k with
  | zero =>
    intro s N m jv h1 h2 hs hc hP
    obtain ⟨N, rfl⟩ : ∃ N', N = N' + 1 := ⟨N - 1, by omega⟩
    have : s = 10 := by omega
    subst this
    rw [f_X1_mornings_18, gW_ift (by decide)]
    exact hP jv (fun _ _ => rfl) hc
  | succ k ih =>
    intro s N m jv h1 h2 hs hc hP
    obtain ⟨N, rfl⟩ : ∃ N', N = N' + 1 := ⟨N - 1, by omega⟩
    have sl : s < 10 := by omega
    rw [f_X1_mornings_18, gW_iff (by rw [show (10 : Int32) = iN 10 from rfl, iN_le (by omega) (by omega)]; omega), gW_B, rXr1 H, gW_B, rSr3 H.nw, gW_B, rSa3 H.nw sl, hs s sl]
    unfold f_X1_mornings_83
    rw [nS, ← Nat.add_assoc] at hP
    unfold tSl at hP
    rcases sIn_or V pn (iN s) with e | ⟨p, hp, e, e2⟩
    · rw [if_pos e, Nat.add_zero] at hP
      rw [gW_ift e, iNp1]
      refine ih (s + 1) N m jv (by omega) (by omega) hs (fun p hp f hf => ?_) hP
      rw [hc p hp f hf]
      have nn1 := sIn_none hW e (iN_eqm (by omega)) p hp
      by_cases c : f = 2 ∧ ¬ V (9 + 4 * p + 3) = -1 ∧ (V (9 + 4 * p + 3)).toNatClampNeg < s
      · rw [if_pos c, if_pos ⟨c.1, c.2.1, by omega⟩]
      · rw [if_neg c, if_neg (fun q => ?_)]
        rcases (hW.2.1 p hp).1 with q2 | ⟨s', hs', q2⟩
        · exact q.2.1 q2
        · have q3 := q.2.2
          have c3 : ¬ (V (9 + 4 * p + 3)).toNatClampNeg < s := fun h => c ⟨q.1, q.2.1, h⟩
          rw [q2, iN_c (by omega)] at q3 c3
          exact nn1 (by rw [q2]; congr 1; omega)
    · have ne : ¬ iN p = (-1 : Int32) := iN_eqm (by omega)
      rw [e, if_neg ne, iN_c (by omega)] at hP
      obtain ⟨w1, w2⟩ := wnP_e hW hp
      have cw : jv (x + 28 + 7 + p) 2 = iN (wnP V p) := by
        rw [hc p hp 2 (by decide), if_neg (fun q => by have := q.2.2; rw [e2, iN_c (by omega)] at this; omega), w1]
      have nl : ¬ V (9 + 4 * p + 3) = -1 := by rw [e2]; exact iN_eqm (by omega)
      rw [e, gW_iff ne, gW_B, rXr1 H, gW_B, rSr0 H.nw, gW_B, rXr1 H, gW_B, rSr3 H.nw, gW_B, rSa3 H.nw sl, hs s sl, e, gW_B, rSP H.nw (by omega), gW_B, rSPi H.nw (by omega), cw, gW_B, w_max, mX_sub (by omega) (by omega), gW_B, rSPp H.nw (by omega), gW_B, rSPi H.nw (by omega), g_u2_self, va_up_self, iN_add, iNp1]
      have a1 : ∀ c : Nat, c ≠ x + 28 + 7 + p → g_u2 jv (x + 28 + 7 + p) 2 (iN (wnP V p - nn)) c = jv c := fun c hc => g_u2_ne _ _ _ hc
      have a2 : g_u2 jv (x + 28 + 7 + p) 2 (iN (wnP V p - nn)) (x + 28 + 7 + p) = va_up (jv (x + 28 + 7 + p)) 2 (iN (wnP V p - nn)) := g_u2_self _ _ _ _
      refine ih (s + 1) N _ _ (by omega) (by omega) (fun s' hs' => by rw [a1 _ (by omega)]; exact hs s' hs') (fun p' hp' f hf => ?_) (fun kv g1 g2 => hP kv (fun c hc => by rw [g1 c hc, a1 c (by omega)]) g2)
      by_cases ep : p' = p
      · subst ep
        rw [a2]
        by_cases ef : f = 2
        · rw [ef, va_up_self, if_pos ⟨rfl, nl, by rw [e2, iN_c (by omega)]; omega⟩]
        · rw [va_up_ne _ _ ef, hc p' hp' f hf, if_neg (fun q => ef q.1), if_neg (fun q => ef q.1)]
      · rw [a1 _ (by omega), hc p' hp' f hf]
        by_cases c : f = 2 ∧ ¬ V (9 + 4 * p' + 3) = -1 ∧ (V (9 + 4 * p' + 3)).toNatClampNeg < s
        · rw [if_pos c, if_pos ⟨c.1, c.2.1, by omega⟩]
        · rw [if_neg c, if_neg (fun q => ?_)]
          rcases (hW.2.1 p' hp').1 with q2 | ⟨s', hs', q2⟩
          · exact q.2.1 q2
          · have q3 := q.2.2
            have c3 : ¬ (V (9 + 4 * p' + 3)).toNatClampNeg < s := fun h => c ⟨q.1, q.2.1, h⟩
            rw [q2, iN_c (by omega)] at q3 c3
            have es : s' = s := by omega
            exact ep (hW.2.2.1 p' p hp' hp (by rw [q2, e2, es]) q.2.1)
theorem m_morn_38 (H : MS v (x + 353)) (hW : WI V pn on) {nn : Nat} (hn : nn ≤ 60) {P : Int32 → g_H → Prop} : ∀ (k p N m : Nat) (jv : gV), p + k = pn → k < N → jv (x + 353 + 1) = moS V nn p → (∀ kv : gV, (∀ c : Nat, c ≠ x + 353 + 1 → kv c = jv c) → kv (x + 353 + 1) = moS V nn pn → gW (f_X8_mornings_94 (x + 353) (iN nn) (iN (m + nS (tPr V (fun p => wnP V p - nn)) k p))) (kv, v) P) → gW (f_X8_mornings_38 N (x + 353) (iN nn) (iN m) (iN p)) (jv, v) P := by
  have h8 := hW.1.2.1
  intro k
  induction k with
  | zero =>
    intro p N m jv h1 h2 hj hP
    obtain ⟨N, rfl⟩ : ∃ N', N = N' + 1 := ⟨N - 1, by omega⟩
    have : p = pn := by omega
    subst this
    rw [f_X8_mornings_38, gW_B, rMc H, gW_B, w_props H, hj, mo_o (by omega), hW.1.1, gW_ift (Int32.le_refl _)]
    exact hP jv (fun _ _ => rfl) hj
  | succ k ih =>
    intro p N m jv h1 h2 hj hP
    obtain ⟨N, rfl⟩ : ∃ N', N = N' + 1 := ⟨N - 1, by omega⟩
    have hp : p < pn := by omega
    rw [f_X8_mornings_38, gW_B, rMc H, gW_B, w_props H, hj, mo_o (by omega), hW.1.1, gW_iff (by rw [iN_le (by omega) (by omega)]; omega), gW_B, rMc H, gW_B, w_isNailed H (by omega), hj, mo_p (by decide), if_neg (fun q => absurd q.1 (by decide))]
    unfold f_X8_mornings_88
    rw [nS, ← Nat.add_assoc] at hP
    unfold tPr at hP
    by_cases c : V (9 + 4 * p + 3) = -1
    · rw [if_pos c, Nat.add_zero] at hP
      rw [bI_f (fun q => q c), gW_ift rfl, iNp1]
      exact ih (p + 1) N m jv (by omega) (by omega) (by rw [mo_n c]; exact hj) hP
    · rw [if_neg c] at hP
      obtain ⟨w1, w2⟩ := wnP_e hW hp
      have cw : jv (x + 353 + 1) (9 + 4 * p + 2) = iN (wnP V p) := by rw [hj, mo_p (by decide), if_neg (fun q => absurd q.2.1 (by omega)), w1]
      rw [bI_t c, gW_iff (by decide), gW_B, rMr0 H, gW_B, wpA.2.2.1, gW_B, rMc H, gW_B, w_ofProp2 H (by omega), cw, gW_B, w_max, mX_sub (by omega) (by omega), gW_B, rMs0 H (by omega), gW_B, rMc H, gW_B, w_ofProp2 H (by omega), g_u2_self, va_up_self, iN_add, iNp1]
      refine ih (p + 1) N _ _ (by omega) (by omega) (by rw [g_u2_self, hj, mo_y c]) (fun kv g1 g2 => hP kv (fun c hc => by rw [g1 c hc, g_u2_ne _ _ _ hc]) g2)
/-- the court behind it -/
noncomputable def moV (V : Nat → Int32) (pn nn : Nat) : Nat → Int32 := va_up (moS V nn pn) 4 (mN 9999 (V 4 + iN nn))
theorem mo_WI (hW : WI V pn on) {nn : Nat} (hn : nn ≤ 60) : WI (moV V pn nn) pn on := by
  have h8 := hW.1.2.1
  have h6 := hW.1.2.2.2
  have hw : ∀ p : Nat, p < pn → wnP V p ≤ 99 := fun p hp => (wnP_e hW hp).2
  obtain ⟨⟨a1, a2, a3, a4⟩, b, c', d, f1, f2, f3, f4, f5⟩ := hW
  have o : ∀ k : Nat, ¬ (11 ≤ k ∧ k < 11 + 4 * pn ∧ k % 4 = 3) → k ≠ 4 → moV V pn nn k = V k := fun k h h4 => by
    unfold moV
    rw [va_up_ne _ _ h4, mo_o h]
  refine ⟨⟨by rw [o 0 (by omega) (by omega)]; exact a1, a2, by rw [o 1 (by omega) (by omega)]; exact a3, a4⟩, fun p hp => ?_, fun p q hp hq => ?_, fun o' ho' => ?_, ?_, ?_, ?_, ?_, ?_⟩
  · obtain ⟨d3, d0, d1, w, d2, d4⟩ := b p hp
    refine ⟨by rw [o _ (by omega) (by omega)]; exact d3, by rw [o _ (by omega) (by omega)]; exact d0, by rw [o _ (by omega) (by omega)]; exact d1, ?_⟩
    unfold moV
    rw [va_up_ne _ _ (by omega), mo_p (by decide)]
    split
    · exact ⟨_, by have := hw p hp; omega, rfl⟩
    · exact ⟨w, d2, d4⟩
  · rw [o _ (by omega) (by omega), o _ (by omega) (by omega)]; exact c' p q hp hq
  · rw [o _ (by omega) (by omega), o _ (by omega) (by omega), o _ (by omega) (by omega), o _ (by omega) (by omega)]; exact d o' ho'
  · rw [o 2 (by omega) (by omega)]; exact f1
  · obtain ⟨dd, e1, e2⟩ := f2
    unfold moV
    rw [va_up_self, e2, iN_add]
    unfold mN
    split
    · rename_i hlt
      rw [show (9999 : Int32) = iN 9999 from rfl, iN_lt (by omega) (by omega)] at hlt
      exact ⟨_, by omega, rfl⟩
    · exact ⟨9999, by omega, rfl⟩
  · rw [o 5 (by omega) (by omega)]; exact f3
  · rw [o 6 (by omega) (by omega)]; exact f4
  · rw [o 3 (by omega) (by omega)]; exact f5
theorem mo_cSt {b : Nat} (h : cSt iv b V pn on rm) (hW : WI V pn on) {nn : Nat} (e0 : ∀ k : Nat, k ≠ 10 → jv b k = iv b k) (e10 : jv b 10 = mN 9999 (V 4 + iN nn)) (e : ∀ a : Nat, b < a → a < b + 21 → (a < b + 7 ∨ b + 15 ≤ a) → jv a = iv a) (ep : ∀ p : Nat, p < pn → ∀ f : Nat, f < 4 → jv (b + 7 + p) f = if f = 2 ∧ ¬ V (9 + 4 * p + 3) = -1 then iN (wnP V p - nn) else V (9 + 4 * p + f)) : cSt jv b (moV V pn nn) pn on rm := by
  have h8 := hW.1.2.1
  have h6 := hW.1.2.2.2
  have o : ∀ k : Nat, ¬ (11 ≤ k ∧ k < 11 + 4 * pn ∧ k % 4 = 3) → k ≠ 4 → moV V pn nn k = V k := fun k h h4 => by
    unfold moV
    rw [va_up_ne _ _ h4, mo_o h]
  obtain ⟨⟨s1, s2, s3, s4, s5, s6, s7, s8⟩, sp, so, sl, sg, sr⟩ := h
  refine ⟨⟨?_, ?_, ?_, ?_, ?_, ?_, ?_, ?_⟩, fun p hp f hf => ?_, fun q hq f hf => ?_, fun s hs => ?_, ?_, fun a ha f hf => ?_⟩
  · rw [e0 6 (by decide), o 0 (by omega) (by omega)]; exact s1
  · rw [e0 7 (by decide), o 1 (by omega) (by omega)]; exact s2
  · rw [e0 9 (by decide), o 2 (by omega) (by omega)]; exact s3
  · rw [e10]; unfold moV; rw [va_up_self]
  · rw [e0 11 (by decide), o 5 (by omega) (by omega)]; exact s5
  · rw [e0 12 (by decide), o 6 (by omega) (by omega)]; exact s6
  · rw [e0 13 (by decide), o 8 (by omega) (by omega)]; exact s7
  · rw [e0 14 (by decide)]; exact s8
  · rw [ep p hp f hf]
    unfold moV
    rw [va_up_ne _ _ (by omega), mo_p hf]
    by_cases c : f = 2 ∧ ¬ V (9 + 4 * p + 3) = -1
    · rw [if_pos c, if_pos ⟨c.1, hp, c.2⟩]
    · rw [if_neg c, if_neg (fun q => c ⟨q.1, q.2.2⟩)]
  · rw [e _ (by omega) (by omega) (by omega), o _ (by omega) (by omega)]; exact so q hq f hf
  · rw [e _ (by omega) (by omega) (by omega), sIn_c (fun p hp => o _ (by omega) (by omega))]; exact sl s hs
  · rw [o 7 (by omega) (by omega)]; exact sg
  · rw [e _ (by omega) (by omega) (by omega), o _ (by omega) (by omega)]; exact sr a ha f hf
theorem o_mornings {a : Int32} : gOp x z b n t (f_X0_mornings x a (x + 369)) (f_X8_mornings (x + 353) a) := by
  intro iv u hR
  obtain ⟨pn, on, rm, L, q, r, hq, hr, g3, g4, g5, h1, h2, g6, hC, hM⟩ := hR.all
  have HX := hC.X
  have sO := hR.out
  have hW := h1.2.1
  have h8 := hW.1.2.1
  unfold f_X0_mornings f_X1_mornings
  rw [gW_B, rXc HX, gW_B, gW_B, w_isIn, gW_T]
  by_cases ha : 1 ≤ a ∧ a ≤ 60
  · obtain ⟨nn, hn, rfl⟩ := i_get2 (n := 60) (by decide) ⟨Int32.le_trans (by decide) ha.1, ha.2⟩
    rw [w_must_t (bI_t ha)]
    dsimp only
    rw [gW_B, rXc HX, gW_B]
    refine c_rem HX hM.M h1.1 hW hq hr g3 g5 (fun j1 v1 hA hk hj => ?_)
    have H1 := hA.2.1
    have M1 := hA.2.2.1
    have N1 := nowC h1.1 hW hr hj
    show gW (f_X1_mornings_18 gN x (iN nn) (iN 0) (iN 0)) _ _
    refine c_morn_18 H1 hW hn 10 0 gN 0 j1 (by omega) (by rw [gN_eq]; omega) N1.2.2.2.1 (fun p hp f hf => by rw [if_neg (fun q => absurd q.2.2 (Nat.not_lt_zero _))]; exact N1.2.1 p hp f hf) (fun k1 a1 b1 => ?_)
    unfold f_X1_mornings_89
    rw [gW_B, rXr1 H1, gW_B, rXr1 H1, gW_B, rSi H1.nw, a1 (x + 28) (by omega), N1.1.2.2.2.1, gW_B, w_min, gW_B, rSp H1.nw, gW_ret]
    show gW (gB (gSI (x + 369) 2 (0 : Int32) _) _) _ _
    rw [gW_B, w_outS (u := v1) (by rw [hA.2.2.2.1]; exact sO), gW_ret, slot_sum hW, Nat.zero_add]
    generalize hsum : nS (tPr (iv (x + 354)) (fun p => wnP (iv (x + 354)) p - nn)) pn 0 = sm
    have e1 : ∀ c : Nat, c ≠ x + 28 → c ≠ x + 369 → g_u2 (g_u2 k1 (x + 28) 10 (mN 9999 (iv (x + 354) 4 + iN nn))) (x + 369) 0 (iN sm) c = k1 c := fun c c1 c2 => by rw [g_u2_ne _ _ _ c2, g_u2_ne _ _ _ c1]
    have e2 : g_u2 (g_u2 k1 (x + 28) 10 (mN 9999 (iv (x + 354) 4 + iN nn))) (x + 369) 0 (iN sm) (x + 28) = va_up (k1 (x + 28)) 10 (mN 9999 (iv (x + 354) 4 + iN nn)) := by rw [g_u2_ne _ _ _ (by omega), g_u2_self]
    have e3 : g_u2 (g_u2 k1 (x + 28) 10 (mN 9999 (iv (x + 354) 4 + iN nn))) (x + 369) 0 (iN sm) (x + 369) 0 = iN sm := by rw [g_u2_self, va_up_self]
    generalize g_u2 (g_u2 k1 (x + 28) 10 (mN 9999 (iv (x + 354) 4 + iN nn))) (x + 369) 0 (iN sm) = j2 at e1 e2 e3 ⊢
    have eW : j2 (x + 354) = iv (x + 354) := by rw [e1 _ (by omega) (by omega), a1 _ (by omega), hj _ (by omega) (by omega)]
    have hM2 : MI x j2 v1 (iv (x + 354)) pn on L := ⟨M1, eW, hW, h2⟩
    unfold f_X8_mornings f_X8_mornings_21
    refine m_z hM2 (fun j3 z1 z2 z3 hM3 => ?_)
    have H := hM3.M
    rw [gW_B, m_in_t ha, gW_iff (by decide), gW_B, rMc H, gW_B, m_thr0, gW_ift rfl, gW_B, rMc H, gW_B]
    refine m_rem (iv := iv) H hq (by rw [z1.2.2.2.1 7 (by omega), e1 _ (by omega) (by omega), a1 _ (by omega), hj _ (by omega) (by omega)]; exact g4) (by rw [z3 _ (by omega)]; exact eW) (by rw [z3 _ (by omega), e1 _ (by omega) (by omega), a1 _ (by omega), hj _ (by omega) (by omega)]) (fun j4 m1 m2 m3 => ?_)
    have e4 : j4 (x + 353 + 1) = iv (x + 354) := by rw [m3 _ (by omega) (by omega), z3 _ (by omega)]; exact eW
    show gW (f_X8_mornings_38 gN (x + 353) (iN nn) (iN 0) (iN 0)) _ _
    refine m_morn_38 H hW hn pn 0 gN 0 j4 (by omega) (by rw [gN_eq]; omega) (by rw [e4, mo_0]) (fun j5 c1 c2 => ?_)
    unfold f_X8_mornings_94
    have c4 : j5 (x + 353 + 1) 4 = iv (x + 354) 4 := by rw [c2, mo_o (by omega)]
    rw [gW_B, rMr0 H, gW_B, rMr0 H, gW_B]
    show gW (gAI (x + 353 + 1) 0 (iN 4)) _ _
    rw [rMa0 H (by omega), c4, gW_B, w_min, gW_B]
    show gW (gSI (x + 353 + 1) 0 (iN 4) _) _ _
    rw [rMs0 H (by omega), gW_ret, Nat.zero_add, hsum]
    have e5 : g_u2 j5 (x + 353 + 1) 4 (mN 9999 (iv (x + 354) 4 + iN nn)) (x + 354) = moV (iv (x + 354)) pn nn := by
      show g_u2 j5 (x + 353 + 1) 4 _ (x + 353 + 1) = _
      rw [g_u2_self, c2]
      rfl
    have e6 : ∀ c : Nat, c ≠ x + 354 → g_u2 j5 (x + 353 + 1) 4 (mN 9999 (iv (x + 354) 4 + iN nn)) c = j4 c := fun c hc => by rw [g_u2_ne _ _ _ hc, c1 c hc]
    refine ⟨?_, ?_, act_fin (j5 := g_u2 j5 (x + 353 + 1) 4 (mN 9999 (iv (x + 354) 4 + iN nn))) hR h1 h2 hq hr g6 hA hk hj (fun a a1' a2' => by rw [e1 a (by omega) a2', a1 a (by omega)]) z1 z3 m1 m2 m3 e6 (pn' := pn) (on' := on) (rm' := rm) ?_ ?_ (by have := h1.2.2.1; omega) (by rw [e2, va_up_ne _ _ (by decide), a1 _ (by omega)]) (fun k hk => ?_)⟩
    · show g_u2 j5 (x + 353 + 1) 4 _ (x + 353) 0 = 0
      rw [e6 _ (by omega), m2 0 (by decide)]; exact z2
    · rw [oE0]
      show g_u2 j5 (x + 353 + 1) 4 _ (x + 369) 0 = _
      rw [e6 _ (by omega), m3 _ (by omega) (by omega), z3 _ (by omega)]; exact e3
    · rw [e5]
      refine mo_cSt N1 hW (fun k hk => by rw [e2, va_up_ne _ _ hk, a1 _ (by omega)]) (by rw [e2, va_up_self]) (fun a a1' a2' a3' => by rw [e1 _ (by omega) (by omega), a1 a (by omega)]) (fun p hp f hf => ?_)
      rw [e1 _ (by omega) (by omega), b1 p hp f hf]
      by_cases c : f = 2 ∧ ¬ iv (x + 354) (9 + 4 * p + 3) = -1
      · have : (iv (x + 354) (9 + 4 * p + 3)).toNatClampNeg < 10 := by
          rcases (hW.2.1 p hp).1 with q | ⟨s, hs, q⟩
          · exact absurd q c.2
          · rw [q, iN_c (by omega)]; exact hs
        rw [if_pos c, if_pos ⟨c.1, c.2, this⟩]
      · rw [if_neg c, if_neg (fun q => c ⟨q.1, q.2.1⟩)]
    · rw [e5]
      exact mo_WI hW hn
    · rw [e5]
      unfold moV
      rw [va_up_ne _ _ (by omega), mo_o (by omega)]
  · refine w_must_f (bI_f ha) (fun a' jv v hT => ?_)
    show gW (gIf ((17 : Nat) = 17) (gRet 1) gFail) (jv, v) _
    rw [gW_ift rfl, gW_ret]
    refine op_thr hR hT (by decide) ?_
    unfold f_X8_mornings f_X8_mornings_21
    refine m_z (hM.th hR.nx hT) (fun lv z1 z2 z3 hM2 => ?_)
    have H := hM2.M
    rw [gW_B, m_in_f ha, gW_ift rfl, gW_B, rMc H, gW_B, m_thr1 H, gW_iff (by decide), gW_ret]
    exact m_te z1
end MOR
