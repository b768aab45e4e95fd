/-! OPS: leave, set by set -/
section LE2
variable {iv jv kv lv j0 : gV} {u v w : gU} {x z b n t : Nat} {V M : Nat → Int32} {pn on rm : Nat} {L : gLw}
theorem scO_tk (hW : WI V pn on) {o : Nat} (ho : o < on) {w : Int32} : scO (tkV V pn w) pn L o = scT V pn L w o := by
  unfold scO scT
  rw [rO_tk hW ho]
theorem le_quiet (hW : WI V pn on) {w : Int32} : (snF (tkV V pn w) pn L on 0 0 &&& obF (fun o => decide (¬ tkV V pn w (41 + 4 * o + 0) = 0)) on 0 0 = 0) ↔ qaF (quQ V pn L w) on 0 = true := by
  have h8 := hW.1.2.1
  have h6 := hW.1.2.2.2
  rw [snF_ob, ob_and (by omega), qaF_iff]
  have e3 : ∀ o : Nat, tkV V pn w (41 + 4 * o + 3) = V (41 + 4 * o + 3) := fun o => tk_o (by omega)
  have e0 : ∀ o : Nat, tkV V pn w (41 + 4 * o + 0) = V (41 + 4 * o + 0) := fun o => tk_o (by omega)
  have one : ∀ o : Nat, o < on → ((¬ ((decide (tkV V pn w (41 + 4 * o + 3) = 0) && scO (tkV V pn w) pn L o) = true ∧ decide (¬ tkV V pn w (41 + 4 * o + 0) = 0) = true)) ↔ quQ V pn L w o = true) := by
    intro o ho
    unfold quQ
    rw [scO_tk hW ho]
    simp only [e3, e0]
    generalize decide (V (41 + 4 * o + 3) = 0) = a
    generalize scT V pn L w o = c
    generalize decide (¬ V (41 + 4 * o + 0) = 0) = d
    cases a <;> cases c <;> cases d <;> decide
  exact ⟨fun h o h1 h2 => (one o (by omega)).mp (h o (by omega)), fun h o ho => (one o ho).mpr (h o (by omega) (by omega))⟩
/-- slots and props when those below j are taken -/
def tcI (x : Nat) (j0 jv : gV) (V : Nat → Int32) (pn : Nat) (w : Int32) (j : Nat) : Prop := (∀ s : Nat, s < 10 → jv (x + 28 + 4) s = if sIn V pn (iN s) = -1 then -1 else if (sIn V pn (iN s)).toNatClampNeg < j ∧ bit w (sIn V pn (iN s)).toNatClampNeg then -1 else sIn V pn (iN s)) ∧ (∀ p : Nat, j ≤ p → p < pn → jv (x + 28 + 7 + p) 3 = V (9 + 4 * p + 3)) ∧ (∀ a : Nat, a ≠ x + 28 + 4 → (a < x + 35 ∨ x + 43 ≤ a) → jv a = j0 a) ∧ ∀ (a f : Nat), x + 35 ≤ a → a < x + 43 → f ≠ 3 → jv a f = j0 a f
theorem c_leave_63 (HX : XS v x) (hW : WI V pn on) (hpN : j0 (x + 28) 6 = iN pn) {wn : Nat} (hsub : ∀ p : Nat, p < pn → bit (iN wn) p → ¬ V (9 + 4 * p + 3) = -1) {y1 y2 : Int32} {k20 : Nat → Int32 → Int32 → Int32 → gM Int32} {P : Int32 → g_H → Prop} : ∀ (k p N : Nat) (jv : gV), p + k = pn → k < N → tcI x j0 jv V pn (iN wn) p → (∀ kv : gV, tcI x j0 kv V pn (iN wn) pn → gW (f_X1_leave_111 k20 x y1 y2 (iN wn)) (kv, v) P) → gW (f_X1_leave_63 k20 N x y1 y2 (iN wn) (iN p)) (jv, v) P := by
  have h8 := hW.1.2.1
  intro k
  induction k with
  | zero =>
    intro p N jv h1 h2 hI hP
    obtain ⟨N, rfl⟩ : ∃ N', N = N' + 1 := ⟨N - 1, by omega⟩
    have : p = pn := by omega
    subst this
    rw [f_X1_leave_63, gW_B, rXr1 HX, gW_B, rSi HX.nw, hI.2.2.1 _ (by omega) (by omega), hpN, gW_ift (Int32.le_refl _)]
    exact hP jv hI
  | succ k ih =>
    intro p N jv h1 h2 hI hP
    obtain ⟨N, rfl⟩ : ∃ N', N = N' + 1 := ⟨N - 1, by omega⟩
    have hp : p < pn := by omega
    obtain ⟨i1, i2, i3, i4⟩ := hI
    rw [f_X1_leave_63, gW_B, rXr1 HX, gW_B, rSi HX.nw, i3 _ (by omega) (by omega), hpN, gW_iff (by rw [iN_le (by omega) (by omega)]; omega)]
    unfold f_X1_leave_105
    by_cases hb : bit (iN wn) p
    · have hb0 : (iN wn >>> (iN p &&& 31)) &&& 1 = 1 := hb
      have hV := hsub p hp hb
      rcases (hW.2.1 p hp).1 with e | ⟨s0, hs0, e⟩
      · exact absurd e hV
      · have hf := sIn_found hW hp hV
        rw [e] at hf
        have sl : jv (x + 28 + 4) s0 = iN p := by
          rw [i1 s0 hs0, hf, if_neg (iN_eqm (by omega)), if_neg (fun q => by have := q.1; rw [iN_c (by omega)] at this; omega)]
        rw [gW_ift hb0, gW_B, rXr1 HX, gW_B, rXr1 HX, gW_B, rSr0 HX.nw, gW_B, rSP HX.nw (by omega), gW_B, rSPi HX.nw (by omega), i2 p (Nat.le_refl _) hp, e, gW_B, rSc HX.nw, gW_B]
        unfold f_X3_takes
        rw [gW_B, rSr0 HX.nw, gW_B, rSr3 HX.nw, gW_B, rSa3 HX.nw hs0, sl, gW_B, rSP HX.nw (by omega), gW_B, rSPp HX.nw (by omega), gW_B, rSr3 HX.nw, gW_B, rSs3 HX.nw hs0, gW_ret, iNp1]
        have a1 : ∀ a : Nat, a ≠ x + 28 + 7 + p → a ≠ x + 28 + 4 → g_u2 (g_u2 jv (x + 28 + 7 + p) 3 (-1)) (x + 28 + 4) s0 (-1) a = jv a := fun a c1 c2 => by rw [g_u2_ne _ _ _ c2, g_u2_ne _ _ _ c1]
        have a2 : g_u2 (g_u2 jv (x + 28 + 7 + p) 3 (-1)) (x + 28 + 4) s0 (-1) (x + 28 + 7 + p) = va_up (jv (x + 28 + 7 + p)) 3 (-1) := by rw [g_u2_ne _ _ _ (by omega), g_u2_self]
        have a3 : g_u2 (g_u2 jv (x + 28 + 7 + p) 3 (-1)) (x + 28 + 4) s0 (-1) (x + 28 + 4) = va_up (jv (x + 28 + 4)) s0 (-1) := by rw [g_u2_self, g_u2_ne _ _ _ (by omega)]
        refine ih (p + 1) N _ (by omega) (by omega) ⟨fun s hs => ?_, fun q hq1 hq2 => ?_, fun a c1 c2 => ?_, fun a f c1 c2 c3 => ?_⟩ hP
        · rw [a3]
          by_cases es : s = s0
          · rw [es, va_up_self, hf, if_neg (iN_eqm (by omega)), if_pos (by rw [iN_c (by omega)]; exact ⟨by omega, hb⟩)]
          · rw [va_up_ne _ _ es, i1 s hs]
            rcases sIn_or V pn (iN s) with q | ⟨q, hq, q1, q2⟩
            · rw [if_pos q, if_pos q]
            · have ne : q ≠ p := fun h => by
                rw [h, e, iN_eq (by omega) (by omega)] at q2
                exact es q2.symm
              rw [q1, if_neg (iN_eqm (by omega)), if_neg (iN_eqm (by omega)), iN_c (by omega)]
              by_cases c : q < p ∧ bit (iN wn) q
              · rw [if_pos c, if_pos ⟨by omega, c.2⟩]
              · rw [if_neg c, if_neg (fun h => c ⟨by omega, h.2⟩)]
        · rw [a1 _ (by omega) (by omega)]; exact i2 q (by omega) hq2
        · rw [a1 a (by omega) c1]; exact i3 a c1 c2
        · by_cases ea : a = x + 28 + 7 + p
          · rw [ea, a2, va_up_ne _ _ c3]; rw [← ea]; exact i4 a f c1 c2 c3
          · rw [a1 a ea (by omega)]; exact i4 a f c1 c2 c3
    · have hb0 : ¬ (iN wn >>> (iN p &&& 31)) &&& 1 = 1 := hb
      rw [gW_iff hb0, iNp1]
      refine ih (p + 1) N jv (by omega) (by omega) ⟨fun s hs => ?_, fun q hq1 hq2 => i2 q (by omega) hq2, i3, i4⟩ hP
      rw [i1 s hs]
      rcases sIn_or V pn (iN s) with q | ⟨q, hq, q1, q2⟩
      · rw [if_pos q, if_pos q]
      · rw [q1, if_neg (iN_eqm (by omega)), if_neg (iN_eqm (by omega)), iN_c (by omega)]
        by_cases c : q < p ∧ bit (iN wn) q
        · rw [if_pos c, if_pos ⟨by omega, c.2⟩]
        · rw [if_neg c, if_neg (fun h => ?_)]
          by_cases eq : q = p
          · rw [eq] at h; exact hb h.2
          · exact c ⟨by omega, h.2⟩
theorem CI.tc (hC : CI x j0 v V pn on L) {wn : Nat} (hI : tcI x j0 jv V pn (iN wn) pn) : CI x jv v (tkV V pn (iN wn)) pn on L := by
  obtain ⟨i1, i2, i3, i4⟩ := hI
  obtain ⟨c1, ⟨s1, s2, s3, s4, s5, sp, so, sl⟩, c3, c4, c5⟩ := hC
  have h8 := c3.1.2.1
  have h6 := c3.1.2.2.2
  have o : ∀ k : Nat, ¬ (12 ≤ k ∧ k < 12 + 4 * pn ∧ k % 4 = 0) → tkV V pn (iN wn) k = V k := fun k h => tk_o h
  refine ⟨c1, ⟨?_, ?_, ?_, ?_, ?_, fun p hp f hf => ?_, fun q hq f hf => ?_, fun s hs => ?_⟩, tk_WI c3, c4.fr Ux.rf (fun a _ _ => i3 a (by omega) (by omega)) (by rw [i3 _ (by omega) (by omega)]) (by omega), c5⟩
  · rw [i3 _ (by omega) (by omega)]; exact s1
  · rw [i3 _ (by omega) (by omega)]; exact s2
  · rw [i3 _ (by omega) (by omega), o 5 (by omega)]; exact s3
  · rw [i3 _ (by omega) (by omega), o 6 (by omega)]; exact s4
  · rw [i3 _ (by omega) (by omega), o 8 (by omega)]; exact s5
  · rw [i4 _ f (by omega) (by omega) (by omega), tk_f hp hf]; exact sp p hp f hf
  · rw [i3 _ (by omega) (by omega), o _ (by omega)]; exact so q hq f hf
  · rw [i1 s hs, tk_sIn c3 hs]
    unfold sOn
    rcases sIn_or V pn (iN s) with q | ⟨q, hq, q1, q2⟩
    · rw [if_pos q, if_pos q]
    · rw [q1, if_neg (iN_eqm (by omega)), if_neg (iN_eqm (by omega)), iN_c (by omega)]
      by_cases c : bit (iN wn) q
      · rw [if_pos ⟨hq, c⟩, if_pos c]
      · rw [if_neg (fun h => c h.2), if_neg c]
/-- between two sets -/
def leI (x : Nat) (iv : gV) (v : gU) (V : Nat → Int32) (pn on rm : Nat) (L : gLw) (jv : gV) : Prop := Sp x iv jv ∧ CI x jv v V pn on L ∧ cSt jv (x + 28) V pn on rm ∧ cSt jv (x + 70) V pn on rm ∧ jv (x + 70) 8 = iv (x + 28) 8 ∧ jv (x + 28) 8 = iv (x + 28) 8
theorem c_leave_20 (hU : uPt u v x) (h17 : iv x 17 = -1) {g : Nat} (hg : g < 256) (hgn : ∀ i : Nat, i < 8 → (g.testBit i = true → i < pn ∧ ¬ V (9 + 4 * i + 3) = -1)) {P : Int32 → g_H → Prop} : ∀ (k s N : Nat) (F : Int32) (jv : gV), s + k = 2 ^ pn → k < N → leI x iv v V pn on rm L jv → (∀ kv : gV, leI x iv v V pn on rm L kv → P (srF (leT V pn on L (iN g)) k s F) (kv, v)) → gW (f_X1_leave_20 N x (iN g) F (iN s)) (jv, v) P := by
  intro k
  induction k with
  | zero =>
    intro s N F jv h1 h2 hI hP
    obtain ⟨N, rfl⟩ : ∃ N', N = N' + 1 := ⟨N - 1, by omega⟩
    have HX := hI.2.1.X
    have h8 := hI.2.1.p8
    have hp2 := p2_le h8
    unfold f_X1_leave_20 f_X1_leave_142
    rw [gW_B, rXr1 HX, gW_B, rSi HX.nw, hI.2.1.pN, (sh2 pn h8).1, gW_ift (by rw [iN_le (by omega) (by omega)]; omega), gW_ret]
    exact hP jv hI
  | succ k ih =>
    intro s N F jv h1 h2 hI hP
    obtain ⟨N, rfl⟩ : ∃ N', N = N' + 1 := ⟨N - 1, by omega⟩
    have hC := hI.2.1
    have HX := hC.X
    have h8 := hC.p8
    have h6 := hC.o6
    have hW := hC.W
    have hp2 := p2_le h8
    rw [f_X1_leave_20, gW_B, rXr1 HX, gW_B, rSi HX.nw, hC.pN, (sh2 pn h8).1, gW_iff (by rw [iN_le (by omega) (by omega)]; omega)]
    rw [srF] at hP
    have skip : ¬ ((F = -1 ∨ ¬ bC F ≤ bC (iN s)) ∧ leT V pn on L (iN g) s = true) → gW (f_X1_leave_136 (f_X1_leave_20 N) x (iN g) F (iN s)) (jv, v) P := by
      intro hn
      unfold f_X1_leave_136
      rw [if_neg hn] at hP
      rw [iNp1]
      exact ih (s + 1) N F jv (by omega) (by omega) hI hP
    by_cases c1 : iN s &&& (iN g ^^^ -1) = 0
    · rw [gW_ift c1]
      have sub := sub_nat (show s < 256 by omega) hg c1
      have tst : (F = -1 ∨ ¬ bC F ≤ bC (iN s)) → gW (f_X1_leave_60 (f_X1_leave_20 N) x (iN g) F (iN s)) (jv, v) P := by
        intro hF
        unfold f_X1_leave_60
        show gW (f_X1_leave_63 (f_X1_leave_20 N) gN x (iN g) F (iN s) (iN 0)) _ _
        refine c_leave_63 (j0 := jv) HX hW hC.pN (fun p hp hb => ?_) pn 0 gN jv (by omega) (by rw [gN_eq]; omega) ⟨fun s' hs' => ?_, fun p _ hp => hI.2.2.1.2.1 p hp 3 (by decide), fun _ _ _ => rfl, fun _ _ _ _ _ => rfl⟩ (fun j1 hT => ?_)
        · have h3 := (bit_tb s (by omega) p (by omega)).mp hb
          rw [← sub, Nat.testBit_and, Bool.and_eq_true] at h3
          exact (hgn p (by omega) h3.2).2
        · rw [hC.s hs']
          by_cases q : sIn V pn (iN s') = -1
          · rw [if_pos q, q]
          · rw [if_neg q, if_neg (fun h => absurd h.1 (Nat.not_lt_zero _))]
        · have C1 := hC.tc hT
          obtain ⟨t1, t2, t3, t4⟩ := hT
          have h17j : j1 x 17 = -1 := by rw [t3 _ (by omega) (by omega), hI.1.1 17 (by decide) (by decide) (by decide)]; exact h17
          unfold f_X1_leave_111
          rw [gW_B, rXc HX, gW_B]
          refine c_screamsNow C1 h17j (fun j2 S2 F2 C2 => ?_)
          rw [gW_B, rXc HX, gW_B]
          unfold f_X1_guiltyOnes
          show gW (f_X1_guiltyOnes_4 gN x 0 (iN 0)) _ _
          rw [c_guilty_4 C2 on 0 gN 0 (by omega) (by rw [gN_eq]; omega)]
          -- back to what was
          have back : ∀ F' : Int32, (∀ kv : gV, leI x iv v V pn on rm L kv → P (srF (leT V pn on L (iN g)) k (s + 1) F') (kv, v)) → gW (f_X1_leave_125 (f_X1_leave_20 N) x (iN g) F' (iN s)) (j2, v) P := by
            intro F' hF'
            unfold f_X1_leave_125 f_X1_leave_136
            rw [gW_B, rXr1 HX, gW_B, rXr3 HX, gW_B, rSc HX.nw, gW_B]
            have p70 : ∀ a : Nat, x + 70 ≤ a → a < x + 91 → j2 a = jv a := fun a a1 a2 => by rw [F2 a (by omega) (by omega) (by omega), t3 a (by omega) (by omega)]
            refine c_back hU (hI.2.2.2.1.fr h8 h6 (fun k _ => by rw [p70 _ (by omega) (by omega)]) (fun a a1 a2 _ => p70 a (by omega) (by omega))) hW (fun j3 b1 b2 b3 => ?_)
            rw [iNp1]
            have out : ∀ a : Nat, (a < x + 28 ∨ x + 49 ≤ a) → a ≠ x → a ≠ x + 98 → j3 a = jv a := fun a a1 a2 a3 => by rw [b3 a a1, F2 a a2 (by omega) a3, t3 a (by omega) (by omega)]
            have e8 : j3 (x + 28) 8 = jv (x + 28) 8 := by rw [b2, p70 _ (by omega) (by omega), hI.2.2.2.2.1, hI.2.2.2.2.2]
            have S3 : Sp x iv j3 := (hI.1.tr (Sp.nw (fun a ha => t3 a (by omega) (by omega)))).tr (S2.P.tr (Sp.nw (fun a ha => b3 a (by omega))))
            have C3 : CI x j3 v V pn on L := by
              have hK : Kx x jv v j3 v := ⟨fun a q1 q2 => ⟨out a (by omega) (by omega) (by omega), rfl, rfl⟩, Nat.le_refl _⟩
              exact ⟨HX, b1.toW hW, hW, hC.2.2.2.1.fr2 hK e8 rfl, hC.2.2.2.2⟩
            refine ih (s + 1) N F' j3 (by omega) (by omega) ⟨S3, C3, b1, hI.2.2.2.1.fr h8 h6 (fun k _ => by rw [b3 _ (by omega), p70 _ (by omega) (by omega)]) (fun a a1 a2 _ => by rw [b3 a (by omega), p70 a (by omega) (by omega)]), by rw [b3 _ (by omega), p70 _ (by omega) (by omega)]; exact hI.2.2.2.2.1, by rw [e8]; exact hI.2.2.2.2.2⟩ hF'
          have hq := le_quiet (L := L) hW (w := iN s)
          by_cases c2 : snF (tkV V pn (iN s)) pn L on 0 0 &&& obF (fun o => decide (¬ tkV V pn (iN s) (41 + 4 * o + 0) = 0)) on 0 0 = 0
          · have : leT V pn on L (iN g) s = true := by unfold leT; rw [decide_eq_true c1, hq.mp c2]; rfl
            rw [if_pos ⟨hF, this⟩] at hP
            rw [gW_ift c2]
            exact back _ hP
          · have : ¬ leT V pn on L (iN g) s = true := fun h => by
              unfold leT at h
              rw [Bool.and_eq_true] at h
              exact c2 (hq.mpr h.2)
            rw [if_neg (fun q => this q.2)] at hP
            rw [gW_iff c2]
            exact back _ hP
      by_cases c2 : F = -1
      · rw [gW_ift c2]
        exact tst (Or.inl c2)
      · rw [gW_iff c2, gW_B, w_bitCount, gW_B, w_bitCount]
        by_cases c3 : bC (iN s) < bC F
        · rw [gW_ift c3]
          exact tst (Or.inr (Int32.not_le.mpr c3))
        · rw [gW_iff c3]
          exact skip (fun q => q.1.elim c2 (fun q2 => q2 (Int32.not_lt.mp c3)))
    · rw [gW_iff c1]
      exact skip (fun q => by
        have := q.2
        unfold leT at this
        rw [Bool.and_eq_true, decide_eq_true_eq] at this
        exact c1 this.1)
/-! the model -/
theorem Sm.w23 (h : Sm x iv jv) (y : Int32) : Sm x (g_u2 iv (x + 353) 23 y) (g_u2 jv (x + 353) 23 y) := by
  refine ⟨fun k a => ?_, fun a q => ?_⟩
  · rw [g_u2_self, g_u2_self]
    by_cases e : k = 23
    · rw [e, va_up_self, va_up_self]
    · rw [va_up_ne _ _ e, va_up_ne _ _ e]; exact h.1 k a
  · rw [g_u2_ne _ _ _ (by omega), g_u2_ne _ _ _ (by omega)]; exact h.a q
theorem MI.w23 (hM : MI x iv u V pn on L) (y : Int32) : MI x (g_u2 iv (x + 353) 23 y) u V pn on L := ⟨hM.1, by rw [g_u2_ne _ _ _ (by omega)]; exact hM.vE, hM.2.2⟩
theorem m_leave_14 (h24 : iv (x + 353) 24 = 0) {g : Nat} {P : Int32 → g_H → Prop} : ∀ (s N : Nat) (F y : Int32) (jv : gV), s ≤ 256 → s < N → Sm x (g_u2 iv (x + 353) 23 y) jv → MI x jv u V pn on L → (∀ kv : gV, Sm x (g_u2 iv (x + 353) 23 0) kv → P (smF (leT V pn on L (iN g)) s F) (kv, u)) → gW (f_X8_leave_14 N (x + 353) (iN g) F (iN s - 1)) (jv, u) P := by
  intro s
  induction s with
  | zero =>
    intro N F y jv h1 h2 hS hM hP
    obtain ⟨N, rfl⟩ : ∃ N', N = N' + 1 := ⟨N - 1, by omega⟩
    have H := hM.M
    unfold f_X8_leave_14 f_X8_leave_61
    rw [gW_ift (by decide), gW_B, rMp H, gW_ret]
    have := hS.w23 0
    rw [g_u2_2] at this
    exact hP _ this
  | succ s ih =>
    intro N F y jv h1 h2 hS hM hP
    obtain ⟨N, rfl⟩ : ∃ N', N = N' + 1 := ⟨N - 1, by omega⟩
    have H := hM.M
    have h6 := hM.o6
    have es : iN (s + 1) - 1 = iN s := by rw [iNs1 (by omega)]; rfl
    have ed : iN s + -1 = iN s - 1 := (Int32.sub_eq_add_neg (iN s) 1).symm
    rw [es, f_X8_leave_14, gW_iff (iN_0 (by omega)), gW_B, rMp H]
    have S1 := hS.w23 (iN s)
    rw [g_u2_2] at S1
    have M1 := hM.w23 (iN s)
    have f23 : g_u2 jv (x + 353) 23 (iN s) (x + 353) 23 = iN s := by rw [g_u2_self, va_up_self]
    have f24 : g_u2 jv (x + 353) 23 (iN s) (x + 353) 24 = 0 := by rw [S1.1 24 (by omega), g_u2_self, va_up_ne _ _ (by decide)]; exact h24
    generalize g_u2 jv (x + 353) 23 (iN s) = j1 at S1 M1 f23 f24 ⊢
    unfold f_X8_leave_53 f_X8_leave_54
    rw [ed]
    rw [smF] at hP
    have skip : ∀ kv : gV, Sm x j1 kv → MI x kv u V pn on L → ¬ (¬ bC F < bC (iN s) ∧ leT V pn on L (iN g) s = true) → gW (f_X8_leave_14 N (x + 353) (iN g) F (iN s - 1)) (kv, u) P := by
      intro kv g1 g2 hn
      rw [if_neg hn] at hP
      exact ih N F (iN s) kv (by omega) (by omega) (S1.tr g1) g2 hP
    by_cases c1 : iN s &&& (iN g ^^^ -1) = 0
    · rw [gW_ift c1, gW_B, w_bitCount, gW_B, w_bitCount]
      by_cases c2 : bC F < bC (iN s)
      · rw [gW_ift c2]
        exact skip j1 Sm.rf M1 (fun q => q.1 c2)
      · rw [gW_iff c2, gW_B, rMc H, gW_B]
        unfold f_X8_isQuiet
        have key := m_quiet_4 (iv := j1) (o0 := 0) (wt := iN s) (P := fun r103 h1 => gW (gIf (r103 = 0) (f_X8_leave_14 N (x + 353) (iN g) F (iN s - 1)) (f_X8_leave_14 N (x + 353) (iN g) (iN s) (iN s - 1))) h1 P) f24 f23 on 0 gN true j1 (by omega) (by rw [gN_eq]; omega) Sm.rf M1 (fun kv g1 g2 => ?_)
        · rw [bI_t rfl] at key
          exact key
        · rw [Bool.true_and]
          by_cases c3 : qaF (quQ V pn L (iN s)) on 0 = true
          · have : leT V pn on L (iN g) s = true := by unfold leT; rw [decide_eq_true c1, c3]; rfl
            rw [if_pos ⟨c2, this⟩] at hP
            rw [bI_t c3, gW_iff (by decide)]
            exact ih N _ (iN s) kv (by omega) (by omega) (S1.tr g1) g2 hP
          · rw [bI_f c3, gW_ift rfl]
            exact skip kv g1 g2 (fun q => c3 (by
              have := q.2
              unfold leT at this
              rw [Bool.and_eq_true] at this
              exact this.2))
    · rw [gW_iff c1]
      exact skip j1 Sm.rf M1 (fun q => by
        have := q.2
        unfold leT at this
        rw [Bool.and_eq_true, decide_eq_true_eq] at this
        exact c1 this.1)
/-- when all is down nobody screams -/
theorem rd_empty {fr wr : Nat → Int32 → Int32} {on' : Nat → Int32} {calm nerve : Int32} {es : Int32} {c : Nat} (hc : c < 1000 ∧ calm = iN c) (hn : ¬ nerve < 0) : ∀ (k s : Nat) (z : gRz), (∀ j : Nat, s ≤ j → j < s + k → on' j = -1) → z.1.1 = 0 → z.2.1 = -1 → (rdLoop fr wr on' calm nerve false false es k s z).2.1 = -1 := by
  intro k
  induction k with
  | zero => intro s z _ _ h; rw [rdLoop]; exact h
  | succ k ih =>
    intro s z h h1 h2
    have st : rdStep fr wr (on' s) calm false es z.1 = ((0, z.1.2.1, z.1.2.2.1, z.1.2.2.2), 0) := by
      unfold rdStep
      have m0 : mX 0 (0 - calm) = 0 := by
        have := mX_sub (a := 0) (c := c) (by omega) (by omega)
        rw [Nat.zero_sub] at this
        rw [hc.2]
        exact this
      rw [if_pos (h s (Nat.le_refl _) (by omega)), h1, m0]
    rw [rdLoop, if_pos h2, st]
    refine ih (s + 1) _ (fun j a1 a2 => h j (by omega) (by omega)) rfl ?_
    exact if_neg (fun q => hn q.1)
theorem le_all (hW : WI V pn on) {g : Nat} (hg : ∀ p : Nat, p < pn → ¬ V (9 + 4 * p + 3) = -1 → bit (iN g) p) : qaF (quQ V pn L (iN g)) on 0 = true := by
  have h8 := hW.1.2.1
  rw [qaF_iff]
  intro o _ ho
  have ho : o < on := by omega
  unfold quQ
  have : scT V pn L (iN g) o = false := by
    unfold scT
    refine decide_eq_false (fun q => q ?_)
    obtain ⟨c, c1, c2⟩ := hW.2.2.2.2.2.2.1
    obtain ⟨nn, n1, n2, n3⟩ := (hW.2.2.2.1 o ho).2.1
    unfold rO rW
    refine rd_empty ⟨by omega, c2⟩ (by rw [n3]; exact iN_0 (by omega)) 10 0 _ (fun j _ hj => ?_) rfl rfl
    unfold sOn
    rcases sIn_or V pn (iN j) with e | ⟨p, hp, e, e2⟩
    · rw [if_pos e]
    · have hb : bit (iN g) p := hg p hp (by rw [e2]; exact iN_eqm (by omega))
      rw [e, if_neg (iN_eqm (by omega)), if_pos hb]
  rw [this, Bool.false_and, Bool.and_false]
  rfl
theorem o_leave : gOp1 x z b n t (f_X1_leave x) (f_X8_leave (x + 353)) := by
  intro iv u hR
  obtain ⟨pn, on, rm, L, q, r, hq, hr, g3, g4, g5, h1, h2, g6, hC, hM⟩ := hR.all
  have HX := hC.X
  have h6 := hC.o6
  have h8 := hC.p8
  have hT := hR.2.1
  have hW := h1.2.1
  have hp2 := p2_le h8
  obtain ⟨g, gl, ge, gt⟩ := obF_n (nlB (iv (x + 354))) pn 0 0 (by omega) (by decide)
  rw [Nat.zero_add] at gl
  have z0 : ∀ i : Nat, ¬ (0 : Nat).testBit i = true := fun i => by rw [Nat.zero_testBit]; decide
  have gt1 : ∀ i : Nat, g.testBit i = true → i < pn ∧ ¬ iv (x + 354) (9 + 4 * i + 3) = -1 := fun i hi => by
    rcases (gt i).mp hi with q | q
    · exact absurd q (z0 i)
    · exact ⟨by omega, of_decide_eq_true q.2.2⟩
  have gt2 : ∀ p : Nat, p < pn → ¬ iv (x + 354) (9 + 4 * p + 3) = -1 → bit (iN g) p := fun p hp hV => (bit_tb g (by omega) p (by omega)).mpr ((gt p).mpr (Or.inr ⟨by omega, by omega, decide_eq_true hV⟩))
  unfold f_X1_leave
  rw [gW_B, rXc HX, gW_B]
  unfold f_X1_nailedOnes
  show gW (f_X1_nailedOnes_4 gN x 0 (iN 0)) _ _
  rw [c_nailed_4 hC 10 0 gN 0 (by omega) (by rw [gN_eq]; omega), sl_ob hW, show obF (nlB (iv (x + 354))) pn 0 0 = iN g from ge, gW_B, rXr3 HX, gW_B, rXr1 HX, gW_B, rSc HX.pt, gW_B]
  refine c_put HX h1.1 hW (fun j0 v hU p1 p2 p3 => ?_)
  have C0 := hC.pt hU p3
  have S0 : Sp x iv j0 := Sp.nw (fun a ha => p3 a (by omega))
  have I0 : leI x iv v (iv (x + 354)) pn on rm L j0 := ⟨S0, C0, h1.1.fr h8 h6 (fun k _ => by rw [p3 _ (by omega)]) (fun a a1 a2 _ => p3 a (by omega)), p1, p2, by rw [p3 _ (by omega)]⟩
  show gW (f_X1_leave_20 gN x (iN g) (-1) (iN 0)) _ _
  refine c_leave_20 hU hT.2.2.1 (show g < 256 by omega) (fun i _ hi => gt1 i hi) (2 ^ pn) 0 gN (-1) j0 (by omega) (by rw [gN_eq]; omega) I0 (fun k3 I3 => ?_)
  obtain ⟨S3, C3, b1, b4, b5, b2⟩ := I3
  have n354 : k3 (x + 354) = iv (x + 354) := by rw [S3.a (by omega)]
  have hMl : MI x k3 v (iv (x + 354)) pn on L := ⟨hU.2.2.2.2.2 hM.1, n354, hM.2.2⟩
  have e1 : k3 (x + 353) 23 = 0 := by rw [S3.2.2.2.1 23 (by omega)]; exact hT.2.2.2.1
  have e2 : k3 (x + 353) 24 = 0 := by rw [S3.2.2.2.1 24 (by omega)]; exact hT.2.2.2.2.1
  have tg : leT (iv (x + 354)) pn on L (iN g) g = true := by
    unfold leT
    rw [le_all hW gt2, Bool.and_true]
    have := and_nn (iN g) (iN g)
    rw [Int32.and_self] at this
    exact decide_eq_true this
  have tn : ∀ j : Nat, g < j → j < 2 ^ pn → leT (iv (x + 354)) pn on L (iN g) j = false := fun j h3 h4 => by
    refine Bool.eq_false_iff.mpr (fun h => ?_)
    unfold leT at h
    rw [Bool.and_eq_true, decide_eq_true_eq] at h
    have s1 := sub_nat (show j < 256 by omega) (show g < 256 by omega) h.1
    have := Nat.and_le_right (n := j) (m := g)
    omega
  have same := sr_sm (by omega) gl tg tn
  generalize srF (leT (iv (x + 354)) pn on L (iN g)) (2 ^ pn) 0 (-1) = ans at same ⊢
  unfold f_X8_leave
  refine m_z hMl (fun j3 z1 z2 z3 hM3 => ?_)
  have H := hM3.M
  rw [gW_B, rMc H, gW_B]
  unfold f_X8_nailedOnes
  show gW (f_X8_nailedOnes_4 gN (x + 353) 0 (iN 0)) _ _
  rw [m_nailed_4 hM3 pn 0 gN 0 (by omega) (by rw [gN_eq]; omega), show obF (nlB (iv (x + 354))) pn 0 0 = iN g from ge]
  have i23 : j3 (x + 353) 23 = 0 := by rw [z1.2.2.2.1 23 (by omega)]; exact e1
  have key := m_leave_14 (iv := j3) (u := v) (V := iv (x + 354)) (pn := pn) (on := on) (L := L) (g := g) (P := fun c h2 => ans = c ∧ RR x z b n (t + 1) h2.1 h2.2) (by rw [z1.2.2.2.1 24 (by omega)]; exact e2) (g + 1) gN (iN g) 0 j3 (by omega) (by rw [gN_eq]; omega) (by rw [g_u2_id _ _ _ i23]; exact Sm.rf) hM3 (fun mv m1 => ?_)
  · rw [show iN (g + 1) - 1 = iN g from by rw [iNs1 (by omega)]; rfl] at key
    exact key
  · rw [g_u2_id _ _ _ i23] at m1
    have S37 : Sx x k3 mv := z1.tr m1.S
    have RRf : RR x z b n (t + 1) mv v := by
      refine RR.put hR h1 h2 ⟨q, r, hq, hr, g3, g4, g5, g6⟩ hU (S3.tr S37.P) (b1.fr h8 h6 (fun k _ => by rw [S37.a (by omega)]) (fun a a1 a2 a3 => by rw [S37.a (by omega)])) ?_ (by rw [S37.a (by omega)]; exact n354)
      rw [S37.a (by omega), b2]
    exact ⟨same, RRf⟩
end LE2
