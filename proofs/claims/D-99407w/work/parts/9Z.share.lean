/-! OPS: share -/
section SHA
variable {iv jv kv lv : gV} {u v : gU} {x z b n t : Nat} {V : Nat → Int32} {pn on : Nat} {L : gLw}
def shG (V : Nat → Int32) (pn : Nat) (L : gLw) (o s : Nat) : Int32 := if aO V pn L o s = true then fO V pn L o s (tO V pn L o s) else 0
def shS (V : Nat → Int32) (pn : Nat) (L : gLw) (o : Nat) : Nat → Nat → Int32 → Int32
  | 0, _, y => y
  | k + 1, s, y => shS V pn L o k (s + 1) (y + shG V pn L o s)
def shI (V : Nat → Int32) (pn : Nat) (L : gLw) (o p : Nat) : Nat → Nat → Int32 → Int32
  | 0, _, y => y
  | k + 1, s, y => shI V pn L o p k (s + 1) (y + if sIn V pn (iN s) = iN p then shG V pn L o s else 0)
theorem aO_f {o s : Nat} (h : ¬ aO V pn L o s = true) : aO V pn L o s = false := by
  cases h2 : aO V pn L o s
  · rfl
  · exact absurd h2 h
theorem sh_d {o p : Nat} : ∀ (k s : Nat) (y w : Int32), aO V pn L o s = false → shS V pn L o k s y = y ∧ shI V pn L o p k s w = w := by
  intro k
  induction k with
  | zero => exact fun _ _ _ _ => ⟨rfl, rfl⟩
  | succ k ih =>
    intro s y w h
    have g0 : shG V pn L o s = 0 := by unfold shG; rw [h]; rfl
    rw [shS, shI, g0, ite_self, Int32.add_zero, Int32.add_zero]
    exact ih (s + 1) y w (aS_mono h (by omega))
theorem shI_at {o p s0 : Nat} (h : ∀ s : Nat, s < 10 → (sIn V pn (iN s) = iN p ↔ s = s0)) : ∀ (k s : Nat) (y : Int32), s + k = 10 → shI V pn L o p k s y = if s ≤ s0 ∧ s0 < 10 then y + shG V pn L o s0 else y := by
  intro k
  induction k with
  | zero => intro s y h1; rw [shI, if_neg (by omega)]
  | succ k ih =>
    intro s y h1
    rw [shI, ih (s + 1) _ (by omega)]
    by_cases e : s = s0
    · subst e
      rw [if_pos ((h s (by omega)).mpr rfl), if_neg (by omega), if_pos (by omega)]
    · rw [if_neg (fun q => e ((h s (by omega)).mp q)), Int32.add_zero]
      by_cases c : s + 1 ≤ s0 ∧ s0 < 10
      · rw [if_pos c, if_pos (by omega)]
      · rw [if_neg c, if_neg (by omega)]
theorem c_share_24 {o p : Nat} (ho : o < on) {P : Int32 ⊕ gE → g_H → Prop} : ∀ (k s N : Nat) (y w : Int32) (jv : gV), s + k = 10 → k < N → Sx x iv jv → CI x jv u V pn on L → (∀ i : Nat, i < s → aO V pn L o i = true) → (∀ kv : gV, Sx x iv kv → gW (f_X1_share_107 (shS V pn L o k s y) (shI V pn L o p k s w)) (kv, u) P) → gW (f_X1_share_24 N x (iN p) (x + 28 + 15 + o) (tO V pn L o s) y w (iN s)) (jv, u) P := by
  intro k
  induction k with
  | zero =>
    intro s N y w jv h1 h2 hS hC hA hP
    obtain ⟨N, rfl⟩ : ∃ N', N = N' + 1 := ⟨N - 1, by omega⟩
    have : s = 10 := by omega
    subst this
    rw [f_X1_share_24, gW_ift (by decide)]
    exact hP jv hS
  | succ k ih =>
    intro s N y w jv h1 h2 hS hC hA hP
    obtain ⟨N, rfl⟩ : ∃ N', N = N' + 1 := ⟨N - 1, by omega⟩
    have HX := hC.X
    have h6 := hC.o6
    have ha := aO_iff hC.W ho hA
    rw [f_X1_share_24, gW_iff (by rw [show (10 : Int32) = iN 10 from rfl, iN_le (by omega) (by omega)]; omega), gW_B, rSOi HX.nw (by omega), hC.o ho (by decide)]
    by_cases c : aO V pn L o s = true
    · rw [gW_iff (Int32.not_lt.mpr (ha.mpr c)), gW_B, rXr1 HX, gW_B, rSc HX.nw, gW_B]
      refine c_frights hC (hC.sO ho) (by omega) (fun f => ?_)
      rw [hC.o ho (by decide), hC.o ho (by decide), hC.o ho (by decide)]
      have S2 : Sx x jv (va_up jv (x + 33) f) := Sx.up (by omega)
      have C2 := hC.fr S2
      have H2 := C2.X
      have eG : fS V pn L (V (41 + 4 * o + 0)) (V (41 + 4 * o + 1)) (V (41 + 4 * o + 2)) s (tO V pn L o s) = shG V pn L o s := by unfold shG; rw [if_pos c]
      rw [eG]
      have hA2 : ∀ i : Nat, i < s + 1 → aO V pn L o i = true := fun i hi => by
        by_cases e : i = s
        · rw [e]; exact c
        · exact hA i (by omega)
      rw [shS, shI] at hP
      have go : ∀ g : Int32, g = (if sIn V pn (iN s) = iN p then shG V pn L o s else 0) → gW (f_X1_share_83 (f_X1_share_24 N) x (iN p) (x + 28 + 15 + o) (tO V pn L o s) (y + shG V pn L o s) (iN s) w g) (va_up jv (x + 33) f, u) P := by
        intro g hg
        unfold f_X1_share_83
        rw [gW_B, rXr1 H2, gW_B, rSc H2.nw, gW_B]
        refine c_behind C2 (C2.sO ho) (by omega) (fun f2 => ?_)
        rw [C2.o ho (by decide), C2.o ho (by decide), C2.o ho (by decide), iNp1, hg]
        have S3 : Sx x (va_up jv (x + 33) f) (va_up (va_up jv (x + 33) f) (x + 33) f2) := Sx.up (by omega)
        exact ih (s + 1) N _ _ _ (by omega) (by omega) ((hS.tr S2).tr S3) (C2.fr S3) hA2 hP
      rw [gW_B, rXr1 H2, gW_B, rSr3 H2.nw, gW_B, rSa3 H2.nw (by omega), C2.s (by omega)]
      by_cases c2 : sIn V pn (iN s) = iN p
      · rw [gW_ift c2]
        exact go _ (by rw [if_pos c2])
      · rw [gW_iff c2]
        exact go _ (by rw [if_neg c2])
    · rw [gW_ift (Int32.not_le.mp (fun q => c (ha.mp q)))]
      have := hP jv hS
      obtain ⟨d1, d2⟩ := sh_d (p := p) (k + 1) s y w (aO_f c)
      rw [d1, d2] at this
      exact this
theorem m_share_47 (H : MS u (x + 353)) {o : Nat} {p : Int32} (hA : ∀ j : Nat, j < 10 → iv (x + 353 + 10) j = shG V pn L o j) {P : Int32 → g_H → Prop} : ∀ (k s N : Nat) (y : Int32), s + k = 10 → k < N → (gW (f_X8_share_47 N (x + 353) p y (iN s)) (iv, u) P ↔ gW (f_X8_share_70 (x + 353) p (shS V pn L o k s y)) (iv, u) P) := by
  intro k
  induction k with
  | zero =>
    intro s N y h1 h2
    obtain ⟨N, rfl⟩ : ∃ N', N = N' + 1 := ⟨N - 1, by omega⟩
    have : s = 10 := by omega
    subst this
    rw [f_X8_share_47, gW_ift (by decide)]
    rfl
  | succ k ih =>
    intro s N y h1 h2
    obtain ⟨N, rfl⟩ : ∃ N', N = N' + 1 := ⟨N - 1, by omega⟩
    rw [f_X8_share_47, gW_iff (by rw [show (10 : Int32) = iN 10 from rfl, iN_le (by omega) (by omega)]; omega), gW_B, rMr9 H, gW_B, rMa9 H (by omega), hA s (by omega), iNp1, ih (s + 1) N _ (by omega) (by omega), shS]
theorem o_share {a c : Int32} : gOp x z b n t (f_X0_share x a c (x + 369)) (f_X8_share (x + 353) a c) := by
  intro iv u hR
  obtain ⟨pn, on, rm, L, hC, hM, h1⟩ := hR.get
  have HX := hC.X
  have h6 := hC.o6
  have h8 := hC.p8
  have hT := hR.2.1
  unfold f_X0_share f_X1_share
  rw [gW_B, rXc HX, gW_B, gW_B, rXc HX, gW_T]
  by_cases ha : 0 ≤ a ∧ a ≤ iN pn - 1
  · obtain ⟨p, hp, rfl⟩ := i_get (by omega) ha
    rw [w_propAt_t hC hp]
    dsimp only
    rw [gW_B, rXc HX, gW_T]
    by_cases hc : 0 ≤ c ∧ c ≤ iN on - 1
    · obtain ⟨o, ho, rfl⟩ := i_get (by omega) hc
      rw [w_oneAt_t hC ho]
      dsimp only
      show gW (f_X1_share_24 gN x (iN p) (x + 28 + 15 + o) (tO (iv (x + 354)) pn L o 0) 0 0 (iN 0)) _ _
      refine c_share_24 ho 10 0 gN 0 0 iv (by omega) (by rw [gN_eq]; omega) Sx.rf hC (fun i hi => absurd hi (Nat.not_lt_zero i)) (fun kv hS => ?_)
      -- what is answered
      have ans : ∀ y : Int32, (y = if shS (iv (x + 354)) pn L o 10 0 0 = 0 then 0 else ((100 : Int32) * shI (iv (x + 354)) pn L o p 10 0 0) / shS (iv (x + 354)) pn L o 10 0 0) → gW (gSI (x + 369) 2 (0 : Int32) y) (kv, u) (fun _ h1 => gW (f_X8_share (x + 353) (iN p) (iN o)) h1 (fun c h2 => h2.1 (x + 353) 0 = 0 ∧ oE 0 (h2.1 (x + 369) 0) c ∧ RR x z b n (t + 1) h2.1 h2.2)) := by
        intro y hy
        refine op_end hR hS (fun kv hS hk => ?_)
        unfold f_X8_share f_X8_share_27
        refine m_z (hM.fr hS) (fun lv z1 z2 z3 hM2 => ?_)
        have H := hM2.M
        rw [gW_B, rMc H, gW_B, m_noProp_t hM2 hp, gW_ift rfl, gW_B, rMc H, gW_B, m_noOne_t hM2 ho, gW_ift rfl, gW_B, rMc H, gW_B, m_thr0, gW_ift rfl, gW_B, rMc H, gW_B]
        refine m_straight hM2 ho rfl (fun mv m1 m2 m3 => ?_)
        have e1 : lv (x + 353) 23 = 0 := by rw [z1.2.2.2.1 23 (by omega), hS.2.2.2.1 23 (by omega)]; exact hT.2.2.2.1
        have e2 : lv (x + 353) 24 = 0 := by rw [z1.2.2.2.1 24 (by omega), hS.2.2.2.1 24 (by omega)]; exact hT.2.2.2.2.1
        have m4 := m3 e1 e2
        have hM3 := hM2.fr m1.S
        show gW (f_X8_share_47 gN (x + 353) (iN p) 0 (iN 0)) _ _
        rw [m_share_47 H (fun j hj => (m4 j hj).2) 10 0 gN 0 (by omega) (by rw [gN_eq]; omega)]
        unfold f_X8_share_70 f_X8_share_82 f_X8_share_102
        by_cases c0 : shS (iv (x + 354)) pn L o 10 0 0 = 0
        · rw [if_pos c0] at hy
          rw [gW_ift c0, gW_ret]
          exact m_end z1 z2 z3 m1 hy.symm
        · rw [if_neg c0] at hy
          rw [gW_iff c0, gW_B, rMc H, gW_B, w_isNailed H (by omega), hM3.vE]
          rcases (hC.W.2.1 p hp).1 with e | ⟨s0, hs0, e⟩
          · rw [bI_f (fun q => q e), gW_ift rfl, gW_ret]
            refine m_end z1 z2 z3 m1 ?_
            have : shI (iv (x + 354)) pn L o p 10 0 0 = 0 := by
              rw [shI_at (s0 := 10) (fun s hs => ?_) 10 0 0 (by omega), if_neg (by omega)]
              refine ⟨fun q => ?_, fun q => by omega⟩
              rcases sIn_or (iv (x + 354)) pn (iN s) with q2 | ⟨j, j1, j2, j3⟩
              · exact absurd (q.symm.trans q2) (iN_eqm (by omega))
              · rw [q, iN_eq (by omega) (by omega)] at j2
                subst j2
                exact absurd (j3.symm.trans e) (iN_eqm (by omega))
            rw [hy, this, Int32.mul_zero, Int32.zero_div]
          · have ne : ¬ iv (x + 354) (9 + 4 * p + 3) = -1 := by rw [e]; exact iN_eqm (by omega)
            rw [bI_t ne, gW_iff (by decide), gW_B, rMr9 H, gW_B, rMc H, gW_B, w_ofProp3 H (by omega), hM3.vE, e, gW_B, rMa9 H hs0, gW_B, gW_gd]
            refine ⟨c0, ?_⟩
            rw [gW_ret]
            refine m_end z1 z2 z3 m1 ?_
            have h3 : mv (x + 353 + 10) s0 = shG (iv (x + 354)) pn L o s0 := (m4 s0 hs0).2
            have : shI (iv (x + 354)) pn L o p 10 0 0 = shG (iv (x + 354)) pn L o s0 := by
              rw [shI_at (s0 := s0) (fun s hs => ?_) 10 0 0 (by omega), if_pos ⟨by omega, hs0⟩, Int32.zero_add]
              refine ⟨fun q => ?_, fun q => ?_⟩
              · rcases sIn_or (iv (x + 354)) pn (iN s) with q2 | ⟨j, j1, j2, j3⟩
                · exact absurd (q.symm.trans q2) (iN_eqm (by omega))
                · rw [q, iN_eq (by omega) (by omega)] at j2
                  subst j2
                  exact (iN_eq (by omega) (by omega)).mp (j3.symm.trans e)
              · have := sIn_found hC.W hp ne
                rw [q, ← e]
                exact this
            rw [h3, hy, this]
      unfold f_X1_share_107 f_X1_share_124
      by_cases c0 : shS (iv (x + 354)) pn L o 10 0 0 = 0
      · rw [gW_ift c0, gW_ret]
        show gW (gB (gSI (x + 369) 2 (0 : Int32) _) _) _ _
        rw [gW_B]
        simp only [gW_ret]
        exact ans _ (by rw [if_pos c0])
      · rw [gW_iff c0, gW_B, gW_gd]
        refine ⟨c0, ?_⟩
        rw [gW_ret]
        show gW (gB (gSI (x + 369) 2 (0 : Int32) _) _) _ _
        rw [gW_B]
        simp only [gW_ret]
        exact ans _ (by rw [if_neg c0])
    · refine w_oneAt_f hC hc (fun a' jv v hT => ?_)
      simp only [gW_tr, gW_fa, gW_ret, cN1, cN2, cN3, cN4]
      refine op_thr hR hT (by decide) ?_
      unfold f_X8_share f_X8_share_22 f_X8_share_27
      refine m_z (hM.th hR.nx hT) (fun lv z1 z2 z3 hM2 => ?_)
      have H := hM2.M
      rw [gW_B, rMc H, gW_B, m_noProp_t hM2 hp, gW_ift rfl, gW_B, rMc H, gW_B, m_noOne_f hM2 hc, gW_iff (by decide), gW_B, rMc H, gW_B, m_thr1 H, gW_iff (by decide), gW_ret]
      exact m_te z1
  · refine w_propAt_f hC ha (fun a' jv v hT => ?_)
    simp only [gW_tr, gW_fa, gW_ret, cN1, cN2, cN3, cN4]
    refine op_thr hR hT (by decide) ?_
    unfold f_X8_share f_X8_share_22 f_X8_share_27
    refine m_z (hM.th hR.nx hT) (fun lv z1 z2 z3 hM2 => ?_)
    have H := hM2.M
    rw [gW_B, rMc H, gW_B, m_noProp_f hM2 ha, gW_iff (by decide), gW_B, rMc H, gW_B, m_thr1 H, gW_iff (by decide), gW_ret]
    exact m_te z1
end SHA
