/-! OP: LAW, of both, whole -/
section ON
variable {iv jv kv lv : gV} {u v w y : gU} {x z b n t : Nat}
theorem w_outS (hO : u.1 (x + 369) = some (.inl (2, 1))) {q : Int32} {P : Unit → g_H → Prop} : gW (gSI (x + 369) 2 (0 : Int32) q) (iv, u) P ↔ P () (g_u2 iv (x + 369) 0 q, u) := gW_SI hO (k := 0) rfl (by decide) (by decide)
theorem w_isWrong (H : XS u x) {p : Int32} (h6 : iv (x + 27) 6 = p) {P : Int32 ⊕ gE → g_H → Prop} (hP : ∀ (a : Nat) (jv : gV) (v : gU), Th (g_u2 iv x 11 p) u jv v → P (.inr (17, a)) (jv, v)) : gW (gIf ((5 : Nat) = 5) (gB (gCk x 0) fun _ => gB (f_X1_isWrong x (x + 27)) fun r11 => gB (gCk r11 17) fun _ => gRet (.inr (17, r11))) gFail) (iv, u) P := by
  rw [gW_ift rfl, gW_B, rXc H, gW_B]
  unfold f_X1_isWrong
  rw [gW_B, gW_FI (show u.1 (x + 27) = _ from H.1.2.2.1), h6, gW_B, rXp H]
  have := w_thr (iv := g_u2 iv x 11 p) (ci := 17) hP
  simp only [gW_B, gW_ret] at this ⊢
  exact this
/-- the model is told of a wrong law -/
theorem w_mbad (H : MS u (x + 353)) {f : Nat} (h12 : iv (x + 353) 12 = iN f) {P : Int32 → g_H → Prop} (hP : ∀ jv : gV, jv (x + 353) 0 = 1 → jv (x + 353) 14 = iN f → (∀ k : Nat, k ≠ 0 → k ≠ 14 → jv (x + 353) k = iv (x + 353) k) → (∀ a : Nat, a ≠ x + 353 → jv a = iv a) → P 0 (jv, u)) : gW (gIf ((0 : Int32) ≤ -1) (f_X8_law_19 (x + 353) (-1) (x + 353) (-1)) (gB (gFI (x + 353) 7 12) fun v2 => f_X8_law_19 (x + 353) (-1) (x + 353) v2)) (iv, u) P := by
  unfold f_X8_law_19 f_X8_law_32
  rw [gW_iff (by decide), gW_B, rMi H, h12, gW_B, rMp H, gW_iff (by decide), gW_B, rMc H, gW_B, m_thr1 H, gW_iff (by decide), gW_ret]
  refine hP _ (by rw [g_u2_self, va_up_self]) (by rw [g_u2_self, va_up_ne _ _ (by decide), g_u2_self, va_up_self]) (fun k h1 h2 => by rw [g_u2_self, va_up_ne _ _ h1, g_u2_self, va_up_ne _ _ h2]) (fun a ha => by rw [g_u2_ne _ _ _ ha, g_u2_ne _ _ _ ha])
/-- the model keeps a law -/
theorem w_mgood (H : MS u (x + 353)) {L : gLw} (hL : L.1 ≤ 12) {st : Nat} (hst : st ≤ 400) (hR : RMD (Dw x iv) L st) {P : Int32 → g_H → Prop} (hP : ∀ jv : gV, jv (x + 353) 0 = iv (x + 353) 0 → jv (x + 353) 14 = -1 → jv (x + 353) 7 = 0 → (∀ k : Nat, k ≠ 7 → k ≠ 14 → jv (x + 353) k = iv (x + 353) k) → (∀ a : Nat, a ≠ x + 353 → a ≠ x + 353 + 1 → jv a = iv a) → (∀ k : Nat, k < 305 → k ≠ 3 → jv (x + 353 + 1) k = iv (x + 353 + 1) k) → jv (x + 353 + 1) 3 = 1 → mLL (jv (x + 353 + 1)) L → P (iN L.1) (jv, u)) : gW (gIf ((0 : Int32) ≤ iN L.1) (f_X8_law_19 (x + 353) (iN L.1) (x + 353) (-1)) (gB (gFI (x + 353) 7 12) fun v2 => f_X8_law_19 (x + 353) (iN L.1) (x + 353) v2)) (iv, u) P := by
  have h0 : (0 : Int32) ≤ iN L.1 := by rw [show (0 : Int32) = iN 0 from rfl, iN_le (by omega) (by omega)]; omega
  unfold f_X8_law_19 f_X8_law_32
  rw [gW_ift h0, gW_B, rMp H, gW_ift h0, gW_B, rMc H, gW_B, m_thr0, gW_ift rfl, gW_B, rMr0 H, gW_B, rMS0_1154 H]
  have k1 : ∀ k : Nat, k ≠ 14 → g_u2 (g_u2 iv (x + 353) 14 (-1)) (x + 353 + 1) 1154 (iN L.1) (x + 353) k = iv (x + 353) k := fun k hk => by rw [g_u2_ne _ _ _ (by omega), g_u2_self, va_up_ne _ _ hk]
  have k14 : g_u2 (g_u2 iv (x + 353) 14 (-1)) (x + 353 + 1) 1154 (iN L.1) (x + 353) 14 = -1 := by rw [g_u2_ne _ _ _ (by omega), g_u2_self, va_up_self]
  have ka : ∀ a : Nat, a ≠ x + 353 → a ≠ x + 353 + 1 → g_u2 (g_u2 iv (x + 353) 14 (-1)) (x + 353 + 1) 1154 (iN L.1) a = iv a := fun a h1 h2 => by rw [g_u2_ne _ _ _ h2, g_u2_ne _ _ _ h1]
  have kW' : g_u2 (g_u2 iv (x + 353) 14 (-1)) (x + 353 + 1) 1154 (iN L.1) (x + 353 + 1) = va_up (iv (x + 353 + 1)) 1154 (iN L.1) := by rw [g_u2_self, g_u2_ne _ _ _ (by omega)]
  generalize g_u2 (g_u2 iv (x + 353) 14 (-1)) (x + 353 + 1) 1154 (iN L.1) = j1 at k1 k14 ka kW' ⊢
  refine w_law_52 H (W0 := va_up (iv (x + 353 + 1)) 1154 (iN L.1)) 849 0 gN j1 (by omega) (by rw [gN_eq]; omega) (fun j => by rw [kW', if_neg (by omega)]) (fun kv g1 g2 => ?_)
  unfold f_X8_law_85
  rw [gW_B, rMr0 H, gW_B, rMS0_3 H, gW_B, rMp H, gW_ret]
  have f0 : ∀ k : Nat, g_u2 (g_u2 kv (x + 353 + 1) 3 1) (x + 353) 7 0 (x + 353) k = va_up (j1 (x + 353)) 7 0 k := fun k => by rw [g_u2_self, g_u2_ne _ _ _ (by omega), g1 _ (by omega)]
  have fW' : ∀ k : Nat, g_u2 (g_u2 kv (x + 353 + 1) 3 1) (x + 353) 7 0 (x + 353 + 1) k = va_up (kv (x + 353 + 1)) 3 1 k := fun k => by rw [g_u2_ne _ _ _ (by omega), g_u2_self]
  refine hP _ ?_ ?_ ?_ (fun k a1 a2 => ?_) (fun a a1 a2 => ?_) (fun k a1 a2 => ?_) ?_ ?_
  · rw [f0, va_up_ne _ _ (by decide), k1 _ (by decide)]
  · rw [f0, va_up_ne _ _ (by decide), k14]
  · rw [f0, va_up_self]
  · rw [f0, va_up_ne _ _ a1, k1 _ a2]
  · rw [g_u2_ne _ _ _ a1, g_u2_ne _ _ _ a2, g1 a a2, ka a a1 a2]
  · rw [fW', va_up_ne _ _ a2, g2, if_neg (by omega), va_up_ne _ _ (by omega)]
  · rw [fW', va_up_self]
  · have big : ∀ j : Nat, 306 ≤ j → j < 1154 → g_u2 (g_u2 kv (x + 353 + 1) 3 1) (x + 353) 7 0 (x + 353 + 1) j = Dw x iv j := by
      intro j j1 j2
      rw [fW', va_up_ne _ _ (by omega), g2, if_pos (by omega), va_up_ne _ _ (by omega)]
      rfl
    refine Or.inr ⟨by rw [fW', va_up_self], by rw [fW', va_up_ne _ _ (by decide), g2, if_pos (by omega), va_up_self], hL, fun n hn => ?_⟩
    obtain ⟨c1, c2, b, f, c3, c4, c5, c6, c7⟩ := hR n hn
    refine ⟨by rw [big _ (by omega) (by omega)]; exact c1, by rw [big _ (by omega) (by omega)]; exact c2, b, f, by rw [big _ (by omega) (by omega)]; exact c3, by rw [big _ (by omega) (by omega)]; exact c4, c5, by omega, fun F s hF => ?_⟩
    obtain ⟨d1, d2⟩ := sRun_c (D := Dw x iv) (D' := g_u2 (g_u2 kv (x + 353 + 1) 3 1) (x + 353) 7 0 (x + 353 + 1)) (F := F) (f - b) b (0, s) (fun j j1 j2 => (big j (by omega) (by omega)).symm)
    rw [← d1, ← d2]
    exact c7 F s hF
theorem o_law : gOp x z b n t (f_X0_law x (x + 369)) (f_X8_law (x + 353)) := by
  intro iv u hR
  have hR' := hR
  obtain ⟨e, he, t6, t9, tB, tt, tX⟩ := hR.pc
  obtain ⟨hB, hT, hI, pn, on, rm, L0, h1, h2, qa, rr, hqa, hrr, g3', g4', g5', g6'⟩ := hR'
  have HX := hB.1
  have HM := hB.2.1
  have hx := hB.2.2.2.2.2.1
  obtain ⟨c1, c2, c3, c4, c5, c6, c7⟩ := cH_f (x := x) (iv := iv) (e := e)
  have hPC := cH_pc (iv := iv) HX hx tB tt tX
  unfold f_X0_law f_X1_law
  rw [gW_B, rXc HX, gW_B, gW_B, rXc HX, gW_B, w_took HX, t6, gW_B, rXp HX, gW_B, rXr1 HX, gW_B, rXr0 HX, gW_B, rQc HX, gW_B]
  unfold f_X2_law
  rw [gW_B, rQc HX, gW_B, w_begins2 HX]
  show gW (f_X2_law_7 gN (x + 1) (iN 0)) (cH x iv e, u) _
  refine w_law_7 hPC c7 402 (cH x iv e) u L00 0 0 gN ⟨c6, fun _ _ => rfl, fun _ _ _ => rfl, ⟨fun _ _ => ⟨rfl, fun _ => rfl⟩, rfl, Nat.le_refl _⟩, Nat.le_refl _, Nat.le_refl _⟩ (by omega) (by omega) (by omega) (by decide) (fun k hk => absurd hk (Nat.not_lt_zero k)) (by rw [gN_eq]; omega) (fun L' q hL kv y n' l1 l2 l3 l4 => ?_) (fun f hf kv y n' l1 l2 => ?_)
  · -- the text is a law
    have hk := pLaw_k 402 L00 0 L' q (by omega) L00_k hL
    obtain ⟨m1, m2, m3, m4, m5, m6⟩ := l1
    have HY := HX.u5 m4 (by omega)
    have nle := m4.2.2
    show gW (gB (gPI (x + 28) 2 8 (iN L'.1)) _) (kv, y) _
    have s31 : y.1 (x + 28 + 3) = some (.inl (6, 12)) := (HY.nw.2.1 2 (by decide)).2
    have s5 : y.1 (x + 5) = some (.inl (6, 12)) := HY.2.2.2.2.2.1.2.2.2.2.2.2.2.1
    rw [gW_B, rSp HY.nw, gW_B, rXr0 HY, gW_B, rQr HY, gW_B, rXr1 HY, gW_B, rSr2 HY.nw, gW_B]
    show gW (gCpQ (x + 5) (iN 0) (x + 28 + 3) (iN 0) (iN 12)) _ _
    rw [gW_CpQ s5 s31 (by omega) (by omega) (by omega) (by omega) (by omega)]
    have HV := HY.rv (f := va_cpy (y.2.1 (x + 5)) (y.2.1 (x + 28 + 3)) 0 0 12) s31
    have MV : MS (y.1, va_up y.2.1 (x + 28 + 3) (va_cpy (y.2.1 (x + 5)) (y.2.1 (x + 28 + 3)) 0 0 12), y.2.2) (x + 353) := (HM.u5 m4 hx).rv s31
    have e8 : g_u2 (g_u2 kv (x + 28) 8 (iN L'.1)) x 12 0 (x + 28) 8 = iN L'.1 := by rw [g_u2_ne _ _ _ (by omega), g_u2_self, va_up_self]
    rw [gW_B, rXp HV, gW_B, rXr1 HV, gW_B, rSi HV.nw, e8, gW_ret]
    show gW (gB (gSI (x + 369) 2 (0 : Int32) (iN L'.1)) _) _ _
    have sO : y.1 (x + 369) = some (.inl (2, 1)) := by rw [(m4.1 _ (by omega)).1]; exact hB.2.2.1
    rw [gW_B, w_outS (u := (y.1, va_up y.2.1 (x + 28 + 3) (va_cpy (y.2.1 (x + 5)) (y.2.1 (x + 28 + 3)) 0 0 12), y.2.2)) sO, gW_ret]
    -- the model
    have q1 : ∀ a : Nat, a < u.2.2.2.1 → a ≠ x → a ≠ x + 1 → a ≠ x + 28 → a ≠ x + 369 → g_u2 (g_u2 (g_u2 kv (x + 28) 8 (iN L'.1)) x 12 0) (x + 369) 0 (iN L'.1) a = iv a := by
      intro a a1 a2 a3 a4 a5
      rw [g_u2_ne _ _ _ a5, g_u2_ne _ _ _ a2, g_u2_ne _ _ _ a4, m3 a a3 a1, c1 a a2 a3]
    have q2 : g_u2 (g_u2 (g_u2 kv (x + 28) 8 (iN L'.1)) x 12 0) (x + 369) 0 (iN L'.1) x = va_up (kv x) 12 0 := by rw [g_u2_ne _ _ _ (by omega), g_u2_self, g_u2_ne _ _ _ (by omega)]
    have q3 : g_u2 (g_u2 (g_u2 kv (x + 28) 8 (iN L'.1)) x 12 0) (x + 369) 0 (iN L'.1) (x + 1) = kv (x + 1) := by rw [g_u2_ne _ _ _ (by omega), g_u2_ne _ _ _ (by omega), g_u2_ne _ _ _ (by omega)]
    have q4 : g_u2 (g_u2 (g_u2 kv (x + 28) 8 (iN L'.1)) x 12 0) (x + 369) 0 (iN L'.1) (x + 28) = va_up (kv (x + 28)) 8 (iN L'.1) := by rw [g_u2_ne _ _ _ (by omega), g_u2_ne _ _ _ (by omega), g_u2_self]
    have q5 : g_u2 (g_u2 (g_u2 kv (x + 28) 8 (iN L'.1)) x 12 0) (x + 369) 0 (iN L'.1) (x + 369) 0 = iN L'.1 := by rw [g_u2_self, va_up_self]
    have q6 : ∀ a : Nat, u.2.2.2.1 ≤ a → g_u2 (g_u2 (g_u2 kv (x + 28) 8 (iN L'.1)) x 12 0) (x + 369) 0 (iN L'.1) a = kv a := fun a ha => by rw [g_u2_ne _ _ _ (by omega), g_u2_ne _ _ _ (by omega), g_u2_ne _ _ _ (by omega)]
    generalize g_u2 (g_u2 (g_u2 kv (x + 28) 8 (iN L'.1)) x 12 0) (x + 369) 0 (iN L'.1) = j1 at q1 q2 q3 q4 q5 q6 ⊢
    unfold f_X8_law
    rw [gW_B, rMc MV, gW_B]
    refine w_mread MV tB (by rw [q1 _ (by omega) (by omega) (by omega) (by omega) (by omega)]; exact t9) (fun k _ => by rw [q1 _ (by omega) (by omega) (by omega) (by omega) (by omega)]) (fun i hi => ?_) (fun L2 q' hL2 j2 st' d1 d2 d3 d4 d5 d6 d7 d8 => ?_) (fun f hf => by rw [hL] at hf; cases hf)
    · obtain ⟨g1, g2, g3, yy, g4, g5, g6, g7⟩ := tX i hi
      rw [m4.2.1]
      refine ⟨g1, by rw [(m4.1 _ (by omega)).1]; exact g2, by rw [q1 _ (by omega) (by omega) (by omega) (by omega) (by omega)]; exact g3, yy, g4, ?_, by rw [(m4.1 _ (by omega)).1]; exact g6, fun j hj => by rw [q1 _ (by omega) (by omega) (by omega) (by omega) (by omega)]; exact g7 j hj⟩
      show va_up y.2.1 (x + 28 + 3) _ _ _ = _
      rw [va_up_ne _ _ (by omega), (m4.1 _ (by omega)).2 (by omega)]
      exact g5
    · rw [hL] at hL2
      injection hL2 with hL2
      injection hL2 with hL2 _
      subst hL2
      refine w_mgood MV d7 d6 d8 (fun j3 r0 r14 r7 rk ra rW r3 rL => ?_)
      have vW : ∀ k : Nat, k < 305 → k ≠ 3 → j3 (x + 354) k = iv (x + 354) k := fun k k1 k2 => by
        rw [show j3 (x + 354) k = j3 (x + 353 + 1) k from rfl, rW k k1 k2, d5 k (by omega), q1 _ (by omega) (by omega) (by omega) (by omega) (by omega)]
      have va : ∀ a : Nat, a < u.2.2.2.1 → a ≠ x → a ≠ x + 1 → a ≠ x + 28 → a ≠ x + 353 → a ≠ x + 354 → a ≠ x + 369 → j3 a = iv a := fun a a1 a2 a3 a4 a5 a6 a7 => by rw [ra a a5 a6, d4 a a5 a6, q1 a a1 a2 a3 a4 a7]
      have vx : ∀ k : Nat, k ≠ 11 → k ≠ 12 → j3 x k = iv x k := fun k k1 k2 => by
        rw [ra _ (by omega) (by omega), d4 _ (by omega) (by omega), q2, va_up_ne _ _ k2, m3 _ (by omega) (by omega), c2 k k1]
      have v11 : j3 x 11 = -1 := by rw [ra _ (by omega) (by omega), d4 _ (by omega) (by omega), q2, va_up_ne _ _ (by decide), m3 _ (by omega) (by omega), c3]
      have v12 : j3 x 12 = iN 0 := by rw [ra _ (by omega) (by omega), d4 _ (by omega) (by omega), q2, va_up_self]; rfl
      have v28 : j3 (x + 28) = va_up (iv (x + 28)) 8 (iN L'.1) := by rw [ra _ (by omega) (by omega), d4 _ (by omega) (by omega), q4, m3 _ (by omega) (by omega), c1 _ (by omega) (by omega)]
      have vnew : ∀ a : Nat, u.2.2.2.1 ≤ a → j3 a = kv a := fun a ha => by rw [ra _ (by omega) (by omega), d4 _ (by omega) (by omega), q6 a ha]
      have hK : Kx x iv u j3 (y.1, va_up y.2.1 (x + 28 + 3) (va_cpy (y.2.1 (x + 5)) (y.2.1 (x + 28 + 3)) 0 0 12), y.2.2) := ⟨fun a a1 a2 => ⟨va a a2 (by omega) (by omega) (by omega) (by omega) (by omega) (by omega), (m4.1 a a2).1, by show va_up y.2.1 _ _ a = _; rw [va_up_ne _ _ (by omega)]; exact (m4.1 a a2).2 (by omega)⟩, nle⟩
      refine ⟨by show j3 (x + 353) 0 = 0; rw [r0]; exact d1, ?_, ?_⟩
      · rw [oE0]
        show j3 (x + 369) 0 = iN L'.1
        rw [ra _ (by omega) (by omega), d4 _ (by omega) (by omega)]
        exact q5
      · refine ⟨hB.fr2 HV MV (m4.1 _ (by omega)).1 (fun a ha => ⟨(m4.1 a (by omega)).1, by show va_up y.2.1 _ _ a = _; rw [va_up_ne _ _ (by omega)]; exact (m4.1 a (by omega)).2 (by omega), va a (by omega) (by omega) (by omega) (by omega) (by omega) (by omega) (by omega)⟩) m4.2.1 nle (by omega) (by show y.2.2.2.1 ≤ _; omega) (by show y.2.2.2.2 ≤ _; omega), ⟨⟨0, by omega, ?_, ?_, fun k hk => absurd hk (Nat.not_lt_zero k)⟩, ?_, ?_, ?_, ?_, ?_⟩, ?_, pn, on, rm, L', ⟨?_, ?_, ?_, ?_, ?_⟩, rL, ⟨0, rr, by omega, hrr, v12, by show j3 (x + 353) 7 = _; rw [r7]; rfl, ?_, fun j hj => absurd hj (Nat.not_lt_zero j)⟩⟩
        · show j3 (x + 1) 6 = iN 0
          rw [ra _ (by omega) (by omega), d4 _ (by omega) (by omega), q3, m2 6 (by decide), c4]
          rfl
        · show j3 (x + 353) 9 = iN 0
          rw [rk 9 (by decide) (by decide), d2]
          rfl
        · show j3 x 11 = j3 (x + 353) 14
          rw [v11, r14]
        · show j3 x 17 = -1
          rw [vx 17 (by decide) (by decide)]
          exact hT.2.2.1
        · show j3 (x + 353) 23 = 0
          rw [rk 23 (by decide) (by decide), d3 23 (by omega), q1 _ (by omega) (by omega) (by omega) (by omega) (by omega)]
          exact hT.2.2.2.1
        · show j3 (x + 353) 24 = 0
          rw [rk 24 (by decide) (by decide), d3 24 (by omega), q1 _ (by omega) (by omega) (by omega) (by omega) (by omega)]
          exact hT.2.2.2.2.1
        · show j3 (x + 96) 2 = 0
          rw [va _ (by omega) (by omega) (by omega) (by omega) (by omega) (by omega) (by omega)]
          exact hT.2.2.2.2.2
        · refine hI.fr2 hK (by omega) (vx 18 (by decide) (by decide)) ?_ (va _ (by omega) (by omega) (by omega) (by omega) (by omega) (by omega) (by omega)) (fun a a1 a2 => va a (by omega) (by omega) (by omega) (by omega) (by omega) (by omega) (by omega)) ?_
          · show j3 (x + 353) 6 = _
            rw [rk 6 (by decide) (by decide), d3 6 (by omega), q1 _ (by omega) (by omega) (by omega) (by omega) (by omega)]
          · show va_up y.2.1 _ _ (x + 49 + 3) = _
            rw [va_up_ne _ _ (by omega)]
            exact (m4.1 _ (by omega)).2 (by omega)
        · exact (h1.1.fr h1.2.1.1.2.1 h1.2.1.1.2.2.2 (fun k hk8 => by show j3 (x + 28) k = _; rw [v28, va_up_ne _ _ hk8]) (fun a a1 a2 a3 => va a (by omega) (by omega) (by omega) (by omega) (by omega) (by omega) (by omega))).cw h1.2.1.1.2.1 h1.2.1.1.2.2.2 vW
        · exact h1.2.1.cw vW (Or.inr r3)
        · have := h1.2.2.1
          omega
        · refine ⟨⟨l4, Or.inr (by show j3 (x + 28) 8 = _; rw [v28, va_up_self]), fun k hkL => ?_⟩, hk.cOk, hk.2.1⟩
          obtain ⟨a, b1, b2, b3, b4⟩ := l3 k hkL
          refine ⟨a, ?_, by omega, b3, (b4.kp (jv := j3) (w := (y.1, va_up y.2.1 (x + 28 + 3) (va_cpy (y.2.1 (x + 5)) (y.2.1 (x + 28 + 3)) 0 0 12), y.2.2)) b2 b3 (fun c c1' c2' => ⟨vnew c c1', rfl, va_up_ne _ _ (by omega)⟩)).mo hx (Nat.le_refl _)⟩
          show va_up y.2.1 (x + 28 + 3) (va_cpy (y.2.1 (x + 5)) (y.2.1 (x + 28 + 3)) 0 0 12) (x + 28 + 3) k = _
          rw [va_up_self]
          unfold va_cpy
          rw [if_pos ⟨by omega, by omega⟩]
          exact (congrArg (y.2.1 (x + 5)) (show _ = k by omega)).trans b1
        · show j3 (x + 28) 8 = -1 ↔ j3 (x + 353 + 1) 3 = 0
          rw [v28, va_up_self, r3]
          exact ⟨fun q => (iN_eqm (by omega) q).elim, fun q => absurd q (by decide)⟩
        · show j3 x 13 = _
          rw [vx 13 (by decide) (by decide)]
          exact g5'
  · -- the text is wrong
    obtain ⟨m1, m2, m3, m4, m5, m6⟩ := l1
    have HY := HX.u5 m4 (by omega)
    have nle := m4.2.2
    refine w_isWrong HY m1 (fun a jv v hTh => ?_)
    obtain ⟨tU, te, tn, ts⟩ := hTh
    have HV := HY.fr tU (by omega)
    have MV := (HM.u5 m4 hx).fr tU (by omega)
    show gW (gIf ((17 : Nat) = 17) (gRet 1) gFail) (jv, v) _
    rw [gW_ift rfl, gW_ret]
    have q1 : ∀ a : Nat, a < u.2.2.2.1 → a ≠ x → a ≠ x + 1 → a ≠ x + 27 → jv a = iv a := fun a a1 a2 a3 a4 => by rw [te a (by omega), g_u2_ne _ _ _ a2, m3 a a3 a4 a1, c1 a a2 a3]
    have q2 : ∀ k : Nat, k ≠ 11 → jv x k = iv x k := fun k hk => by rw [te x (by omega), g_u2_self, va_up_ne _ _ hk, m3 x (by omega) (by omega) (by omega), c2 k hk]
    have q3 : jv x 11 = iN f := by rw [te x (by omega), g_u2_self, va_up_self]
    have q4 : jv (x + 1) 6 = 0 := by rw [te (x + 1) (by omega), g_u2_ne _ _ _ (by omega), m2 6 (by decide) (by decide), c4]
    have hU5 : U5 x u.2.2.2.1 u v := ⟨fun a ha => ⟨((tU.1 a (by omega)).1).trans (m4.1 a ha).1, fun h5 => ((tU.1 a (by omega)).2).trans ((m4.1 a ha).2 h5)⟩, tU.2.1.trans m4.2.1, by omega⟩
    unfold f_X8_law
    rw [gW_B, rMc MV, gW_B]
    refine w_mread MV tB (by rw [q1 _ (by omega) (by omega) (by omega) (by omega)]; exact t9) (fun k _ => by rw [q1 _ (by omega) (by omega) (by omega) (by omega)]) (fun i hi => ?_) (fun L2 q' hL2 => by rw [hf] at hL2; cases hL2) (fun f2 hf2 j2 d1 d2 d12 d3 d4 d5 => ?_)
    · obtain ⟨g1, g2, g3, yy, g4, g5, g6, g7⟩ := tX i hi
      rw [hU5.2.1]
      exact ⟨g1, by rw [(hU5.1 _ (by omega)).1]; exact g2, by rw [q1 _ (by omega) (by omega) (by omega) (by omega)]; exact g3, yy, g4, by rw [(hU5.1 _ (by omega)).2 (by omega)]; exact g5, by rw [(hU5.1 _ (by omega)).1]; exact g6, fun j hj => by rw [q1 _ (by omega) (by omega) (by omega) (by omega)]; exact g7 j hj⟩
    · rw [hf] at hf2
      injection hf2 with hf2
      subst hf2
      refine w_mbad MV d12 (fun j3 r0 r14 rk ra => ⟨r0, fun q => absurd q (by decide), ?_⟩)
      show RR x z b n (t + 1) j3 v
      refine hR.bad (f := iN f) (n' := n') (by omega) (fun k k1 k2 k3 k4 => ?_) ?_ ?_ (fun k hk => ?_) r14 ?_ (fun a a1 a2 a3 a4 a5 a6 a7 a8 => ?_) (fun k hk => ?_) (Or.inl hU5) HV (by omega) (by omega)
      · rw [ra _ (by omega), d4 _ (by omega) (by omega)]; exact q2 k k1
      · rw [ra _ (by omega), d4 _ (by omega) (by omega)]; exact q3
      · rw [ra _ (by omega), d4 _ (by omega) (by omega)]; exact q4
      · rw [rk k (by omega) (by omega), d3 k (by omega), q1 _ (by omega) (by omega) (by omega) (by omega)]
      · rw [rk 9 (by decide) (by decide)]; exact d2
      · rw [ra a a5, d4 a a5 a6, q1 a a1 a2 a3 (by omega)]
      · rw [ra _ (by omega), show j2 (x + 354) k = j2 (x + 353 + 1) k from rfl, d5 k hk, q1 _ (by omega) (by omega) (by omega) (by omega)]
end ON
