/-! OP: COURT, of both, whole -/
section OCT
variable {iv jv kv lv : gV} {u v w y : gU} {x z b n t : Nat}
theorem mL.hi {W W' : Nat → Int32} {lm : Nat} {K N : Nat → Int32} {C : Nat → (Nat → Int32) → Bool} (h : mL W lm K N C) (hW : ∀ k : Nat, k = 3 ∨ 65 ≤ k → W k = W' k) : mL W' lm K N C := by
  rcases h with ⟨h1, h2⟩ | ⟨h1, h2, h3, h4⟩
  · exact Or.inl ⟨by rw [← hW 3 (Or.inl rfl)]; exact h1, h2⟩
  · refine Or.inr ⟨by rw [← hW 3 (Or.inl rfl)]; exact h1, by rw [← hW 305 (Or.inr (by decide))]; exact h2, h3, fun n hn => ?_⟩
    obtain ⟨a1, a2, b, f, a3, a4, a5, a6, a7⟩ := h4 n hn
    refine ⟨by rw [← hW _ (by omega)]; exact a1, by rw [← hW _ (by omega)]; exact a2, b, f, by rw [← hW _ (by omega)]; exact a3, by rw [← hW _ (by omega)]; exact a4, a5, a6, fun F st hF => ?_⟩
    obtain ⟨c1, c2⟩ := sRun_c (D := W) (D' := W') (F := F) (f - b) b (0, st) (fun j j1 j2 => hW j (by omega))
    rw [← c1, ← c2]
    exact a7 F st hF
theorem va_cpy_id {α : Type} {f g : Nat → α} {m : Nat} (h : ∀ k : Nat, k < m → f k = g k) : va_cpy f g 0 0 m = g := by
  funext k
  unfold va_cpy
  by_cases c : 0 ≤ k ∧ k < 0 + m
  · rw [if_pos c, show 0 + (k - 0) = k by omega]
    exact h k (by omega)
  · rw [if_neg c]
theorem va_cpy_at {α : Type} {f g : Nat → α} {m k : Nat} (h : k < m) : va_cpy f g 0 0 m k = f k := by
  unfold va_cpy
  rw [if_pos ⟨by omega, by omega⟩, show 0 + (k - 0) = k by omega]
theorem o_court : gOp x z b n t (f_X0_court x (x + 369)) (f_X8_court (x + 353)) := by
  intro iv u hR
  have hR' := hR
  obtain ⟨e, he, t6, t9, tB, tt, tX⟩ := hR.pc
  obtain ⟨hB, hT, hI, pn, on, rm, L0, h1, h2, qa, rr, hqa, hrr, g3', g4', g5', g6'⟩ := hR'
  have HX := hB.1
  have HM := hB.2.1
  have hx := hB.2.2.2.2.2.1
  obtain ⟨c1, c2, c3, c4, c5, c6, c7⟩ := cH_f (x := x) (iv := iv) (e := e)
  have hPC := cH_pc (iv := iv) HX hx tB tt tX
  have hWI := h1.2.1
  obtain ⟨tm, htm2, htm⟩ := hWI.2.2.2.2.1
  have S0 : cSt (cH x iv e) (x + 28) (iv (x + 354)) pn on rm := h1.1.fr hWI.1.2.1 hWI.1.2.2.2 (fun k _ => by rw [c1 _ (by omega) (by omega)]) (fun a a1 a2 _ => c1 a (by omega) (by omega))
  unfold f_X0_court f_X1_court
  rw [gW_B, rXc HX, gW_B, gW_B, rXc HX, gW_B, w_took HX, t6, gW_B, rXp HX, gW_B, rXr0 HX, gW_B, rXr1 HX, gW_B, rQc HX, gW_B]
  unfold f_X2_court
  rw [gW_B, rQc HX, gW_B, w_begins2 HX, gW_B, rQd HX, gW_B, rSc HX.dr, gW_B]
  show gW (f_X3_be (x + 6) (x + 28)) (cH x iv e, u) _
  refine w_be HX.dr HX.nw (Or.inl (by omega)) S0 hWI.1 (fun kv0 k1 k2 k3 => ?_)
  have s9 : u.1 (x + 6 + 3) = some (.inl (6, 12)) := (HX.dr.2.1 2 (by decide)).2
  have s31 : u.1 (x + 28 + 3) = some (.inl (6, 12)) := (HX.nw.2.1 2 (by decide)).2
  have sO : u.1 (x + 369) = some (.inl (2, 1)) := hB.2.2.1
  have H1 := HX.rv (f := va_cpy (u.2.1 (x + 28 + 3)) (u.2.1 (x + 6 + 3)) 0 0 12) s9
  have M1 := HM.rv (f := va_cpy (u.2.1 (x + 28 + 3)) (u.2.1 (x + 6 + 3)) 0 0 12) s9
  have r1 : ∀ a : Nat, a ≠ x + 9 → va_up u.2.1 (x + 6 + 3) (va_cpy (u.2.1 (x + 28 + 3)) (u.2.1 (x + 6 + 3)) 0 0 12) a = u.2.1 a := fun a ha => va_up_ne _ _ ha
  have r9 : va_up u.2.1 (x + 6 + 3) (va_cpy (u.2.1 (x + 28 + 3)) (u.2.1 (x + 6 + 3)) 0 0 12) (x + 6 + 3) = va_cpy (u.2.1 (x + 28 + 3)) (u.2.1 (x + 6 + 3)) 0 0 12 := va_up_self _ _ _
  generalize va_up u.2.1 (x + 6 + 3) (va_cpy (u.2.1 (x + 28 + 3)) (u.2.1 (x + 6 + 3)) 0 0 12) = R1 at H1 M1 r1 r9 ⊢
  have T1 : TX x kv0 (u.1, R1, u.2.2) := tX.fr (T := x) ⟨fun a ha => ⟨rfl, r1 a (by omega)⟩, rfl, Nat.le_refl _⟩ (Nat.le_refl _) (fun a ha => (k3 a (Or.inl (by omega))).trans (c1 a (by omega) (by omega)))
  have hPC1 : PC x kv0 (u.1, R1, u.2.2) (iv (x + 359)) e := ⟨H1, by rw [k3 _ (Or.inl (by omega))]; exact c5, tB, fun k hk => by rw [k3 _ (Or.inl (by omega))]; exact hPC.t hk, T1, hx⟩
  have e8 : kv0 (x + 1) 8 = iN 0 := by rw [k3 _ (Or.inl (by omega))]; exact c6
  have hR1 : (∀ a : Nat, a < u.2.2.2.1 → (u.1, R1, u.2.2).1 a = u.1 a ∧ (a ≠ x + 9 → (u.1, R1, u.2.2).2.1 a = u.2.1 a)) ∧ (u.1, R1, u.2.2).2.2.1 = u.2.2.1 ∧ u.2.2.2.1 ≤ (u.1, R1, u.2.2).2.2.2.1 := ⟨fun a _ => ⟨rfl, fun ha => r1 a ha⟩, rfl, Nat.le_refl _⟩
  -- what the component has been when it has read
  have cells : ∀ (kv : gV) (r : Nat), CK x kv0 kv → (∀ a : Nat, a ≠ x → a ≠ x + 1 → (a < x + 6 ∨ x + 27 ≤ a) → aT x kv r a = iv a) ∧ (∀ k : Nat, k ≠ 11 → aT x kv r x k = iv x k) ∧ aT x kv r x 11 = -1 ∧ aT x kv r (x + 1) 6 = 0 := by
    intro kv r ck
    refine ⟨fun a a1 a2 a3 => ?_, fun k hk => ?_, ?_, ?_⟩
    · rw [aT_a a2, ck.1 a a3, k3 a (by omega), c1 a a1 a2]
    · rw [aT_a (by omega), ck.1 x (Or.inl (by omega)), k3 x (Or.inl (by omega)), c2 k hk]
    · rw [aT_a (by omega), ck.1 x (Or.inl (by omega)), k3 x (Or.inl (by omega)), c3]
    · rw [aT_k (by decide), ck.1 _ (Or.inl (by omega)), k3 _ (Or.inl (by omega)), c4]
  show gW (f_X2_court_15 gN (x + 1) (iN 0)) _ _
  rw [← at_id e8]
  refine w_court_15 (rm := rm) hPC1 402 kv0 (iv (x + 354), pn, on) 0 0 gN CK.rf ⟨k1, hWI⟩ (by decide) (by omega) (by omega) (by rw [gN_eq]; omega) (fun c' q hC kv r ck S => ?_) (fun f hf kv r ck => ?_)
  · -- the text is a court
    obtain ⟨f1, f2, f3, f4⟩ := cells kv r ck
    have hcw := pCrt_w _ _ _ _ _ _ (Nat.zero_le e) hWI hC
    show gW (gB (gFR x 0 1) _) (aT x kv r, (u.1, R1, u.2.2)) _
    have e9 : aT x kv r (x + 28) 9 = iN tm := by rw [f1 _ (by omega) (by omega) (by omega), h1.1.1.2.2.1]; exact htm
    rw [gW_B, rXr1 H1, gW_B, rSi H1.nw, e9]
    have SD : cSt (aT x kv r) (x + 6) c'.1 c'.2.1 c'.2.2 rm := S.1.fr S.2.1.2.1 S.2.1.2.2.2 (fun k _ => by rw [aT_a (by omega)]) (fun a a1 a2 _ => aT_a (by omega))
    have d8 : aT x kv r (x + 6) 8 = iv (x + 28) 8 := by rw [aT_a (by omega), ck.2, k2, c1 _ (by omega) (by omega)]
    generalize aT x kv r = j0 at f1 f2 f3 f4 e9 SD d8 ⊢
    by_cases c12 : tm = 12
    · -- too many courts
      rw [gW_ift (by rw [c12]; decide)]
      unfold f_X1_court_50 f_X1_mayBe
      rw [gW_T, gW_ift rfl]
      refine w_thr (fun a jv v hTh => ?_)
      obtain ⟨tU, te, tn, ts⟩ := hTh
      have tn : v.2.2.2.1 = u.2.2.2.1 + 1 := tn
      have ts : v.2.2.2.2 = u.2.2.2.2 + 6 := ts
      have te : ∀ a : Nat, a < u.2.2.2.1 → jv a = j0 a := te
      have HV := H1.fr tU (by show x + 353 ≤ u.2.2.2.1; omega)
      have MV := M1.fr tU (by show x + 353 + 16 ≤ u.2.2.2.1; omega)
      have TV : TX x jv v := T1.fr tU (by show x ≤ u.2.2.2.1; omega) (fun a ha => by rw [te a (by omega), f1 a (by omega) (by omega) (by omega), k3 a (Or.inl (by omega)), c1 a (by omega) (by omega)])
      show gW (gIf ((18 : Nat) = 17) (gRet 1) (gIf ((18 : Nat) = 18) (gRet 2) gFail)) (jv, v) _
      rw [gW_iff (by decide), gW_ift rfl, gW_ret]
      refine w_mcourt MV tB (by rw [te _ (by omega), f1 _ (by omega) (by omega) (by omega)]; exact t9) (fun k _ => by rw [te _ (by omega), f1 _ (by omega) (by omega) (by omega)]) TV (by rw [te _ (by omega), f1 _ (by omega) (by omega) (by omega)]) hWI htm htm2 (fun c2 q2 hC2 hn => (hn c12).elim) (fun c2 q2 hC2 _ j3 r0 d9 r14 r7 rk rW => ⟨r0, fun q => absurd q (by decide), ?_⟩) (fun f hf => by rw [hC] at hf; cases hf)
      show RR x z b n (t + 1) j3 v
      refine hR.bad (f := -1) (n' := 0) (by omega) (fun k k1 k2 k3 k4 => ?_) ?_ ?_ (fun k hk => ?_) r14 d9 (fun a a1 a2 a3 a4 a5 a6 a7 a8 => ?_) (fun k hk => ?_) (Or.inr ⟨fun a ha => ⟨(tU.1 a ha).1, fun h9 => ((tU.1 a ha).2).trans (r1 a h9)⟩, tU.2.1, by omega⟩) HV (by omega) (by omega)
      · rw [rk.2 _ (by omega) (by omega) (by omega), te _ (by omega)]; exact f2 k k1
      · rw [rk.2 _ (by omega) (by omega) (by omega), te _ (by omega)]; exact f3
      · rw [rk.2 _ (by omega) (by omega) (by omega), te _ (by omega)]; exact f4
      · by_cases e7 : k = 7
        · rw [e7, r7, te _ (by omega), f1 _ (by omega) (by omega) (by omega)]
        · rw [rk.1 k (by omega), te _ (by omega), f1 _ (by omega) (by omega) (by omega)]
      · rw [rk.2 a a5 a6 (by omega), te a a1, f1 a a2 a3 (by omega)]
      · rw [rW k hk, te _ (by omega), f1 _ (by omega) (by omega) (by omega)]
    · -- it is
      rw [gW_iff (by rw [show (12 : Int32) = iN 12 from rfl, iN_le (by omega) (by omega)]; omega)]
      unfold f_X1_court_50 f_X1_mayBe
      rw [gW_T, gW_iff (by decide), gW_ret]
      show gW (gB (gFR x 0 1) _) (j0, (u.1, R1, u.2.2)) _
      rw [gW_B, rXr1 H1, gW_B, rSc H1.nw, gW_B]
      refine w_be H1.nw H1.dr (Or.inr (by omega)) SD S.2.1 (fun kv1 m1 m2 m3 => ?_)
      have R31 : va_cpy (R1 (x + 6 + 3)) (R1 (x + 28 + 3)) 0 0 12 = u.2.1 (x + 28 + 3) := by
        rw [r9, r1 _ (by omega)]
        exact va_cpy_id (fun k hk => va_cpy_at hk)
      show gW (gB (gFR x 0 1) _) (kv1, (u.1, va_up R1 (x + 28 + 3) (va_cpy (R1 (x + 6 + 3)) (R1 (x + 28 + 3)) 0 0 12), u.2.2)) _
      rw [R31]
      have H2 := H1.rv (f := u.2.1 (x + 28 + 3)) s31
      have M2 := M1.rv (f := u.2.1 (x + 28 + 3)) s31
      have q1 : ∀ a : Nat, a ≠ x + 9 → va_up R1 (x + 28 + 3) (u.2.1 (x + 28 + 3)) a = u.2.1 a := fun a ha => by
        by_cases e' : a = x + 28 + 3
        · rw [e', va_up_self]
        · rw [va_up_ne _ _ e', r1 a ha]
      have H2 : XS (u.1, va_up R1 (x + 28 + 3) (u.2.1 (x + 28 + 3)), u.2.2) x := H2
      have M2 : MS (u.1, va_up R1 (x + 28 + 3) (u.2.1 (x + 28 + 3)), u.2.2) (x + 353) := M2
      generalize va_up R1 (x + 28 + 3) (u.2.1 (x + 28 + 3)) = R2 at q1 H2 M2 ⊢
      have e2 : c'.1 2 = iN tm := (hcw 2 (Or.inl rfl)).trans htm
      have e91 : kv1 (x + 28) 9 = iN tm := m1.1.2.2.1.trans e2
      rw [gW_B, rXr1 H2, gW_B, rSi H2.nw, e91, gW_B, rSp H2.nw, gW_B, rXp H2, gW_B, rXr1 H2, gW_B, rSi H2.nw, gW_ret]
      have j28 : g_u2 (g_u2 kv1 (x + 28) 9 (iN tm + 1)) x 12 0 (x + 28) = va_up (kv1 (x + 28)) 9 (iN (tm + 1)) := by rw [g_u2_ne _ _ _ (by omega), g_u2_self, iNp1]
      rw [j28, va_up_self]
      show gW (gB (gSI (x + 369) 2 (0 : Int32) (iN (tm + 1))) _) _ _
      rw [gW_B, w_outS (u := (u.1, R2, u.2.2)) sO, gW_ret]
      have j28 : g_u2 (g_u2 (g_u2 kv1 (x + 28) 9 (iN tm + 1)) x 12 0) (x + 369) 0 (iN (tm + 1)) (x + 28) = va_up (kv1 (x + 28)) 9 (iN (tm + 1)) := by rw [g_u2_ne _ _ _ (by omega)]; exact j28
      have jx : g_u2 (g_u2 (g_u2 kv1 (x + 28) 9 (iN tm + 1)) x 12 0) (x + 369) 0 (iN (tm + 1)) x = va_up (j0 x) 12 0 := by rw [g_u2_ne _ _ _ (by omega), g_u2_self, g_u2_ne _ _ _ (by omega), m3 x (Or.inl (by omega))]
      have jo : g_u2 (g_u2 (g_u2 kv1 (x + 28) 9 (iN tm + 1)) x 12 0) (x + 369) 0 (iN (tm + 1)) (x + 369) 0 = iN (tm + 1) := by rw [g_u2_self, va_up_self]
      have ja : ∀ a : Nat, a ≠ x → a ≠ x + 28 → a ≠ x + 369 → g_u2 (g_u2 (g_u2 kv1 (x + 28) 9 (iN tm + 1)) x 12 0) (x + 369) 0 (iN (tm + 1)) a = kv1 a := fun a a1 a2 a3 => by rw [g_u2_ne _ _ _ a3, g_u2_ne _ _ _ a1, g_u2_ne _ _ _ a2]
      generalize g_u2 (g_u2 (g_u2 kv1 (x + 28) 9 (iN tm + 1)) x 12 0) (x + 369) 0 (iN (tm + 1)) = j1 at j28 jx jo ja ⊢
      have jl : ∀ a : Nat, a ≠ x → a ≠ x + 369 → (a < x + 28 ∨ x + 49 ≤ a) → j1 a = j0 a := fun a a1 a2 a3 => by rw [ja a a1 (by omega) a2, m3 a a3]
      have jf : ∀ a : Nat, a ≠ x → a ≠ x + 1 → a ≠ x + 369 → (a < x + 6 ∨ x + 27 ≤ a) → (a < x + 28 ∨ x + 49 ≤ a) → j1 a = iv a := fun a a1 a2 a3 a4 a5 => by rw [jl a a1 a3 a5, f1 a a1 a2 a4]
      have T2 : TX x j1 (u.1, R2, u.2.2) := tX.fr (T := x) ⟨fun a ha => ⟨rfl, q1 a (by omega)⟩, rfl, Nat.le_refl _⟩ (Nat.le_refl _) (fun a ha => jf a (by omega) (by omega) (by omega) (by omega) (by omega))
      refine w_mcourt M2 tB (by rw [jf _ (by omega) (by omega) (by omega) (by omega) (by omega)]; exact t9) (fun k _ => by rw [jf _ (by omega) (by omega) (by omega) (by omega) (by omega)]) T2 (by rw [jf _ (by omega) (by omega) (by omega) (by omega) (by omega)]) hWI htm htm2 (fun c2 q2 hC2 _ j3 r0 d9 r14 r7 rk rW => ?_) (fun c2 q2 hC2 hn => (c12 hn).elim) (fun f hf => by rw [hC] at hf; cases hf)
      rw [hC] at hC2
      injection hC2 with hC2
      injection hC2 with hC2 _
      subst hC2
      have v3 : ∀ a : Nat, a ≠ x → a ≠ x + 1 → a ≠ x + 369 → (a < x + 6 ∨ x + 27 ≤ a) → (a < x + 28 ∨ x + 49 ≤ a) → a ≠ x + 353 → a ≠ x + 354 → a ≠ x + 356 → j3 a = iv a := fun a a1 a2 a3 a4 a5 a6 a7 a8 => by rw [rk.2 a a6 a7 a8, jf a a1 a2 a3 a4 a5]
      have hK : Kx x iv u j3 (u.1, R2, u.2.2) := ⟨fun a a1 a2 => ⟨v3 a (by omega) (by omega) (by omega) (by omega) (by omega) (by omega) (by omega) (by omega), rfl, q1 a (by omega)⟩, Nat.le_refl _⟩
      have vx : ∀ k : Nat, k ≠ 11 → k ≠ 12 → j3 x k = iv x k := fun k k1 k2 => by rw [rk.2 x (by omega) (by omega) (by omega), jx, va_up_ne _ _ k2, f2 k k1]
      refine ⟨r0, ?_, ?_⟩
      · rw [oE0]
        show j3 (x + 369) 0 = iN (tm + 1)
        rw [rk.2 _ (by omega) (by omega) (by omega)]
        exact jo
      · have eV : ∀ k : Nat, k = 3 ∨ 65 ≤ k → iv (x + 354) k = j3 (x + 354) k := fun k hk => by
          rw [rW, va_up_ne _ _ (by omega)]
          exact (hcw k (by omega)).symm
        have S3 : cSt j3 (x + 28) (j3 (x + 354)) c'.2.1 c'.2.2 rm := by
          rw [rW]
          refine m1.fld (f := 9) S.2 (by omega) (fun j j1 j2 => ?_) ?_ (fun a a1 a2 a3 => ?_)
          · rw [rk.2 _ (by omega) (by omega) (by omega), j28, va_up_ne _ _ j1]
          · rw [rk.2 _ (by omega) (by omega) (by omega), j28, va_up_self]
          · rw [rk.2 _ (by omega) (by omega) (by omega), ja _ (by omega) (by omega) (by omega)]
        have W3 : WI (j3 (x + 354)) c'.2.1 c'.2.2 := by
          rw [rW]
          exact S.2.fld (by decide) (fun _ => ⟨tm + 1, by omega, rfl⟩) (fun q => absurd q (by decide)) (fun q => absurd q (by decide)) (fun q => absurd q (by decide))
        have b8 : j3 (x + 28) 8 = iv (x + 28) 8 := by rw [rk.2 _ (by omega) (by omega) (by omega), j28, va_up_ne _ _ (by decide), m2, d8]
        refine ⟨hB.fr2 H2 M2 rfl (fun a ha => ⟨rfl, q1 a (by omega), v3 a (by omega) (by omega) (by omega) (by omega) (by omega) (by omega) (by omega) (by omega)⟩) rfl (Nat.le_refl _) (by omega) (by show u.2.2.2.1 ≤ _; omega) (by show u.2.2.2.2 ≤ _; omega), ⟨⟨0, by omega, ?_, d9, fun k hk => absurd hk (Nat.not_lt_zero k)⟩, ?_, ?_, ?_, ?_, ?_⟩, ?_, c'.2.1, c'.2.2, rm, L0, ⟨S3, W3, ?_, ?_, ?_⟩, mL.hi h2 eV, ⟨0, rr, by omega, hrr, ?_, r7, ?_, fun j hj => absurd hj (Nat.not_lt_zero j)⟩⟩
        · show j3 (x + 1) 6 = iN 0
          rw [rk.2 _ (by omega) (by omega) (by omega), jl _ (by omega) (by omega) (by omega), f4]
          rfl
        · show j3 x 11 = j3 (x + 353) 14
          rw [r14, rk.2 x (by omega) (by omega) (by omega), jx, va_up_ne _ _ (by decide), f3]
        · show j3 x 17 = -1
          rw [vx 17 (by decide) (by decide)]
          exact hT.2.2.1
        · show j3 (x + 353) 23 = 0
          rw [rk.1 23 (by omega), jf _ (by omega) (by omega) (by omega) (by omega) (by omega)]
          exact hT.2.2.2.1
        · show j3 (x + 353) 24 = 0
          rw [rk.1 24 (by omega), jf _ (by omega) (by omega) (by omega) (by omega) (by omega)]
          exact hT.2.2.2.2.1
        · show j3 (x + 96) 2 = 0
          rw [v3 _ (by omega) (by omega) (by omega) (by omega) (by omega) (by omega) (by omega) (by omega)]
          exact hT.2.2.2.2.2
        · refine hI.fr2 hK (by omega) (vx 18 (by decide) (by decide)) ?_ (v3 _ (by omega) (by omega) (by omega) (by omega) (by omega) (by omega) (by omega) (by omega)) (fun a a1 a2 => v3 a (by omega) (by omega) (by omega) (by omega) (by omega) (by omega) (by omega) (by omega)) (q1 _ (by omega))
          show j3 (x + 353) 6 = _
          rw [rk.1 6 (by omega), jf _ (by omega) (by omega) (by omega) (by omega) (by omega)]
        · have := h1.2.2.1
          omega
        · exact h1.2.2.2.1.fr2 hK b8 (q1 _ (by omega))
        · show j3 (x + 28) 8 = -1 ↔ j3 (x + 354) 3 = 0
          rw [b8, ← eV 3 (Or.inl rfl)]
          exact h1.2.2.2.2
        · show j3 x 12 = iN 0
          rw [rk.2 x (by omega) (by omega) (by omega), jx, va_up_self]
          rfl
        · show j3 x 13 = _
          rw [vx 13 (by decide) (by decide)]
          exact g5'
  · -- the text is wrong
    obtain ⟨f1, f2, f3, f4⟩ := cells kv r ck
    have m1 : pF x kv r f (x + 27) 6 = iN f := by unfold pF; rw [g_u2_self, va_up_self]
    have m2 : ∀ a : Nat, a ≠ x + 27 → pF x kv r f a = aT x kv r a := fun a ha => g_u2_ne _ _ _ ha
    refine w_isWrong H1 m1 (fun a jv v hTh => ?_)
    obtain ⟨tU, te, tn, ts⟩ := hTh
    have tn : v.2.2.2.1 = u.2.2.2.1 + 1 := tn
    have ts : v.2.2.2.2 = u.2.2.2.2 + 6 := ts
    have te : ∀ a : Nat, a < u.2.2.2.1 → jv a = g_u2 (pF x kv r f) x 11 (iN f) a := te
    have HV := H1.fr tU (by show x + 353 ≤ u.2.2.2.1; omega)
    have MV := M1.fr tU (by show x + 353 + 16 ≤ u.2.2.2.1; omega)
    have q1 : ∀ a : Nat, a < u.2.2.2.1 → a ≠ x → a ≠ x + 1 → (a < x + 6 ∨ x + 27 < a) → jv a = iv a := fun a a1 a2 a3 a4 => by rw [te a a1, g_u2_ne _ _ _ a2, m2 a (by omega), f1 a a2 a3 (by omega)]
    have TV : TX x jv v := T1.fr tU (by show x ≤ u.2.2.2.1; omega) (fun a ha => by rw [q1 a (by omega) (by omega) (by omega) (by omega), k3 a (Or.inl (by omega)), c1 a (by omega) (by omega)])
    show gW (gIf ((17 : Nat) = 17) (gRet 1) _) (jv, v) _
    rw [gW_ift rfl, gW_ret]
    refine w_mcourt MV tB (by rw [q1 _ (by omega) (by omega) (by omega) (by omega)]; exact t9) (fun k _ => by rw [q1 _ (by omega) (by omega) (by omega) (by omega)]) TV (by rw [q1 _ (by omega) (by omega) (by omega) (by omega)]) hWI htm htm2 (fun c2 q2 hC2 => by rw [hf] at hC2; cases hC2) (fun c2 q2 hC2 => by rw [hf] at hC2; cases hC2) (fun f2' hf2 j3 r0 d9 r14 r7 rk rW => ⟨r0, fun q => absurd q (by decide), ?_⟩)
    rw [hf] at hf2
    injection hf2 with hf2
    subst hf2
    show RR x z b n (t + 1) j3 v
    refine hR.bad (f := iN f) (n' := 0) (by omega) (fun k k1 k2 k3 k4 => ?_) ?_ ?_ (fun k hk => ?_) r14 d9 (fun a a1 a2 a3 a4 a5 a6 a7 a8 => ?_) (fun k hk => ?_) (Or.inr ⟨fun a ha => ⟨(tU.1 a ha).1, fun h9 => ((tU.1 a ha).2).trans (r1 a h9)⟩, tU.2.1, by omega⟩) HV (by omega) (by omega)
    · rw [rk.2 _ (by omega) (by omega) (by omega), te _ (by omega), g_u2_self, va_up_ne _ _ k1, m2 _ (by omega)]; exact f2 k k1
    · rw [rk.2 _ (by omega) (by omega) (by omega), te _ (by omega), g_u2_self, va_up_self]
    · rw [rk.2 _ (by omega) (by omega) (by omega), te _ (by omega), g_u2_ne _ _ _ (by omega), m2 _ (by omega)]; exact f4
    · by_cases e7 : k = 7
      · rw [e7, r7, q1 _ (by omega) (by omega) (by omega) (by omega)]
      · rw [rk.1 k (by omega), q1 _ (by omega) (by omega) (by omega) (by omega)]
    · rw [rk.2 a a5 a6 (by omega), q1 a a1 a2 a3 (by omega)]
    · rw [rW k hk, q1 _ (by omega) (by omega) (by omega) (by omega)]
end OCT
