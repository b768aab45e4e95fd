/-! OPS: image, back, undo -/
section O8
variable {iv jv kv lv : gV} {u v : gU} {x z b n t : Nat}
theorem o_image : gOp0 x z b n t (f_X1_image x) (f_X8_image (x + 353)) := by
  intro iv u hR
  obtain ⟨pn, on, rm, L, q, r, hq, hr, g3, g4, g5, h1, h2, g6, hC, hM⟩ := hR.all
  have HX := hC.X
  have hB := hR.1
  have hT := hR.2.1
  have hW := h1.2.1
  have hx := hR.nx
  unfold f_X1_image
  rw [gW_B, rXr2 HX, gW_B, rXr1 HX, gW_B, rSc HX.im, gW_B]
  refine w_be HX.im HX.nw (Or.inr (by omega)) h1.1 hW.1 (fun j0 b1 b2 b3 => ?_)
  have s3 : u.1 (x + 49 + 3) = some (.inl (6, 12)) := (HX.im.2.1 2 (by decide)).2
  have H1 := HX.rv (f := va_cpy (u.2.1 (x + 28 + 3)) (u.2.1 (x + 49 + 3)) 0 0 12) s3
  have M1 := hM.M.rv (f := va_cpy (u.2.1 (x + 28 + 3)) (u.2.1 (x + 49 + 3)) 0 0 12) s3
  have r1 : ∀ a : Nat, a ≠ x + 49 + 3 → va_up u.2.1 (x + 49 + 3) (va_cpy (u.2.1 (x + 28 + 3)) (u.2.1 (x + 49 + 3)) 0 0 12) a = u.2.1 a := fun a ha => va_up_ne _ _ ha
  have r2 : ∀ k : Nat, k < 12 → va_up u.2.1 (x + 49 + 3) (va_cpy (u.2.1 (x + 28 + 3)) (u.2.1 (x + 49 + 3)) 0 0 12) (x + 49 + 3) k = u.2.1 (x + 28 + 3) k := fun k hk => by rw [va_up_self]; exact va_cpy_at hk
  generalize va_up u.2.1 (x + 49 + 3) (va_cpy (u.2.1 (x + 28 + 3)) (u.2.1 (x + 49 + 3)) 0 0 12) = R1 at H1 M1 r1 r2 ⊢
  rw [gW_B, gW_PZ H1.1.1 (Or.inr rfl), gW_ret]
  have e1 : ∀ a : Nat, a ≠ x → (a < x + 49 ∨ x + 49 + 21 ≤ a) → g_u2 j0 x 18 1 a = iv a := fun a a1 a2 => by rw [g_u2_ne _ _ _ a1, b3 a a2]
  have e2 : ∀ a : Nat, a ≠ x → g_u2 j0 x 18 1 a = j0 a := fun a a1 => g_u2_ne _ _ _ a1
  have e3 : g_u2 j0 x 18 1 x = va_up (iv x) 18 1 := by rw [g_u2_self, b3 x (Or.inl (by omega))]
  generalize g_u2 j0 x 18 1 = j1 at e1 e2 e3 ⊢
  unfold f_X8_image
  have hM2 : MI x j1 (u.1, R1, u.2.2) (iv (x + 354)) pn on L := ⟨M1, e1 _ (by omega) (by omega), hW, h2⟩
  refine m_z hM2 (fun j2 z1 z2 z3 hM3 => ?_)
  have H := hM3.M
  show gW (f_X8_image_7 gN (x + 353) (iN 0)) _ _
  refine w_image_7 H 1154 0 gN j2 (by omega) (by rw [gN_eq]; omega) (fun j hj => absurd hj (Nat.not_lt_zero j)) (fun j3 a3 c3 => ?_)
  unfold f_X8_image_32
  rw [gW_B, rMz H (Or.inr rfl), gW_ret]
  have f0 : ∀ k : Nat, k ≠ 6 → g_u2 j3 (x + 353) 6 1 (x + 353) k = j2 (x + 353) k := fun k hk => by rw [g_u2_self, va_up_ne _ _ hk, a3 _ (by omega)]
  have f6 : g_u2 j3 (x + 353) 6 1 (x + 353) 6 = 1 := by rw [g_u2_self, va_up_self]
  have fa : ∀ a : Nat, a ≠ x + 353 → a ≠ x + 355 → g_u2 j3 (x + 353) 6 1 a = j1 a := fun a c1 c2 => by rw [g_u2_ne _ _ _ c1, a3 a c2, z3 a c1]
  have f5 : ∀ k : Nat, k < 1154 → g_u2 j3 (x + 353) 6 1 (x + 355) k = iv (x + 354) k := fun k hk => by
    rw [g_u2_ne _ _ _ (by omega), show j3 (x + 355) k = j3 (x + 353 + 2) k from rfl, c3 k hk, z3 _ (by omega), e1 _ (by omega) (by omega)]
  generalize g_u2 j3 (x + 353) 6 1 = j4 at f0 f6 fa f5 ⊢
  have fi : ∀ a : Nat, a ≠ x → a ≠ x + 353 → a ≠ x + 355 → (a < x + 49 ∨ x + 49 + 21 ≤ a) → j4 a = iv a := fun a c0 c1 c2 c3 => by rw [fa a c1 c2, e1 a c0 c3]
  have fx : ∀ k : Nat, k ≠ 18 → j4 x k = iv x k := fun k hk => by rw [fa x (by omega) (by omega), e3, va_up_ne _ _ hk]
  have fm : ∀ k : Nat, (k = 7 ∨ k = 9 ∨ k = 14 ∨ k = 23 ∨ k = 24) → j4 (x + 353) k = iv (x + 353) k := fun k hk => by rw [f0 k (by omega), z1.2.2.2.1 k (by omega), e1 _ (by omega) (by omega)]
  have hK : Kx x iv u j4 (u.1, R1, u.2.2) := ⟨fun a c1 c2 => ⟨fi a (by omega) (by omega) (by omega) (by omega), rfl, r1 a (by omega)⟩, Nat.le_refl _⟩
  have bn := hB.2.2.2.2.2.2
  have hRR : RR x z b n (t + 1) j4 (u.1, R1, u.2.2) := by
    refine ⟨hB.fr2 H1 M1 rfl (fun a ha => ⟨rfl, r1 a (by omega), fi a (by omega) (by omega) (by omega) (by omega)⟩) rfl (Nat.le_refl _) (by omega) (by show u.2.2.2.1 ≤ _; omega) (by show u.2.2.2.2 ≤ _; omega), ?_, ?_, pn, on, rm, L, ?_, ?_, ?_⟩
    · obtain ⟨⟨m, m1, m2, m3, m4⟩, t2, t3, t4, t5, t6⟩ := hT
      refine ⟨⟨m, m1, by rw [fi _ (by omega) (by omega) (by omega) (by omega)]; exact m2, by rw [fm 9 (by omega)]; exact m3, fun k hk => by rw [fi (x + 2) (by omega) (by omega) (by omega) (by omega), fi (x + 359) (by omega) (by omega) (by omega) (by omega)]; exact m4 k hk⟩, ?_, ?_, ?_, ?_, ?_⟩
      · rw [fx 11 (by decide), fm 14 (by omega)]; exact t2
      · rw [fx 17 (by decide)]; exact t3
      · rw [fm 23 (by omega)]; exact t4
      · rw [fm 24 (by omega)]; exact t5
      · rw [fi (x + 96) (by omega) (by omega) (by omega) (by omega)]; exact t6
    · refine ⟨by rw [f6, fa x (by omega) (by omega), e3, va_up_self], Or.inr ⟨f6, pn, on, rm, L, ?_, ?_⟩⟩
      · have c0 : cC x (t + 1) j4 (u.1, R1, u.2.2) (x + 49) (iv (x + 354)) pn on rm L := by
          refine ⟨b1.fr hW.1.2.1 hW.1.2.2.2 (fun k _ => by rw [fa _ (by omega) (by omega), e2 _ (by omega)]) (fun a a1 a2 _ => by rw [fa _ (by omega) (by omega), e2 _ (by omega)]), hW, by have := h1.2.2.1; omega, h1.2.2.2.1.mv hK ?_ r2, ?_⟩
          · rw [fa _ (by omega) (by omega), e2 _ (by omega)]; exact b2
          · rw [fa _ (by omega) (by omega), e2 _ (by omega), b2]; exact h1.2.2.2.2
        exact c0.cw (fun k hk => f5 k (by omega))
      · exact mL.lo h2 (fun k hk => (f5 k hk).symm)
    · rw [fi (x + 354) (by omega) (by omega) (by omega) (by omega)]
      exact h1.fr2 hK (by omega) (fi _ (by omega) (by omega) (by omega) (by omega)) (fun a c1 c2 _ => fi a (by omega) (by omega) (by omega) (by omega)) (r1 _ (by omega))
    · rw [fi (x + 354) (by omega) (by omega) (by omega) (by omega)]; exact h2
    · exact RA.fr2 ⟨q, r, hq, hr, g3, g4, g5, g6⟩ hK (fx 12 (by decide)) (fx 13 (by decide)) (fm 7 (by omega)) (fi _ (by omega) (by omega) (by omega) (by omega)) (by rw [fi (x + 354) (by omega) (by omega) (by omega) (by omega)]) (fun a c1 c2 => fi a (by omega) (by omega) (by omega) (by omega)) (fun a c1 c2 => r1 a (by omega))
  exact hRR
theorem o_back : gOp1 x z b n t (f_X1_back x) (f_X8_back (x + 353)) := by
  intro iv u hR
  obtain ⟨pn, on, rm, L, q, r, hq, hr, g3, g4, g5, h1, h2, g6, hC, hM⟩ := hR.all
  have HX := hC.X
  have hB := hR.1
  have hT := hR.2.1
  have hI := hR.2.2.1
  have hx := hR.nx
  unfold f_X1_back
  rw [gW_B, rXi HX, hI.1]
  rcases hI.2 with i0 | ⟨i1, pn', on', rm', L', i2, i3⟩
  · rw [gW_ift i0, gW_ret]
    unfold f_X8_back
    refine m_z hM (fun j2 z1 z2 z3 hM3 => ?_)
    have H := hM3.M
    rw [gW_B, rMi H, z1.2.2.2.1 6 (by omega), gW_ift i0, gW_ret]
    exact ⟨rfl, hR.fr (by omega) z1⟩
  · have hW := i2.2.1
    rw [gW_iff (by rw [i1]; decide), gW_B, rXr1 HX, gW_B, rXr2 HX, gW_B, rSc HX.nw, gW_B]
    refine w_be HX.nw HX.im (Or.inl (by omega)) i2.1 hW.1 (fun j0 b1 b2 b3 => ?_)
    have s3 : u.1 (x + 28 + 3) = some (.inl (6, 12)) := (HX.nw.2.1 2 (by decide)).2
    have H1 := HX.rv (f := va_cpy (u.2.1 (x + 49 + 3)) (u.2.1 (x + 28 + 3)) 0 0 12) s3
    have M1 := hM.M.rv (f := va_cpy (u.2.1 (x + 49 + 3)) (u.2.1 (x + 28 + 3)) 0 0 12) s3
    have r1 : ∀ a : Nat, a ≠ x + 28 + 3 → va_up u.2.1 (x + 28 + 3) (va_cpy (u.2.1 (x + 49 + 3)) (u.2.1 (x + 28 + 3)) 0 0 12) a = u.2.1 a := fun a ha => va_up_ne _ _ ha
    have r2 : ∀ k : Nat, k < 12 → va_up u.2.1 (x + 28 + 3) (va_cpy (u.2.1 (x + 49 + 3)) (u.2.1 (x + 28 + 3)) 0 0 12) (x + 28 + 3) k = u.2.1 (x + 49 + 3) k := fun k hk => by rw [va_up_self]; exact va_cpy_at hk
    generalize va_up u.2.1 (x + 28 + 3) (va_cpy (u.2.1 (x + 49 + 3)) (u.2.1 (x + 28 + 3)) 0 0 12) = R1 at H1 M1 r1 r2 ⊢
    rw [gW_B, rXp H1, gW_ret]
    have e1 : ∀ a : Nat, a ≠ x → (a < x + 28 ∨ x + 28 + 21 ≤ a) → g_u2 j0 x 12 0 a = iv a := fun a a1 a2 => by rw [g_u2_ne _ _ _ a1, b3 a a2]
    have e2 : ∀ a : Nat, a ≠ x → g_u2 j0 x 12 0 a = j0 a := fun a a1 => g_u2_ne _ _ _ a1
    have e3 : g_u2 j0 x 12 0 x = va_up (iv x) 12 0 := by rw [g_u2_self, b3 x (Or.inl (by omega))]
    generalize g_u2 j0 x 12 0 = j1 at e1 e2 e3 ⊢
    unfold f_X8_back
    have hM2 : MI x j1 (u.1, R1, u.2.2) (iv (x + 354)) pn on L := ⟨M1, e1 _ (by omega) (by omega), h1.2.1, h2⟩
    refine m_z hM2 (fun j2 z1 z2 z3 hM3 => ?_)
    have H := hM3.M
    rw [gW_B, rMi H, z1.2.2.2.1 6 (by omega), e1 _ (by omega) (by omega), gW_iff (by rw [i1]; decide)]
    show gW (f_X8_back_16 gN (x + 353) (iN 0)) _ _
    refine w_back_16 H 1154 0 gN j2 (by omega) (by rw [gN_eq]; omega) (fun j hj => absurd hj (Nat.not_lt_zero j)) (fun j3 a3 c3 => ?_)
    unfold f_X8_back_41
    rw [gW_B, rMp H, gW_ret]
    have f0 : ∀ k : Nat, k ≠ 7 → g_u2 j3 (x + 353) 7 0 (x + 353) k = j2 (x + 353) k := fun k hk => by rw [g_u2_self, va_up_ne _ _ hk, a3 _ (by omega)]
    have f7 : g_u2 j3 (x + 353) 7 0 (x + 353) 7 = iN 0 := by rw [g_u2_self, va_up_self]; rfl
    have fa : ∀ a : Nat, a ≠ x + 353 → a ≠ x + 354 → g_u2 j3 (x + 353) 7 0 a = j1 a := fun a c1 c2 => by rw [g_u2_ne _ _ _ c1, a3 a c2, z3 a c1]
    have f4 : ∀ k : Nat, k < 1154 → g_u2 j3 (x + 353) 7 0 (x + 354) k = iv (x + 355) k := fun k hk => by
      rw [g_u2_ne _ _ _ (by omega), show j3 (x + 354) k = j3 (x + 353 + 1) k from rfl, c3 k hk, z3 _ (by omega), e1 _ (by omega) (by omega)]
    generalize g_u2 j3 (x + 353) 7 0 = j4 at f0 f7 fa f4 ⊢
    have fi : ∀ a : Nat, a ≠ x → a ≠ x + 353 → a ≠ x + 354 → (a < x + 28 ∨ x + 28 + 21 ≤ a) → j4 a = iv a := fun a c0 c1 c2 c3 => by rw [fa a c1 c2, e1 a c0 c3]
    have fx : ∀ k : Nat, k ≠ 12 → j4 x k = iv x k := fun k hk => by rw [fa x (by omega) (by omega), e3, va_up_ne _ _ hk]
    have fm : ∀ k : Nat, (k = 6 ∨ k = 9 ∨ k = 14 ∨ k = 23 ∨ k = 24) → j4 (x + 353) k = iv (x + 353) k := fun k hk => by rw [f0 k (by omega), z1.2.2.2.1 k (by omega), e1 _ (by omega) (by omega)]
    have hK : Kx x iv u j4 (u.1, R1, u.2.2) := ⟨fun a c1 c2 => ⟨fi a (by omega) (by omega) (by omega) (by omega), rfl, r1 a (by omega)⟩, Nat.le_refl _⟩
    have bn := hB.2.2.2.2.2.2
    have hRR : RR x z b n (t + 1) j4 (u.1, R1, u.2.2) := by
      refine ⟨hB.fr2 H1 M1 rfl (fun a ha => ⟨rfl, r1 a (by omega), fi a (by omega) (by omega) (by omega) (by omega)⟩) rfl (Nat.le_refl _) (by omega) (by show u.2.2.2.1 ≤ _; omega) (by show u.2.2.2.2 ≤ _; omega), ?_, ?_, pn', on', rm', L', ?_, ?_, 0, r, by omega, hr, ?_, f7, ?_, fun j hj => absurd hj (Nat.not_lt_zero j)⟩
      · obtain ⟨⟨m, m1, m2, m3, m4⟩, t2, t3, t4, t5, t6⟩ := hT
        refine ⟨⟨m, m1, by rw [fi _ (by omega) (by omega) (by omega) (by omega)]; exact m2, by rw [fm 9 (by omega)]; exact m3, fun k hk => by rw [fi (x + 2) (by omega) (by omega) (by omega) (by omega), fi (x + 359) (by omega) (by omega) (by omega) (by omega)]; exact m4 k hk⟩, ?_, ?_, ?_, ?_, ?_⟩
        · rw [fx 11 (by decide), fm 14 (by omega)]; exact t2
        · rw [fx 17 (by decide)]; exact t3
        · rw [fm 23 (by omega)]; exact t4
        · rw [fm 24 (by omega)]; exact t5
        · rw [fi (x + 96) (by omega) (by omega) (by omega) (by omega)]; exact t6
      · exact hI.fr2 hK (by omega) (fx 18 (by decide)) (fm 6 (by omega)) (fi _ (by omega) (by omega) (by omega) (by omega)) (fun a c1 c2 => fi a (by omega) (by omega) (by omega) (by omega)) (r1 _ (by omega))
      · have c0 : cC x (t + 1) j4 (u.1, R1, u.2.2) (x + 28) (iv (x + 355)) pn' on' rm' L' := by
          refine ⟨b1.fr hW.1.2.1 hW.1.2.2.2 (fun k _ => by rw [fa _ (by omega) (by omega), e2 _ (by omega)]) (fun a a1 a2 _ => by rw [fa _ (by omega) (by omega), e2 _ (by omega)]), hW, by have := i2.2.2.1; omega, i2.2.2.2.1.mv hK ?_ r2, ?_⟩
          · rw [fa _ (by omega) (by omega), e2 _ (by omega)]; exact b2
          · rw [fa _ (by omega) (by omega), e2 _ (by omega), b2]; exact i2.2.2.2.2
        exact c0.cw (fun k hk => f4 k (by omega))
      · exact mL.lo i3 (fun k hk => (f4 k hk).symm)
      · show j4 x 12 = iN 0
        rw [fa x (by omega) (by omega), e3, va_up_self]; rfl
      · show j4 x 13 = _
        rw [fx 13 (by decide)]; exact g5
    exact ⟨rfl, hRR⟩
theorem mod12b : ∀ r : Nat, r < 12 → (iN r + 12 - 1) - (iN r + 12 - 1) / 12 * 12 = iN ((r + 11) % 12) := by decide +kernel
theorem o_undo : gOp1 x z b n t (f_X1_undo x) (f_X8_undo (x + 353)) := by
  intro iv u hR
  obtain ⟨pn, on, rm, L, q, r, hq, hr, g3, g4, g5, h1, h2, g6, hC, hM⟩ := hR.all
  have HX := hC.X
  have hB := hR.1
  have hT := hR.2.1
  have hI := hR.2.2.1
  have hx := hR.nx
  unfold f_X1_undo
  rw [gW_B, rXi HX, g3]
  by_cases q0 : q = 0
  · rw [gW_ift (by rw [q0]; rfl), gW_ret]
    unfold f_X8_undo
    refine m_z hM (fun j2 z1 z2 z3 hM3 => ?_)
    have H := hM3.M
    rw [gW_B, rMi H, z1.2.2.2.1 7 (by omega), g4, gW_ift (by rw [q0]; rfl), gW_ret]
    exact ⟨rfl, hR.fr (by omega) z1⟩
  · have nz : ¬ iN q = 0 := by rw [show (0 : Int32) = iN 0 from rfl, iN_eq (by omega) (by omega)]; exact q0
    obtain ⟨p1, o1, r1, d1, d2⟩ := g6 0 (by omega)
    rw [show (r + 11 - 0) % 12 = (r + 11) % 12 from rfl, show q - 1 - 0 = q - 1 from rfl] at d1
    rw [show q - 1 - 0 = q - 1 from rfl] at d2
    have hs : (r + 11) % 12 < 12 := Nat.mod_lt _ (by decide)
    have hW := d1.2.1
    rw [gW_iff nz, gW_B, rXi HX, g3, gW_B, rXp HX, iNs1 (by omega), gW_B, rXi HX, g_u2_self, va_up_ne _ _ (by decide), g5, gW_B, rXp HX, mod12b r hr, gW_B, rXr1 HX, gW_B, rXr4 HX, gW_B, rXi HX]
    have jx : g_u2 (g_u2 iv x 12 (iN (q - 1))) x 13 (iN ((r + 11) % 12)) x = va_up (va_up (iv x) 12 (iN (q - 1))) 13 (iN ((r + 11) % 12)) := by rw [g_u2_self, g_u2_self]
    have ja : ∀ a : Nat, a ≠ x → g_u2 (g_u2 iv x 12 (iN (q - 1))) x 13 (iN ((r + 11) % 12)) a = iv a := fun a ha => by rw [g_u2_ne _ _ _ ha, g_u2_ne _ _ _ ha]
    generalize g_u2 (g_u2 iv x 12 (iN (q - 1))) x 13 (iN ((r + 11) % 12)) = jj at jx ja ⊢
    have es : ∀ j : Nat, j < q - 1 → ((r + 11) % 12 + 11 - j) % 12 = (r + 11 - (j + 1)) % 12 := fun j hj => by omega
    generalize hs' : (r + 11) % 12 = s at d1 hs jx es ⊢
    have sk := (HX.2.2.1.2.2.2.2 s hs).1
    have sS := HX.ac hs
    rw [jx, va_up_self, gW_B, gW_AR HX.2.2.2.1.1 rfl hs (by decide) sk, gW_B, rSc HX.nw, gW_B]
    have d0 : cSt jj (x + 101 + 21 * s) (fun k => iv (x + 358) (305 * (q - 1) + k)) p1 o1 r1 := d1.1.fr hW.1.2.1 hW.1.2.2.2 (fun k _ => by rw [ja _ (by omega)]) (fun a a1 a2 _ => ja a (by omega))
    refine w_be HX.nw sS (Or.inl (by omega)) d0 hW.1 (fun j0 b1 b2 b3 => ?_)
    have s3 : u.1 (x + 28 + 3) = some (.inl (6, 12)) := (HX.nw.2.1 2 (by decide)).2
    have H1 := HX.rv (f := va_cpy (u.2.1 (x + 101 + 21 * s + 3)) (u.2.1 (x + 28 + 3)) 0 0 12) s3
    have M1 := hM.M.rv (f := va_cpy (u.2.1 (x + 101 + 21 * s + 3)) (u.2.1 (x + 28 + 3)) 0 0 12) s3
    have r1' : ∀ a : Nat, a ≠ x + 28 + 3 → va_up u.2.1 (x + 28 + 3) (va_cpy (u.2.1 (x + 101 + 21 * s + 3)) (u.2.1 (x + 28 + 3)) 0 0 12) a = u.2.1 a := fun a ha => va_up_ne _ _ ha
    have r2 : ∀ k : Nat, k < 12 → va_up u.2.1 (x + 28 + 3) (va_cpy (u.2.1 (x + 101 + 21 * s + 3)) (u.2.1 (x + 28 + 3)) 0 0 12) (x + 28 + 3) k = u.2.1 (x + 101 + 21 * s + 3) k := fun k hk => by rw [va_up_self]; exact va_cpy_at hk
    generalize va_up u.2.1 (x + 28 + 3) (va_cpy (u.2.1 (x + 101 + 21 * s + 3)) (u.2.1 (x + 28 + 3)) 0 0 12) = R1 at H1 M1 r1' r2 ⊢
    rw [gW_ret]
    have e1 : ∀ a : Nat, a ≠ x → (a < x + 28 ∨ x + 28 + 21 ≤ a) → j0 a = iv a := fun a a1 a2 => by rw [b3 a a2, ja a a1]
    have e3 : j0 x = va_up (va_up (iv x) 12 (iN (q - 1))) 13 (iN s) := by rw [b3 x (Or.inl (by omega)), jx]
    unfold f_X8_undo
    have hM2 : MI x j0 (u.1, R1, u.2.2) (iv (x + 354)) pn on L := ⟨M1, e1 _ (by omega) (by omega), h1.2.1, h2⟩
    refine m_z hM2 (fun j2 z1 z2 z3 hM3 => ?_)
    have H := hM3.M
    have z7 : j2 (x + 353) 7 = iN q := by rw [z1.2.2.2.1 7 (by omega), e1 _ (by omega) (by omega)]; exact g4
    rw [gW_B, rMi H, z7, gW_iff nz, gW_B, rMi H, z7, gW_B, rMp H, iNs1 (by omega)]
    show gW (f_X8_undo_26 gN (x + 353) (iN 0)) _ _
    refine w_undo_26 (m := q - 1) H (by omega) 305 0 gN _ (by omega) (by rw [gN_eq]; omega) (by rw [g_u2_self, va_up_self]) (fun j4 a3 c3 c4 => ?_)
    have f0 : ∀ k : Nat, k ≠ 7 → j4 (x + 353) k = j2 (x + 353) k := fun k hk => by rw [a3 _ (by omega), g_u2_self, va_up_ne _ _ hk]
    have f7 : j4 (x + 353) 7 = iN (q - 1) := by rw [a3 _ (by omega), g_u2_self, va_up_self]
    have fa : ∀ a : Nat, a ≠ x + 353 → a ≠ x + 354 → j4 a = j0 a := fun a c1 c2 => by rw [a3 a c2, g_u2_ne _ _ _ c1, z3 a c1]
    have f4 : ∀ k : Nat, k < 305 → j4 (x + 354) k = iv (x + 358) (305 * (q - 1) + k) := fun k hk => by
      rw [show j4 (x + 354) k = j4 (x + 353 + 1) k from rfl, c3 k (Nat.zero_le _) hk, g_u2_ne _ _ _ (by omega), z3 _ (by omega), e1 _ (by omega) (by omega)]
    have f5 : ∀ k : Nat, 305 ≤ k → j4 (x + 354) k = iv (x + 354) k := fun k hk => by
      rw [show j4 (x + 354) k = j4 (x + 353 + 1) k from rfl, c4 k (Or.inr hk), g_u2_ne _ _ _ (by omega), z3 _ (by omega), e1 _ (by omega) (by omega)]
    have f3 : j4 (x + 354) 3 = iv (x + 354) 3 := by rw [f4 3 (by decide)]; exact d2
    have fi : ∀ a : Nat, a ≠ x → a ≠ x + 353 → a ≠ x + 354 → (a < x + 28 ∨ x + 28 + 21 ≤ a) → j4 a = iv a := fun a c0 c1 c2 c3 => by rw [fa a c1 c2, e1 a c0 c3]
    have fx : ∀ k : Nat, k ≠ 12 → k ≠ 13 → j4 x k = iv x k := fun k hk hk2 => by rw [fa x (by omega) (by omega), e3, va_up_ne _ _ hk2, va_up_ne _ _ hk]
    have fm : ∀ k : Nat, (k = 6 ∨ k = 9 ∨ k = 14 ∨ k = 23 ∨ k = 24) → j4 (x + 353) k = iv (x + 353) k := fun k hk => by rw [f0 k (by omega), z1.2.2.2.1 k (by omega), e1 _ (by omega) (by omega)]
    have hK : Kx x iv u j4 (u.1, R1, u.2.2) := ⟨fun a c1 c2 => ⟨fi a (by omega) (by omega) (by omega) (by omega), rfl, r1' a (by omega)⟩, Nat.le_refl _⟩
    have bn := hB.2.2.2.2.2.2
    have hRR : RR x z b n (t + 1) j4 (u.1, R1, u.2.2) := by
      refine ⟨hB.fr2 H1 M1 rfl (fun a ha => ⟨rfl, r1' a (by omega), fi a (by omega) (by omega) (by omega) (by omega)⟩) rfl (Nat.le_refl _) (by omega) (by show u.2.2.2.1 ≤ _; omega) (by show u.2.2.2.2 ≤ _; omega), ?_, ?_, p1, o1, r1, L, ?_, ?_, q - 1, s, by omega, hs, ?_, f7, ?_, fun j hj => ?_⟩
      · obtain ⟨⟨m, m1, m2, m3, m4⟩, t2, t3, t4, t5, t6⟩ := hT
        refine ⟨⟨m, m1, by rw [fi _ (by omega) (by omega) (by omega) (by omega)]; exact m2, by rw [fm 9 (by omega)]; exact m3, fun k hk => by rw [fi (x + 2) (by omega) (by omega) (by omega) (by omega), fi (x + 359) (by omega) (by omega) (by omega) (by omega)]; exact m4 k hk⟩, ?_, ?_, ?_, ?_, ?_⟩
        · rw [fx 11 (by decide) (by decide), fm 14 (by omega)]; exact t2
        · rw [fx 17 (by decide) (by decide)]; exact t3
        · rw [fm 23 (by omega)]; exact t4
        · rw [fm 24 (by omega)]; exact t5
        · rw [fi (x + 96) (by omega) (by omega) (by omega) (by omega)]; exact t6
      · exact hI.fr2 hK (by omega) (fx 18 (by decide) (by decide)) (fm 6 (by omega)) (fi _ (by omega) (by omega) (by omega) (by omega)) (fun a c1 c2 => fi a (by omega) (by omega) (by omega) (by omega)) (r1' _ (by omega))
      · have n8 : j4 (x + 28) 8 = iv (x + 101 + 21 * s) 8 := by rw [fa _ (by omega) (by omega), b2, ja _ (by omega)]
        have c0 : cC x (t + 1) j4 (u.1, R1, u.2.2) (x + 28) (fun k => iv (x + 358) (305 * (q - 1) + k)) p1 o1 r1 L :=
          ⟨b1.fr hW.1.2.1 hW.1.2.2.2 (fun k _ => by rw [fa _ (by omega) (by omega)]) (fun a a1 a2 _ => by rw [fa _ (by omega) (by omega)]), hW, by have := d1.2.2.1; omega, d1.2.2.2.1.mv hK n8 r2, by rw [n8]; exact d1.2.2.2.2⟩
        exact c0.cw (fun k hk => f4 k hk)
      · refine mL.h3 h2 (fun k hk => ?_)
        rcases hk with rfl | hk
        · exact f3
        · exact f5 k hk
      · show j4 x 12 = _
        rw [fa x (by omega) (by omega), e3, va_up_ne _ _ (by decide), va_up_self]
      · show j4 x 13 = _
        rw [fa x (by omega) (by omega), e3, va_up_self]
      · obtain ⟨p2, o2, r2', q1, q2⟩ := g6 (j + 1) (by omega)
        rw [show q - 1 - (j + 1) = q - 1 - 1 - j by omega] at q1 q2
        have lt : (r + 11 - (j + 1)) % 12 < 12 := Nat.mod_lt _ (by decide)
        rw [es j hj, fi (x + 358) (by omega) (by omega) (by omega) (by omega), f3]
        exact ⟨p2, o2, r2', q1.fr2 hK (by omega) (fi _ (by omega) (by omega) (by omega) (by omega)) (fun a c1 c2 _ => fi a (by omega) (by omega) (by omega) (by omega)) (r1' _ (by omega)), q2⟩
    exact ⟨rfl, hRR⟩
end O8
