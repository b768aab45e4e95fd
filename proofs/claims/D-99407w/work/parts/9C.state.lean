/-! OPS: seed, end, image, back, undo -/
section O6
variable {iv jv kv lv : gV} {u v : gU} {x z b n t : Nat} {pn on rm : Nat} {L : gLw}
/-- both answer nothing -/
def gOp0 (x z b n t : Nat) (f0 f8 : gM Unit) : Prop := ∀ (iv : gV) (u : gU), RR x z b n t iv u → gW f0 (iv, u) (fun _ h1 => gW f8 h1 (fun _ h2 => RR x z b n (t + 1) h2.1 h2.2))
/-- what is now is another, and nothing is remembered -/
theorem now_end (hR : RR x z b n t iv u) (h1 : cC x t iv u (x + 28) (iv (x + 354)) pn on rm L) (h2 : mLL (iv (x + 354)) L) (hA : RA x t iv u L) (k0 : ∀ a : Nat, (a < x + 28 ∨ x + 49 ≤ a) → a ≠ x + 353 → a ≠ x + 354 → a ≠ x + 369 → jv a = iv a) (k1 : ∀ k : Nat, (k = 6 ∨ k = 7 ∨ k = 9 ∨ k = 14 ∨ k = 23 ∨ k = 24) → jv (x + 353) k = iv (x + 353) k) {pn' on' rm' : Nat} (n1 : cSt jv (x + 28) (jv (x + 354)) pn' on' rm') (n2 : WI (jv (x + 354)) pn' on') (n3 : rm' ≤ t + 1) (n8 : jv (x + 28) 8 = iv (x + 28) 8) (nV : ∀ k : Nat, k = 3 ∨ 305 ≤ k → jv (x + 354) k = iv (x + 354) k) : RR x z b n (t + 1) jv u := by
  obtain ⟨hB, hT, hI, -⟩ := hR
  have hx := hB.2.2.2.2.2.1
  have hK : Kx x iv u jv u := ⟨fun a c1 c2 => ⟨k0 a (by omega) (by omega) (by omega) (by omega), rfl, rfl⟩, Nat.le_refl _⟩
  refine ⟨hB.fr2 hB.1 hB.2.1 rfl (fun a ha => ⟨rfl, rfl, k0 a (by omega) (by omega) (by omega) (by omega)⟩) rfl (Nat.le_refl _) (by omega) (by omega) (by omega), ?_, ?_, pn', on', rm', L, ⟨n1, n2, n3, h1.2.2.2.1.fr2 hK n8 rfl, ?_⟩, mL.h3 h2 nV, ?_⟩
  · obtain ⟨⟨m, m1, m2, m3, m4⟩, t2, t3, t4, t5, t6⟩ := hT
    refine ⟨⟨m, m1, by rw [k0 _ (by omega) (by omega) (by omega) (by omega)]; exact m2, by rw [k1 9 (by omega)]; exact m3, fun k hk => by rw [k0 (x + 2) (by omega) (by omega) (by omega) (by omega), k0 (x + 359) (by omega) (by omega) (by omega) (by omega)]; exact m4 k hk⟩, ?_, ?_, ?_, ?_, ?_⟩
    · rw [k0 x (by omega) (by omega) (by omega) (by omega), k1 14 (by omega)]; exact t2
    · rw [k0 x (by omega) (by omega) (by omega) (by omega)]; exact t3
    · rw [k1 23 (by omega)]; exact t4
    · rw [k1 24 (by omega)]; exact t5
    · rw [k0 (x + 96) (by omega) (by omega) (by omega) (by omega)]; exact t6
  · exact hI.fr2 hK (by omega) (by rw [k0 x (by omega) (by omega) (by omega) (by omega)]) (k1 6 (by omega)) (k0 _ (by omega) (by omega) (by omega) (by omega)) (fun a c1 c2 => k0 a (by omega) (by omega) (by omega) (by omega)) rfl
  · rw [n8, nV 3 (Or.inl rfl)]; exact h1.2.2.2.2
  · obtain ⟨q, r, g1, g2, g3, g4, g5, g6⟩ := hA
    refine ⟨q, r, g1, g2, by rw [k0 x (by omega) (by omega) (by omega) (by omega)]; exact g3, by rw [k1 7 (by omega)]; exact g4, by rw [k0 x (by omega) (by omega) (by omega) (by omega)]; exact g5, fun j hj => ?_⟩
    obtain ⟨p1, o1, r1, q1, q2⟩ := g6 j hj
    have : (r + 11 - j) % 12 < 12 := Nat.mod_lt _ (by decide)
    rw [k0 (x + 358) (by omega) (by omega) (by omega) (by omega), nV 3 (Or.inl rfl)]
    exact ⟨p1, o1, r1, q1.fr2 hK (by omega) (k0 _ (by omega) (by omega) (by omega) (by omega)) (fun a c1 c2 _ => k0 a (by omega) (by omega) (by omega) (by omega)) rfl, q2⟩
theorem o_seed {a : Int32} : gOp1 x z b n t (f_X1_seed x a) (f_X8_seed (x + 353) a) := by
  intro iv u hR
  obtain ⟨pn, on, rm, L, q, r, hq, hr, g3, g4, g5, h1, h2, g6, hC, hM⟩ := hR.all
  have HX := hC.X
  unfold f_X1_seed
  rw [gW_B, rXr1 HX, gW_B, rSi HX.nw, h1.1.1.2.2.2.2.2.2.1, gW_B, rXr1 HX, gW_B, rSp HX.nw, gW_ret]
  have e1 : ∀ c : Nat, c ≠ x + 28 → g_u2 iv (x + 28) 13 a c = iv c := fun c hc => g_u2_ne _ _ _ hc
  have e2 : g_u2 iv (x + 28) 13 a (x + 28) = va_up (iv (x + 28)) 13 a := g_u2_self _ _ _ _
  generalize g_u2 iv (x + 28) 13 a = j2 at e1 e2 ⊢
  unfold f_X8_seed
  have eW : j2 (x + 354) = iv (x + 354) := e1 _ (by omega)
  have hM2 : MI x j2 u (iv (x + 354)) pn on L := ⟨hM.M, eW, h1.2.1, h2⟩
  refine m_z hM2 (fun j3 z1 z2 z3 hM3 => ?_)
  have H := hM3.M
  have e4 : j3 (x + 353 + 1) = iv (x + 354) := hM3.vE
  rw [gW_B, rMr0 H, gW_B, rMA0_8 H, e4, gW_B, rMr0 H, gW_B]
  show gW (gSI (x + 353 + 1) 0 (iN 8) a) _ _
  rw [rMs0 H (by omega), gW_ret]
  have e5 : g_u2 j3 (x + 353 + 1) 8 a (x + 354) = va_up (iv (x + 354)) 8 a := by
    show g_u2 j3 (x + 353 + 1) 8 a (x + 353 + 1) = _
    rw [g_u2_self, e4]
  have e6 : ∀ c : Nat, c ≠ x + 354 → c ≠ x + 353 → g_u2 j3 (x + 353 + 1) 8 a c = j2 c := fun c c1 c2 => by rw [g_u2_ne _ _ _ c1, z3 c c2]
  have e7 : ∀ k : Nat, (k = 6 ∨ k = 7 ∨ k = 9 ∨ k = 14 ∨ k = 23 ∨ k = 24) → g_u2 j3 (x + 353 + 1) 8 a (x + 353) k = iv (x + 353) k := fun k hk => by rw [g_u2_ne _ _ _ (by omega), z1.2.2.2.1 k hk, e1 _ (by omega)]
  refine ⟨rfl, now_end (jv := g_u2 j3 (x + 353 + 1) 8 a) hR h1 h2 ⟨q, r, hq, hr, g3, g4, g5, g6⟩ (fun c c1 c2 c3 c4 => by rw [e6 c c3 c2, e1 c (by omega)]) e7 (pn' := pn) (on' := on) (rm' := rm) ?_ ?_ (by have := h1.2.2.1; omega) (by rw [e6 _ (by omega) (by omega), e2, va_up_ne _ _ (by decide)]) (fun k hk => by rw [e5, va_up_ne _ _ (by omega)])⟩
  · rw [e5]
    exact h1.1.fld (f := 13) h1.2.1 (by omega) (fun j j1 _ => by rw [e6 _ (by omega) (by omega), e2, va_up_ne _ _ j1]) (by rw [e6 _ (by omega) (by omega), e2, va_up_self]) (fun c c1 c2 _ => by rw [e6 _ (by omega) (by omega), e1 _ (by omega)])
  · rw [e5]
    exact h1.2.1.fld (by decide) (fun q => absurd q (by decide)) (fun q => absurd q (by decide)) (fun q => absurd q (by decide)) (fun q => absurd q (by decide))
end O6
