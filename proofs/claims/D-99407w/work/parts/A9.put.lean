/-! WHAT IS PUT ASIDE, AND BROUGHT BACK, of both -/
section PUT
variable {iv jv kv lv : gV} {u v w : gU} {x z b n t : Nat} {V : Nat → Int32} {pn on rm : Nat} {L : gLw}
/-- as Sx, but for what is now -/
def Sp (x : Nat) (iv jv : gV) : Prop := (∀ k : Nat, k ≠ 14 → k ≠ 15 → k ≠ 16 → jv x k = iv x k) ∧ jv (x + 1) 6 = iv (x + 1) 6 ∧ (∀ k : Nat, 1 < k → jv (x + 96) k = iv (x + 96) k) ∧ (∀ k : Nat, (k = 6 ∨ k = 7 ∨ k = 9 ∨ k = 14 ∨ k = 23 ∨ k = 24) → jv (x + 353) k = iv (x + 353) k) ∧ ∀ a : Nat, (a ≠ x ∧ a ≠ x + 1 ∧ (a < x + 5 ∨ x + 48 < a) ∧ (a < x + 70 ∨ x + 91 ≤ a) ∧ (a < x + 92 ∨ x + 100 < a) ∧ a ≠ x + 353 ∧ a ≠ x + 356 ∧ a ≠ x + 357 ∧ (a < x + 360 ∨ x + 369 < a)) → jv a = iv a
theorem Sp.rf : Sp x iv iv := ⟨fun _ _ _ _ => rfl, rfl, fun _ _ => rfl, fun _ _ => rfl, fun _ _ => rfl⟩
theorem Sp.tr (h : Sp x iv jv) (g : Sp x jv kv) : Sp x iv kv := ⟨fun k a b c => (g.1 k a b c).trans (h.1 k a b c), g.2.1.trans h.2.1, fun k a => (g.2.2.1 k a).trans (h.2.2.1 k a), fun k a => (g.2.2.2.1 k a).trans (h.2.2.2.1 k a), fun a q => (g.2.2.2.2 a q).trans (h.2.2.2.2 a q)⟩
theorem Sp.a (h : Sp x iv jv) {a : Nat} (q : a ≠ x ∧ a ≠ x + 1 ∧ (a < x + 5 ∨ x + 48 < a) ∧ (a < x + 70 ∨ x + 91 ≤ a) ∧ (a < x + 92 ∨ x + 100 < a) ∧ a ≠ x + 353 ∧ a ≠ x + 356 ∧ a ≠ x + 357 ∧ (a < x + 360 ∨ x + 369 < a)) : jv a = iv a := h.2.2.2.2 a q
theorem Sx.P (h : Sx x iv jv) : Sp x iv jv := ⟨h.1, h.2.1, h.2.2.1, h.2.2.2.1, fun a q => h.a (by omega)⟩
/-- writes into what is now, and into what is put -/
theorem Sp.nw (h : ∀ a : Nat, (a < x + 28 ∨ (x + 49 ≤ a ∧ a < x + 70) ∨ x + 91 ≤ a) → jv a = iv a) : Sp x iv jv := ⟨fun k _ _ _ => by rw [h x (by omega)], by rw [h (x + 1) (by omega)], fun k _ => by rw [h (x + 96) (by omega)], fun k _ => by rw [h (x + 353) (by omega)], fun a q => h a (by omega)⟩
theorem Sm.P (h : Sm x iv jv) : Sp x iv jv := h.S.P
/-- the shapes when now was put aside -/
def uPt (u v : gU) (x : Nat) : Prop := v.1 = u.1 ∧ (∀ a : Nat, a ≠ x + 73 → v.2.1 a = u.2.1 a) ∧ (∀ k : Nat, k < 12 → v.2.1 (x + 73) k = u.2.1 (x + 31) k) ∧ v.2.2 = u.2.2 ∧ XS v x ∧ (MS u (x + 353) → MS v (x + 353))
/-- put.be(now) -/
theorem c_put (HX : XS u x) (h1 : cSt iv (x + 28) V pn on rm) (hW : WI V pn on) {P : Unit → g_H → Prop} (hP : ∀ (jv : gV) (v : gU), uPt u v x → cSt jv (x + 70) V pn on rm → jv (x + 70) 8 = iv (x + 28) 8 → (∀ a : Nat, a < x + 70 ∨ x + 91 ≤ a → jv a = iv a) → P () (jv, v)) : gW (f_X3_be (x + 70) (x + 28)) (iv, u) P := by
  have s3 : u.1 (x + 70 + 3) = some (.inl (6, 12)) := (HX.pt.2.1 2 (by decide)).2
  refine w_be HX.pt HX.nw (Or.inr (by omega)) h1 hW.1 (fun j1 b1 b2 b3 => ?_)
  exact hP j1 _ ⟨rfl, fun a ha => va_up_ne _ _ ha, fun k hk => by
    show va_up u.2.1 (x + 70 + 3) _ (x + 70 + 3) k = _
    rw [va_up_self]; exact va_cpy_at hk, rfl, HX.rv s3, fun M => M.rv s3⟩ b1 b2 (fun a ha => b3 a (by omega))
/-- now.be(put) -/
theorem c_back {jv : gV} (hU : uPt u v x) (h1 : cSt jv (x + 70) V pn on rm) (hW : WI V pn on) {P : Unit → g_H → Prop} (hP : ∀ kv : gV, cSt kv (x + 28) V pn on rm → kv (x + 28) 8 = jv (x + 70) 8 → (∀ a : Nat, a < x + 28 ∨ x + 49 ≤ a → kv a = jv a) → P () (kv, v)) : gW (f_X3_be (x + 28) (x + 70)) (jv, v) P := by
  obtain ⟨u1, u2, u3, u4, HX, -⟩ := hU
  refine w_be HX.nw HX.pt (Or.inl (by omega)) h1 hW.1 (fun j1 b1 b2 b3 => ?_)
  have e : va_up v.2.1 (x + 28 + 3) (va_cpy (v.2.1 (x + 70 + 3)) (v.2.1 (x + 28 + 3)) 0 0 12) = v.2.1 := by
    funext c
    by_cases ec : c = x + 28 + 3
    · subst ec
      rw [va_up_self]
      funext k
      by_cases hk : k < 12
      · rw [va_cpy_at hk]
        have := u3 k hk
        show v.2.1 (x + 73) k = v.2.1 (x + 31) k
        rw [this, u2 (x + 31) (by omega)]
      · unfold va_cpy
        rw [if_neg (by omega)]
    · rw [va_up_ne _ _ ec]
  rw [e]
  exact hP j1 b1 b2 (fun a ha => b3 a (by omega))
theorem CI.pt (hC : CI x iv u V pn on L) (hU : uPt u v x) (ha : ∀ a : Nat, a < x + 70 ∨ x + 91 ≤ a → jv a = iv a) : CI x jv v V pn on L := by
  obtain ⟨u1, u2, u3, u4, HX, -⟩ := hU
  obtain ⟨c1, c2, c3, c4, c5⟩ := hC
  have hK : Kx x iv u jv v := ⟨fun a q1 q2 => ⟨ha a (by omega), by rw [u1], u2 a (by omega)⟩, by rw [u4]; exact Nat.le_refl _⟩
  exact ⟨HX, c2.fr c3.1.2.1 c3.1.2.2.2 (fun k _ => by rw [ha _ (by omega)]) (fun a _ _ _ _ => ha a (by omega)), c3, c4.fr2 hK (by rw [ha _ (by omega)]) (u2 _ (by omega)), by rw [u4]; exact c5⟩
/-- the worlds are alike when now is brought back -/
theorem RR.put (hR : RR x z b n t iv u) (h1 : cC x t iv u (x + 28) (iv (x + 354)) pn on rm L) (h2 : mLL (iv (x + 354)) L) (hA : RA x t iv u L) (hU : uPt u v x) (hS : Sp x iv jv) (n1 : cSt jv (x + 28) (iv (x + 354)) pn on rm) (n8 : jv (x + 28) 8 = iv (x + 28) 8) (nW : jv (x + 354) = iv (x + 354)) : RR x z b n (t + 1) jv v := by
  obtain ⟨u1, u2, u3, u4, HX, hMv⟩ := hU
  obtain ⟨hB, hT, hI, -⟩ := hR
  have hx := hB.2.2.2.2.2.1
  have eE : v.2.2.2.1 = u.2.2.2.1 := by rw [u4]
  have eF : v.2.2.2.2 = u.2.2.2.2 := by rw [u4]
  have hK : Kx x iv u jv v := ⟨fun a q1 q2 => ⟨hS.a (by omega), by rw [u1], u2 a (by omega)⟩, Nat.le_of_eq eE.symm⟩
  refine ⟨hB.fr2 HX (hMv hB.2.1) (by rw [u1]) (fun a ha => ⟨by rw [u1], u2 a (by omega), hS.a (by omega)⟩) (by rw [u4]) (Nat.le_of_eq eE.symm) (by omega) (by omega) (by omega), ?_, ?_, pn, on, rm, L, ?_, ?_, ?_⟩
  · obtain ⟨⟨m, m1, m2, m3, m4⟩, t2, t3, t4, t5, t6⟩ := hT
    refine ⟨⟨m, m1, by rw [hS.2.1]; exact m2, by rw [hS.2.2.2.1 9 (by omega)]; exact m3, fun k hk => by rw [hS.a (a := x + 2) (by omega), hS.a (a := x + 359) (by omega)]; exact m4 k hk⟩, ?_, ?_, ?_, ?_, ?_⟩
    · rw [hS.1 11 (by decide) (by decide) (by decide), hS.2.2.2.1 14 (by omega)]; exact t2
    · rw [hS.1 17 (by decide) (by decide) (by decide)]; exact t3
    · rw [hS.2.2.2.1 23 (by omega)]; exact t4
    · rw [hS.2.2.2.1 24 (by omega)]; exact t5
    · rw [hS.2.2.1 2 (by decide)]; exact t6
  · exact hI.fr2 hK (by omega) (hS.1 18 (by decide) (by decide) (by decide)) (hS.2.2.2.1 6 (by omega)) (hS.a (by omega)) (fun a c1 c2 => hS.a (by omega)) (u2 _ (by omega))
  · rw [nW]
    exact ⟨n1, h1.2.1, by have := h1.2.2.1; omega, h1.2.2.2.1.fr2 hK n8 (u2 _ (by omega)), by rw [n8]; exact h1.2.2.2.2⟩
  · rw [nW]; exact h2
  · exact hA.fr2 hK (hS.1 12 (by decide) (by decide) (by decide)) (hS.1 13 (by decide) (by decide) (by decide)) (hS.2.2.2.1 7 (by omega)) (hS.a (by omega)) (by rw [nW]) (fun a c1 c2 => hS.a (by omega)) (fun a c1 c2 => u2 a (by omega))
/-! the model keeps all, and brings it back -/
theorem w_keeps_2 (H : MS u (x + 353)) {P : Unit → g_H → Prop} : ∀ (k i N : Nat) (jv : gV), i + k = 305 → k < N → (∀ j : Nat, j < i → jv (x + 353 + 4) j = jv (x + 353 + 1) j) → (∀ kv : gV, (∀ a : Nat, a ≠ x + 353 + 4 → kv a = jv a) → (∀ j : Nat, j < 305 → kv (x + 353 + 4) j = jv (x + 353 + 1) j) → P () (kv, u)) → gW (f_X8_keepsAll_2 N (x + 353) (iN i)) (jv, u) P := by
  intro k
  induction k with
  | zero =>
    intro i N jv h1 h2 hj hP
    obtain ⟨N, rfl⟩ : ∃ N', N = N' + 1 := ⟨N - 1, by omega⟩
    have : i = 305 := by omega
    subst this
    rw [f_X8_keepsAll_2, gW_ift (by decide), gW_ret]
    exact hP jv (fun _ _ => rfl) hj
  | succ k ih =>
    intro i N jv h1 h2 hj hP
    obtain ⟨N, rfl⟩ : ∃ N', N = N' + 1 := ⟨N - 1, by omega⟩
    rw [f_X8_keepsAll_2, gW_iff (by rw [show (305 : Int32) = iN 305 from rfl, iN_le (by omega) (by omega)]; omega), gW_B, rMr3 H, gW_B, rMr0 H, gW_B, rMa0 H (by omega), gW_B, rMs3 H (by omega), iNp1]
    refine ih (i + 1) N _ (by omega) (by omega) (fun j hj2 => ?_) (fun kv g1 g2 => hP kv (fun a ha => by rw [g1 a ha, g_u2_ne _ _ _ ha]) (fun j hj2 => by rw [g2 j hj2, g_u2_ne _ _ _ (by omega)]))
    rw [g_u2_self, g_u2_ne _ _ _ (show x + 353 + 1 ≠ x + 353 + 4 by omega)]
    by_cases ej : j = i
    · rw [ej, va_up_self]
    · rw [va_up_ne _ _ ej]; exact hj j (by omega)
theorem m_keeps (hM : MI x iv u V pn on L) {P : Unit → g_H → Prop} (hP : ∀ kv : gV, Sm x iv kv → MI x kv u V pn on L → (∀ j : Nat, j < 305 → kv (x + 357) j = V j) → P () (kv, u)) : gW (f_X8_keepsAll (x + 353)) (iv, u) P := by
  unfold f_X8_keepsAll
  show gW (f_X8_keepsAll_2 gN (x + 353) (iN 0)) _ _
  refine w_keeps_2 hM.M 305 0 gN iv (by omega) (by rw [gN_eq]; omega) (fun j hj => absurd hj (Nat.not_lt_zero j)) (fun kv g1 g2 => ?_)
  have S : Sm x iv kv := ⟨fun k _ => by rw [g1 _ (by omega)], fun a ha => g1 a (by omega)⟩
  exact hP kv S (hM.fr S.S) (fun j hj => by rw [show kv (x + 357) j = kv (x + 353 + 4) j from rfl, g2 j hj, hM.vE])
theorem w_brings_2 (H : MS u (x + 353)) {P : Unit → g_H → Prop} : ∀ (k i N : Nat) (jv : gV), i + k = 305 → k < N → (∀ j : Nat, j < i → jv (x + 353 + 1) j = jv (x + 353 + 4) j) → (∀ kv : gV, (∀ a : Nat, a ≠ x + 353 + 1 → kv a = jv a) → (∀ j : Nat, j < 305 → kv (x + 353 + 1) j = jv (x + 353 + 4) j) → (∀ j : Nat, 305 ≤ j → kv (x + 353 + 1) j = jv (x + 353 + 1) j) → P () (kv, u)) → gW (f_X8_bringsBack_2 N (x + 353) (iN i)) (jv, u) P := by
  intro k
  induction k with
  | zero =>
    intro i N jv h1 h2 hj hP
    obtain ⟨N, rfl⟩ : ∃ N', N = N' + 1 := ⟨N - 1, by omega⟩
    have : i = 305 := by omega
    subst this
    rw [f_X8_bringsBack_2, gW_ift (by decide), gW_ret]
    exact hP jv (fun _ _ => rfl) hj (fun _ _ => rfl)
  | succ k ih =>
    intro i N jv h1 h2 hj hP
    obtain ⟨N, rfl⟩ : ∃ N', N = N' + 1 := ⟨N - 1, by omega⟩
    rw [f_X8_bringsBack_2, gW_iff (by rw [show (305 : Int32) = iN 305 from rfl, iN_le (by omega) (by omega)]; omega), gW_B, rMr0 H, gW_B, rMr3 H, gW_B, rMa3 H (by omega), gW_B, rMs0 H (by omega), iNp1]
    refine ih (i + 1) N _ (by omega) (by omega) (fun j hj2 => ?_) (fun kv g1 g2 g3 => hP kv (fun a ha => by rw [g1 a ha, g_u2_ne _ _ _ ha]) (fun j hj2 => by rw [g2 j hj2, g_u2_ne _ _ _ (by omega)]) (fun j hj2 => by rw [g3 j hj2, g_u2_self, va_up_ne _ _ (by omega)]))
    rw [g_u2_self, g_u2_ne _ _ _ (show x + 353 + 4 ≠ x + 353 + 1 by omega)]
    by_cases ej : j = i
    · rw [ej, va_up_self]
    · rw [va_up_ne _ _ ej]; exact hj j (by omega)
theorem m_brings (H : MS u (x + 353)) (e1 : ∀ j : Nat, j < 305 → jv (x + 357) j = V j) (e2 : ∀ j : Nat, 305 ≤ j → jv (x + 353 + 1) j = V j) {P : Unit → g_H → Prop} (hP : ∀ kv : gV, (∀ a : Nat, a ≠ x + 353 + 1 → kv a = jv a) → kv (x + 353 + 1) = V → P () (kv, u)) : gW (f_X8_bringsBack (x + 353)) (jv, u) P := by
  unfold f_X8_bringsBack
  show gW (f_X8_bringsBack_2 gN (x + 353) (iN 0)) _ _
  refine w_brings_2 H 305 0 gN jv (by omega) (by rw [gN_eq]; omega) (fun j hj => absurd hj (Nat.not_lt_zero j)) (fun kv g1 g2 g3 => hP kv g1 ?_)
  funext j
  by_cases hj : j < 305
  · rw [g2 j hj]; exact e1 j hj
  · rw [g3 j (by omega)]; exact e2 j (by omega)
end PUT
