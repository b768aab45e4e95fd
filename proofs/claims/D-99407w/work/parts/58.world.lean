/-! THE COMPONENT: its shapes; how tense one is behind a slot; a ride -/
/-- the shapes of the component at x -/
def XSr : List (Nat × Nat) := [(0, 1), (1, 28), (2, 49), (3, 70), (4, 91), (5, 92), (6, 96), (7, 97), (8, 98), (9, 99), (10, 100)]
def XS (u : gU) (x : Nat) : Prop := (u.1 x = some (.inr 0) ∧ u.1 (x + 1) = some (.inr 1) ∧ u.1 (x + 27) = some (.inr 5) ∧ u.1 (x + 92) = some (.inr 6) ∧ u.1 (x + 96) = some (.inr 4)) ∧ (∀ j : Nat, j < 11 → u.2.1 x (XSr.getD j (0, 0)).1 = some (x + (XSr.getD j (0, 0)).2)) ∧ (SS u (x + 6) ∧ SS u (x + 28) ∧ SS u (x + 49) ∧ SS u (x + 70) ∧ ∀ k : Nat, k < 12 → u.2.1 (x + 91) k = some (x + 101 + 21 * k) ∧ SS u (x + 101 + 21 * k)) ∧ (u.1 (x + 91) = some (.inl (7, 12)) ∧ u.1 (x + 97) = some (.inl (0, 2)) ∧ u.1 (x + 98) = some (.inl (0, 8)) ∧ u.1 (x + 99) = some (.inl (0, 640)) ∧ u.1 (x + 100) = some (.inl (3, 64))) ∧ (u.2.1 (x + 92) 0 = some (x + 93) ∧ u.1 (x + 93) = some (.inl (0, 61)) ∧ u.2.1 (x + 92) 1 = some (x + 94) ∧ u.1 (x + 94) = some (.inl (0, 61)) ∧ u.2.1 (x + 92) 2 = some (x + 95) ∧ u.1 (x + 95) = some (.inl (0, 10)) ∧ u.2.1 (x + 92) 5 = some x) ∧ (u.2.1 (x + 1) 0 = some (x + 2) ∧ u.1 (x + 2) = some (.inl (1, 400)) ∧ u.2.1 (x + 1) 1 = some (x + 3) ∧ u.1 (x + 3) = some (.inl (8, 6)) ∧ u.2.1 (x + 1) 2 = some (x + 4) ∧ u.1 (x + 4) = some (.inl (8, 2)) ∧ u.2.1 (x + 1) 3 = some (x + 5) ∧ u.1 (x + 5) = some (.inl (6, 12)) ∧ u.2.1 (x + 1) 4 = some (x + 6) ∧ u.2.1 (x + 1) 5 = some (x + 27)) ∧ (∀ k : Nat, k < 6 → u.2.1 (x + 3) k = some (u.2.2.1 k)) ∧ ∀ k : Nat, k < 2 → u.2.1 (x + 4) k = some (u.2.2.1 (6 + k))
section RX
variable {iv : gV} {u : gU} {x : Nat}
theorem rXi (H : XS u x) {k : Nat} {P : Int32 → g_H → Prop} : gW (gFI x 0 k) (iv, u) P ↔ P (iv x k) (iv, u) := gW_FI H.1.1
theorem rXp (H : XS u x) {k : Nat} {v : Int32} {P : Unit → g_H → Prop} : gW (gPI x 0 k v) (iv, u) P ↔ P () (g_u2 iv x k v, u) := gW_PI H.1.1
theorem rXc (H : XS u x) {P : Unit → g_H → Prop} : gW (gCk x 0) (iv, u) P ↔ P () (iv, u) := gW_Ck H.1.1
theorem rXsi (H : XS u x) {k : Nat} {P : Int32 → g_H → Prop} : gW (gFI (x + 96) 4 k) (iv, u) P ↔ P (iv (x + 96) k) (iv, u) := gW_FI H.1.2.2.2.2
theorem rXsp (H : XS u x) {k : Nat} {v : Int32} {P : Unit → g_H → Prop} : gW (gPI (x + 96) 4 k v) (iv, u) P ↔ P () (g_u2 iv (x + 96) k v, u) := gW_PI H.1.2.2.2.2
theorem XS.dr (H : XS u x) : SS u (x + 6) := H.2.2.1.1
theorem XS.nw (H : XS u x) : SS u (x + 28) := H.2.2.1.2.1
theorem XS.im (H : XS u x) : SS u (x + 49) := H.2.2.1.2.2.1
theorem XS.pt (H : XS u x) : SS u (x + 70) := H.2.2.1.2.2.2.1
theorem XS.ac (H : XS u x) {k : Nat} (hk : k < 12) : SS u (x + 101 + 21 * k) := (H.2.2.1.2.2.2.2 k hk).2
theorem rXr0 (H : XS u x) {P : Nat → g_H → Prop} : gW (gFR x 0 0) (iv, u) P ↔ P (x + 1) (iv, u) := gW_FR H.1.1 (H.2.1 0 (by decide))
theorem rXr1 (H : XS u x) {P : Nat → g_H → Prop} : gW (gFR x 0 1) (iv, u) P ↔ P (x + 28) (iv, u) := gW_FR H.1.1 (H.2.1 1 (by decide))
theorem rXr2 (H : XS u x) {P : Nat → g_H → Prop} : gW (gFR x 0 2) (iv, u) P ↔ P (x + 49) (iv, u) := gW_FR H.1.1 (H.2.1 2 (by decide))
theorem rXr3 (H : XS u x) {P : Nat → g_H → Prop} : gW (gFR x 0 3) (iv, u) P ↔ P (x + 70) (iv, u) := gW_FR H.1.1 (H.2.1 3 (by decide))
theorem rXr4 (H : XS u x) {P : Nat → g_H → Prop} : gW (gFR x 0 4) (iv, u) P ↔ P (x + 91) (iv, u) := gW_FR H.1.1 (H.2.1 4 (by decide))
theorem rXr5 (H : XS u x) {P : Nat → g_H → Prop} : gW (gFR x 0 5) (iv, u) P ↔ P (x + 92) (iv, u) := gW_FR H.1.1 (H.2.1 5 (by decide))
theorem rXr6 (H : XS u x) {P : Nat → g_H → Prop} : gW (gFR x 0 6) (iv, u) P ↔ P (x + 96) (iv, u) := gW_FR H.1.1 (H.2.1 6 (by decide))
theorem rXr7 (H : XS u x) {P : Nat → g_H → Prop} : gW (gFR x 0 7) (iv, u) P ↔ P (x + 97) (iv, u) := gW_FR H.1.1 (H.2.1 7 (by decide))
theorem rXr8 (H : XS u x) {P : Nat → g_H → Prop} : gW (gFR x 0 8) (iv, u) P ↔ P (x + 98) (iv, u) := gW_FR H.1.1 (H.2.1 8 (by decide))
theorem rXr9 (H : XS u x) {P : Nat → g_H → Prop} : gW (gFR x 0 9) (iv, u) P ↔ P (x + 99) (iv, u) := gW_FR H.1.1 (H.2.1 9 (by decide))
theorem rXr10 (H : XS u x) {P : Nat → g_H → Prop} : gW (gFR x 0 10) (iv, u) P ↔ P (x + 100) (iv, u) := gW_FR H.1.1 (H.2.1 10 (by decide))
theorem rXa97 (H : XS u x) {k : Nat} (hk : k < 2) {P : Int32 → g_H → Prop} : gW (gAI (x + 97) 0 (iN k)) (iv, u) P ↔ P (iv (x + 97) k) (iv, u) := gW_AI H.2.2.2.1.2.1 rfl hk (by decide)
theorem rXs97 (H : XS u x) {k : Nat} (hk : k < 2) {v : Int32} {P : Unit → g_H → Prop} : gW (gSI (x + 97) 0 (iN k) v) (iv, u) P ↔ P () (g_u2 iv (x + 97) k v, u) := gW_SI H.2.2.2.1.2.1 rfl hk (by decide)
theorem rXa98 (H : XS u x) {k : Nat} (hk : k < 8) {P : Int32 → g_H → Prop} : gW (gAI (x + 98) 0 (iN k)) (iv, u) P ↔ P (iv (x + 98) k) (iv, u) := gW_AI H.2.2.2.1.2.2.1 rfl hk (by decide)
theorem rXs98 (H : XS u x) {k : Nat} (hk : k < 8) {v : Int32} {P : Unit → g_H → Prop} : gW (gSI (x + 98) 0 (iN k) v) (iv, u) P ↔ P () (g_u2 iv (x + 98) k v, u) := gW_SI H.2.2.2.1.2.2.1 rfl hk (by decide)
theorem rXa99 (H : XS u x) {k : Nat} (hk : k < 640) {P : Int32 → g_H → Prop} : gW (gAI (x + 99) 0 (iN k)) (iv, u) P ↔ P (iv (x + 99) k) (iv, u) := gW_AI H.2.2.2.1.2.2.2.1 rfl hk (by decide)
theorem rXs99 (H : XS u x) {k : Nat} (hk : k < 640) {v : Int32} {P : Unit → g_H → Prop} : gW (gSI (x + 99) 0 (iN k) v) (iv, u) P ↔ P () (g_u2 iv (x + 99) k v, u) := gW_SI H.2.2.2.1.2.2.2.1 rfl hk (by decide)
theorem rXa100 (H : XS u x) {k : Nat} (hk : k < 64) {P : Int32 → g_H → Prop} : gW (gAI (x + 100) 3 (iN k)) (iv, u) P ↔ P (iv (x + 100) k) (iv, u) := gW_AI H.2.2.2.1.2.2.2.2 rfl hk (by decide)
theorem rXs100 (H : XS u x) {k : Nat} (hk : k < 64) {v : Int32} {P : Unit → g_H → Prop} : gW (gSI (x + 100) 3 (iN k) v) (iv, u) P ↔ P () (g_u2 iv (x + 100) k v, u) := gW_SI H.2.2.2.1.2.2.2.2 rfl hk (by decide)
end RX
section CR
variable {iv iv0 : gV} {u : gU} {x : Nat}
theorem sDr_eq (v : Int32) : ((v.toUInt32 >>> ((16 : Int32).toUInt32 &&& Int32.toUInt32 31)).toInt32 &&& 32767) = ((v >>> ((16 : Int32) &&& 31)) &&& 32767) := by
  apply Int32.toBitVec_inj.mp
  show (v.toBitVec >>> (16 : Nat)) &&& 32767#32 = (v.toBitVec.sshiftRight 16) &&& 32767#32
  apply BitVec.eq_of_getLsbD_eq
  intro i hi
  rw [BitVec.getLsbD_and, BitVec.getLsbD_and]
  by_cases h : i < 15
  · rw [BitVec.getLsbD_ushiftRight, BitVec.getLsbD_sshiftRight]
    have h1 : ¬ 32 ≤ i := by omega
    have h2 : 16 + i < 32 := by omega
    simp [h1, h2]
  · have h3 : (32767#32).getLsbD i = false := by
      have : ∀ j : Nat, j < 32 → ¬ j < 15 → (32767#32).getLsbD j = false := by decide
      exact this i hi h
    rw [h3, Bool.and_false, Bool.and_false]
theorem w_draw {b : Nat} (H : SS u b) {P : Int32 → g_H → Prop} : gW (f_X3_draw b (3 : Int32)) (iv, u) P ↔ P (sDr (iv b 13)).2 (g_u2 iv b 13 (sDr (iv b 13)).1, u) := by
  unfold f_X3_draw sDr
  have e : ∀ v, g_u2 iv b 13 v b 13 = v := fun v => by simp [g_u2, va_up]
  simp (disch := omega) only [gW_B, gW_ret, gW_tr, gW_fa, iN_add, iN_mul, iN_sub, iN_m1, iNp1, iNp2, iNp3, iNp4, iNp5, iNp6, iNp8, iNp12, iNp16, iNp20, iNp305, iNl1, iNl6, iNl9, iNl12, iNl41, iNl65, iNl305, iNl306, iNl354, iNl1154, iNl1155, iNl1203, iNm2, iNm4, iNm6, iNm8, iNm10, iNm12, iNm60, iNm305, iNs1, iNs4, iNs8, rSi H, rSp H, rSc H, rSP H, rSO H, rSPi H, rSPp H, rSPc H, rSOi H, rSOp H, rSOc H, rSr0 H, rSr1 H, rSr2 H, rSr3 H, rSr4 H, rSr5 H, rSa3 H, rSa4 H, rSa5 H, rSs3 H, rSs4 H, rSs5 H, rSf0 H, rSf1 H, rSf2 H, rSf3 H, rSf4 H, rSf5 H, rSf6 H, rSf7 H, gW_gd, e, sDr_eq]
  exact ⟨fun z => z.2, fun z => ⟨by decide, z⟩⟩
theorem w_behind {b : Nat} (H : SS u b) {n1 top lm : Nat} (hb : b + 5 < n1) {K N : Nat → Int32} {C : Nat → (Nat → Int32) → Bool} (hL : cL n1 top iv u b lm K N C) (hC : cOk C) {o s : Nat} {t j : Int32} (ho : u.1 o = some (.inr 4)) (hob : o ≠ b + 5) (hs : s < 10) {W : Nat → Int32} {d n k : Int32} (hcF : iv (b + 4) s = -1 ∨ ∃ p : Nat, p < 8 ∧ cF iv b o W p s d n k) {P : Int32 → g_H → Prop}
    (hP : ∀ f, P (if iv (b + 4) s = -1 then mX 0 (t - iv b 11) else (t + sFr W lm K N C (iv (b + 4) s).toNatClampNeg (sF W (iv (b + 4) s).toNatClampNeg t d n k)) + j) (va_up iv (b + 5) f, u)) : gW (f_X3_behind b o (iN s) t j) (iv, u) P := by
  unfold f_X3_behind f_X3_behind_35
  simp (disch := omega) only [gW_B, gW_ret, gW_tr, gW_fa, iN_add, iN_mul, iN_sub, iN_m1, iNp1, iNp2, iNp3, iNp4, iNp5, iNp6, iNp8, iNp12, iNp16, iNp20, iNp305, iNl1, iNl6, iNl9, iNl12, iNl41, iNl65, iNl305, iNl306, iNl354, iNl1154, iNl1155, iNl1203, iNm2, iNm4, iNm6, iNm8, iNm10, iNm12, iNm60, iNm305, iNs1, iNs4, iNs8, rSi H, rSp H, rSc H, rSP H, rSO H, rSPi H, rSPp H, rSPc H, rSOi H, rSOp H, rSOc H, rSr0 H, rSr1 H, rSr2 H, rSr3 H, rSr4 H, rSr5 H, rSa3 H, rSa4 H, rSa5 H, rSs3 H, rSs4 H, rSs5 H, rSf0 H, rSf1 H, rSf2 H, rSf3 H, rSf4 H, rSf5 H, rSf6 H, rSf7 H]
  rcases hcF with h1 | ⟨p, hp, hcF⟩
  · rw [gW_ift h1]
    simp (disch := omega) only [gW_B, gW_ret, gW_tr, gW_fa, iN_add, iN_mul, iN_sub, iN_m1, iNp1, iNp2, iNp3, iNp4, iNp5, iNp6, iNp8, iNp12, iNp16, iNp20, iNp305, iNl1, iNl6, iNl9, iNl12, iNl41, iNl65, iNl305, iNl306, iNl354, iNl1154, iNl1155, iNl1203, iNm2, iNm4, iNm6, iNm8, iNm10, iNm12, iNm60, iNm305, iNs1, iNs4, iNs8, rSi H, rSp H, rSc H, rSP H, rSO H, rSPi H, rSPp H, rSPc H, rSOi H, rSOp H, rSOc H, rSr0 H, rSr1 H, rSr2 H, rSr3 H, rSr4 H, rSr5 H, rSa3 H, rSa4 H, rSa5 H, rSs3 H, rSs4 H, rSs5 H, rSf0 H, rSf1 H, rSf2 H, rSf3 H, rSf4 H, rSf5 H, rSf6 H, rSf7 H, w_max]
    have := hP (iv (b + 5))
    rw [if_pos h1, va_up_id] at this
    exact this
  · have h1 : iv (b + 4) s = iN p := hcF.1
    have hne : ¬ iv (b + 4) s = -1 := by rw [h1]; exact iN_eqm (by omega)
    rw [gW_iff hne]
    simp (disch := omega) only [gW_B, gW_ret, gW_tr, gW_fa, iN_add, iN_mul, iN_sub, iN_m1, iNp1, iNp2, iNp3, iNp4, iNp5, iNp6, iNp8, iNp12, iNp16, iNp20, iNp305, iNl1, iNl6, iNl9, iNl12, iNl41, iNl65, iNl305, iNl306, iNl354, iNl1154, iNl1155, iNl1203, iNm2, iNm4, iNm6, iNm8, iNm10, iNm12, iNm60, iNm305, iNs1, iNs4, iNs8, rSi H, rSp H, rSc H, rSP H, rSO H, rSPi H, rSPp H, rSPc H, rSOi H, rSOp H, rSOc H, rSr0 H, rSr1 H, rSr2 H, rSr3 H, rSr4 H, rSr5 H, rSa3 H, rSa4 H, rSa5 H, rSs3 H, rSs4 H, rSs5 H, rSf0 H, rSf1 H, rSf2 H, rSf3 H, rSf4 H, rSf5 H, rSf6 H, rSf7 H]
    refine w_frights H hb hL hC ho hob hs hp hcF (fun f => ?_)
    have := hP f
    rw [if_neg hne, h1, iN_c (by omega)] at this
    exact this
end CR
