/-! A STATE OF THE COMPONENT -/
/-- the shapes of a State at b -/
def SSk : List (Nat × Nat) := [(4, 8), (5, 6), (6, 12), (0, 10), (0, 8), (0, 240)]
def SS (u : gU) (b : Nat) : Prop := u.1 b = some (.inr 2) ∧ (∀ j : Nat, j < 6 → u.2.1 b j = some (b + 1 + j) ∧ u.1 (b + 1 + j) = some (.inl (SSk.getD j (0, 0)))) ∧ (∀ p : Nat, p < 8 → u.2.1 (b + 1) p = some (b + 7 + p) ∧ u.1 (b + 7 + p) = some (.inr 3)) ∧ ∀ o : Nat, o < 6 → u.2.1 (b + 2) o = some (b + 15 + o) ∧ u.1 (b + 15 + o) = some (.inr 4)
section RS
variable {iv : gV} {u : gU} {b : Nat}
theorem rSi (H : SS u b) {k : Nat} {P : Int32 → g_H → Prop} : gW (gFI b 2 k) (iv, u) P ↔ P (iv b k) (iv, u) := gW_FI H.1
theorem rSp (H : SS u b) {k : Nat} {x : Int32} {P : Unit → g_H → Prop} : gW (gPI b 2 k x) (iv, u) P ↔ P () (g_u2 iv b k x, u) := gW_PI H.1
theorem rSc (H : SS u b) {P : Unit → g_H → Prop} : gW (gCk b 2) (iv, u) P ↔ P () (iv, u) := gW_Ck H.1
theorem rSP (H : SS u b) {p : Nat} (hp : p < 8) {P : Nat → g_H → Prop} : gW (gAR (b + 1) 4 (iN p)) (iv, u) P ↔ P (b + 7 + p) (iv, u) := gW_AR (H.2.1 0 (by decide)).2 rfl hp (by decide) (H.2.2.1 p hp).1
theorem rSO (H : SS u b) {p : Nat} (hp : p < 6) {P : Nat → g_H → Prop} : gW (gAR (b + 2) 5 (iN p)) (iv, u) P ↔ P (b + 15 + p) (iv, u) := gW_AR (H.2.1 1 (by decide)).2 rfl hp (by decide) (H.2.2.2 p hp).1
theorem rSPi (H : SS u b) {p k : Nat} (hp : p < 8) {P : Int32 → g_H → Prop} : gW (gFI (b + 7 + p) 3 k) (iv, u) P ↔ P (iv (b + 7 + p) k) (iv, u) := gW_FI (H.2.2.1 p hp).2
theorem rSPp (H : SS u b) {p k : Nat} (hp : p < 8) {x : Int32} {P : Unit → g_H → Prop} : gW (gPI (b + 7 + p) 3 k x) (iv, u) P ↔ P () (g_u2 iv (b + 7 + p) k x, u) := gW_PI (H.2.2.1 p hp).2
theorem rSPc (H : SS u b) {p : Nat} (hp : p < 8) {P : Unit → g_H → Prop} : gW (gCk (b + 7 + p) 3) (iv, u) P ↔ P () (iv, u) := gW_Ck (H.2.2.1 p hp).2
theorem rSOi (H : SS u b) {p k : Nat} (hp : p < 6) {P : Int32 → g_H → Prop} : gW (gFI (b + 15 + p) 4 k) (iv, u) P ↔ P (iv (b + 15 + p) k) (iv, u) := gW_FI (H.2.2.2 p hp).2
theorem rSOp (H : SS u b) {p k : Nat} (hp : p < 6) {x : Int32} {P : Unit → g_H → Prop} : gW (gPI (b + 15 + p) 4 k x) (iv, u) P ↔ P () (g_u2 iv (b + 15 + p) k x, u) := gW_PI (H.2.2.2 p hp).2
theorem rSOc (H : SS u b) {p : Nat} (hp : p < 6) {P : Unit → g_H → Prop} : gW (gCk (b + 15 + p) 4) (iv, u) P ↔ P () (iv, u) := gW_Ck (H.2.2.2 p hp).2
theorem rSr0 (H : SS u b) {P : Nat → g_H → Prop} : gW (gFR b 2 0) (iv, u) P ↔ P (b + 1) (iv, u) := gW_FR H.1 (H.2.1 0 (by decide)).1
theorem rSr1 (H : SS u b) {P : Nat → g_H → Prop} : gW (gFR b 2 1) (iv, u) P ↔ P (b + 2) (iv, u) := gW_FR H.1 (H.2.1 1 (by decide)).1
theorem rSr2 (H : SS u b) {P : Nat → g_H → Prop} : gW (gFR b 2 2) (iv, u) P ↔ P (b + 3) (iv, u) := gW_FR H.1 (H.2.1 2 (by decide)).1
theorem rSr3 (H : SS u b) {P : Nat → g_H → Prop} : gW (gFR b 2 3) (iv, u) P ↔ P (b + 4) (iv, u) := gW_FR H.1 (H.2.1 3 (by decide)).1
theorem rSr4 (H : SS u b) {P : Nat → g_H → Prop} : gW (gFR b 2 4) (iv, u) P ↔ P (b + 5) (iv, u) := gW_FR H.1 (H.2.1 4 (by decide)).1
theorem rSr5 (H : SS u b) {P : Nat → g_H → Prop} : gW (gFR b 2 5) (iv, u) P ↔ P (b + 6) (iv, u) := gW_FR H.1 (H.2.1 5 (by decide)).1
theorem rSa3 (H : SS u b) {k : Nat} (hk : k < 10) {P : Int32 → g_H → Prop} : gW (gAI (b + 4) 0 (iN k)) (iv, u) P ↔ P (iv (b + 4) k) (iv, u) := gW_AI (H.2.1 3 (by decide)).2 rfl hk (show 10 < 2147483648 by decide)
theorem rSs3 (H : SS u b) {k : Nat} (hk : k < 10) {x : Int32} {P : Unit → g_H → Prop} : gW (gSI (b + 4) 0 (iN k) x) (iv, u) P ↔ P () (g_u2 iv (b + 4) k x, u) := gW_SI (H.2.1 3 (by decide)).2 rfl hk (show 10 < 2147483648 by decide)
theorem rSa4 (H : SS u b) {k : Nat} (hk : k < 8) {P : Int32 → g_H → Prop} : gW (gAI (b + 5) 0 (iN k)) (iv, u) P ↔ P (iv (b + 5) k) (iv, u) := gW_AI (H.2.1 4 (by decide)).2 rfl hk (show 8 < 2147483648 by decide)
theorem rSs4 (H : SS u b) {k : Nat} (hk : k < 8) {x : Int32} {P : Unit → g_H → Prop} : gW (gSI (b + 5) 0 (iN k) x) (iv, u) P ↔ P () (g_u2 iv (b + 5) k x, u) := gW_SI (H.2.1 4 (by decide)).2 rfl hk (show 8 < 2147483648 by decide)
theorem rSa5 (H : SS u b) {k : Nat} (hk : k < 240) {P : Int32 → g_H → Prop} : gW (gAI (b + 6) 0 (iN k)) (iv, u) P ↔ P (iv (b + 6) k) (iv, u) := gW_AI (H.2.1 5 (by decide)).2 rfl hk (show 240 < 2147483648 by decide)
theorem rSs5 (H : SS u b) {k : Nat} (hk : k < 240) {x : Int32} {P : Unit → g_H → Prop} : gW (gSI (b + 6) 0 (iN k) x) (iv, u) P ↔ P () (g_u2 iv (b + 6) k x, u) := gW_SI (H.2.1 5 (by decide)).2 rfl hk (show 240 < 2147483648 by decide)
theorem rSf0 (H : SS u b) {x : Int32} {P : Unit → g_H → Prop} : gW (gSI (b + 5) 0 (0 : Int32) x) (iv, u) P ↔ P () (g_u2 iv (b + 5) 0 x, u) := rSs4 H (by decide)
theorem rSf1 (H : SS u b) {x : Int32} {P : Unit → g_H → Prop} : gW (gSI (b + 5) 0 (1 : Int32) x) (iv, u) P ↔ P () (g_u2 iv (b + 5) 1 x, u) := rSs4 H (by decide)
theorem rSf2 (H : SS u b) {x : Int32} {P : Unit → g_H → Prop} : gW (gSI (b + 5) 0 (2 : Int32) x) (iv, u) P ↔ P () (g_u2 iv (b + 5) 2 x, u) := rSs4 H (by decide)
theorem rSf3 (H : SS u b) {x : Int32} {P : Unit → g_H → Prop} : gW (gSI (b + 5) 0 (3 : Int32) x) (iv, u) P ↔ P () (g_u2 iv (b + 5) 3 x, u) := rSs4 H (by decide)
theorem rSf4 (H : SS u b) {x : Int32} {P : Unit → g_H → Prop} : gW (gSI (b + 5) 0 (4 : Int32) x) (iv, u) P ↔ P () (g_u2 iv (b + 5) 4 x, u) := rSs4 H (by decide)
theorem rSf5 (H : SS u b) {x : Int32} {P : Unit → g_H → Prop} : gW (gSI (b + 5) 0 (5 : Int32) x) (iv, u) P ↔ P () (g_u2 iv (b + 5) 5 x, u) := rSs4 H (by decide)
theorem rSf6 (H : SS u b) {x : Int32} {P : Unit → g_H → Prop} : gW (gSI (b + 5) 0 (6 : Int32) x) (iv, u) P ↔ P () (g_u2 iv (b + 5) 6 x, u) := rSs4 H (by decide)
theorem rSf7 (H : SS u b) {x : Int32} {P : Unit → g_H → Prop} : gW (gSI (b + 5) 0 (7 : Int32) x) (iv, u) P ↔ P () (g_u2 iv (b + 5) 7 x, u) := rSs4 H (by decide)
end RS
section ST
variable {iv : gV} {u : gU} {b : Nat}
theorem bit_bI (x : Int32) : x &&& 1 = bI (x &&& 1 = 1) := by
  by_cases h : x &&& 1 = 1
  · rw [bI_t h]; exact h
  · rw [bI_f h]
    have h2 : x.toBitVec &&& 1#32 = 0#32 ∨ x.toBitVec &&& 1#32 = 1#32 := by
      rw [BitVec.and_one_eq_setWidth_ofBool_getLsbD]
      cases x.toBitVec.getLsbD 0
      · exact Or.inl rfl
      · exact Or.inr rfl
    rcases h2 with h2 | h2
    · exact Int32.toBitVec_inj.mp h2
    · exact (h (Int32.toBitVec_inj.mp h2)).elim
/-- the facts told of the prop of a slot -/
theorem w_tells (H : SS u b) {o s p : Nat} {t : Int32} (ho : u.1 o = some (.inr 4)) (hob : o ≠ b + 5) (hs : s < 10) (hp : p < 8) (hsl : iv (b + 4) s = iN p) {P : Unit → g_H → Prop}
    (hP : ∀ f : Nat → Int32, (f 0 = iN p ∧ f 1 = iN s ∧ f 2 = iv (b + 7 + p) 1 ∧ f 3 = iv (b + 7 + p) 2 ∧ f 4 = t ∧ f 5 = iv o 1 ∧ f 6 = bI ((iv o 2 >>> (iN p &&& 31)) &&& 1 = 1) ∧ f 7 = bI ((iv o 0 >>> (iv (b + 7 + p) 0 &&& 31)) &&& 1 = 1)) → P () (va_up iv (b + 5) f, u)) : gW (f_X3_tells b o (iN s) t) (iv, u) P := by
  unfold f_X3_tells
  have n1 : ∀ (jv : gV) (k : Nat) (x : Int32) (a j : Nat), a ≠ b + 5 → g_u2 jv (b + 5) k x a j = jv a j := fun jv k x a j h => by rw [g_u2_ne _ _ _ h]
  have q4 : ∀ (jv : gV) (k : Nat) (x : Int32) (j : Nat), g_u2 jv (b + 5) k x (b + 4) j = jv (b + 4) j := fun jv k x j => n1 jv k x _ j (by omega)
  have q7 : ∀ (jv : gV) (k : Nat) (x : Int32) (j : Nat), g_u2 jv (b + 5) k x (b + 7 + p) j = jv (b + 7 + p) j := fun jv k x j => n1 jv k x _ j (by omega)
  have qo : ∀ (jv : gV) (k : Nat) (x : Int32) (j : Nat), g_u2 jv (b + 5) k x o j = jv o j := fun jv k x j => n1 jv k x _ j hob
  simp (disch := omega) only [gW_B, gW_ret, gW_tr, gW_fa, iN_add, iN_mul, iN_sub, iN_m1, iNp1, iNp2, iNp3, iNp4, iNp5, iNp6, iNp8, iNp12, iNp16, iNp20, iNp305, iNl1, iNl6, iNl9, iNl12, iNl41, iNl65, iNl305, iNl306, iNl354, iNl1154, iNl1155, iNl1203, iNm2, iNm4, iNm6, iNm8, iNm10, iNm12, iNm60, iNm305, iNs1, iNs4, iNs8, rSi H, rSp H, rSc H, rSP H, rSO H, rSPi H, rSPp H, rSPc H, rSOi H, rSOp H, rSOc H, rSr0 H, rSr1 H, rSr2 H, rSr3 H, rSr4 H, rSr5 H, rSa3 H, rSa4 H, rSa5 H, rSs3 H, rSs4 H, rSs5 H, rSf0 H, rSf1 H, rSf2 H, rSf3 H, rSf4 H, rSf5 H, rSf6 H, rSf7 H, hsl, q4, q7, qo, gW_FI ho]
  have e : ∀ (jv : gV) (f : Nat → Int32) (k : Nat) (x : Int32), g_u2 (va_up jv (b + 5) f) (b + 5) k x = va_up jv (b + 5) (va_up f k x) := fun jv f k x => g_u2_up jv (b + 5) k f x
  rw [← va_up_id iv (b + 5)]
  simp only [e]
  rw [va_up_id]
  refine hP _ ⟨?_, ?_, ?_, ?_, ?_, ?_, ?_, ?_⟩ <;> simp [va_up, ← bit_bI]
end ST
