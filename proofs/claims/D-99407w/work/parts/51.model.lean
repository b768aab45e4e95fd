theorem gW_tr {α : Type} {i : Decidable True} {a b : gM α} {h : g_H} {P : α → g_H → Prop} : gW (@gIf α True i a b) h P ↔ gW a h P := gW_ift trivial
theorem gW_fa {α : Type} {i : Decidable False} {a b : gM α} {h : g_H} {P : α → g_H → Prop} : gW (@gIf α False i a b) h P ↔ gW b h P := gW_iff (fun h => h)
/-! INTS THAT ARE NUMBERS -/
theorem iN_add (a b : Nat) : iN a + iN b = iN (a + b) := (Int32.ofNat_add a b).symm
theorem iN_mul (a b : Nat) : iN a * iN b = iN (a * b) := (Int32.ofNat_mul a b).symm
theorem iN_t {a : Nat} (h : a < 2147483648) : (iN a).toInt = a := Int32.toInt_ofNat_small (by omega)
theorem iN_lt {a b : Nat} (ha : a < 2147483648) (hb : b < 2147483648) : iN a < iN b ↔ a < b := by
  rw [Int32.lt_iff_toInt_lt, iN_t ha, iN_t hb]
  omega
theorem iN_le {a b : Nat} (ha : a < 2147483648) (hb : b < 2147483648) : iN a ≤ iN b ↔ a ≤ b := by
  rw [Int32.le_iff_toInt_le, iN_t ha, iN_t hb]
  omega
theorem iN_eq {a b : Nat} (ha : a < 2147483648) (hb : b < 2147483648) : iN a = iN b ↔ a = b := by
  rw [← Int32.toInt_inj, iN_t ha, iN_t hb]
  omega
theorem iN_eqm {a : Nat} (ha : a < 2147483648) : ¬ iN a = -1 := by
  rw [← Int32.toInt_inj, iN_t ha]
  have : (-1 : Int32).toInt = -1 := by decide
  omega
theorem iN_sub {a b : Nat} (h : b ≤ a) : iN a - iN b = iN (a - b) := by
  have : iN (a - b) + iN b = iN a := by rw [iN_add]; congr 1; omega
  rw [← this, Int32.add_sub_cancel]
theorem iN_m1 {a : Nat} (h : 1 ≤ a) : iN a + -1 = iN (a - 1) := by
  rw [← iN_sub h, Int32.sub_eq_add_neg]
  rfl
theorem iN_lit (n : Nat) : (OfNat.ofNat n : Int32) = iN n := rfl
theorem iNp1 (a : Nat) : iN a + (1 : Int32) = iN (a + 1) := iN_add a 1
theorem iNp2 (a : Nat) : iN a + (2 : Int32) = iN (a + 2) := iN_add a 2
theorem iNp3 (a : Nat) : iN a + (3 : Int32) = iN (a + 3) := iN_add a 3
theorem iNp4 (a : Nat) : iN a + (4 : Int32) = iN (a + 4) := iN_add a 4
theorem iNp5 (a : Nat) : iN a + (5 : Int32) = iN (a + 5) := iN_add a 5
theorem iNp6 (a : Nat) : iN a + (6 : Int32) = iN (a + 6) := iN_add a 6
theorem iNp8 (a : Nat) : iN a + (8 : Int32) = iN (a + 8) := iN_add a 8
theorem iNp12 (a : Nat) : iN a + (12 : Int32) = iN (a + 12) := iN_add a 12
theorem iNp16 (a : Nat) : iN a + (16 : Int32) = iN (a + 16) := iN_add a 16
theorem iNp20 (a : Nat) : iN a + (20 : Int32) = iN (a + 20) := iN_add a 20
theorem iNp305 (a : Nat) : iN a + (305 : Int32) = iN (a + 305) := iN_add a 305
theorem iNl1 (a : Nat) : (1 : Int32) + iN a = iN (1 + a) := iN_add 1 a
theorem iNl6 (a : Nat) : (6 : Int32) + iN a = iN (6 + a) := iN_add 6 a
theorem iNl9 (a : Nat) : (9 : Int32) + iN a = iN (9 + a) := iN_add 9 a
theorem iNl12 (a : Nat) : (12 : Int32) + iN a = iN (12 + a) := iN_add 12 a
theorem iNl41 (a : Nat) : (41 : Int32) + iN a = iN (41 + a) := iN_add 41 a
theorem iNl65 (a : Nat) : (65 : Int32) + iN a = iN (65 + a) := iN_add 65 a
theorem iNl305 (a : Nat) : (305 : Int32) + iN a = iN (305 + a) := iN_add 305 a
theorem iNl306 (a : Nat) : (306 : Int32) + iN a = iN (306 + a) := iN_add 306 a
theorem iNl354 (a : Nat) : (354 : Int32) + iN a = iN (354 + a) := iN_add 354 a
theorem iNl1154 (a : Nat) : (1154 : Int32) + iN a = iN (1154 + a) := iN_add 1154 a
theorem iNl1155 (a : Nat) : (1155 : Int32) + iN a = iN (1155 + a) := iN_add 1155 a
theorem iNl1203 (a : Nat) : (1203 : Int32) + iN a = iN (1203 + a) := iN_add 1203 a
theorem iNm2 (a : Nat) : (2 : Int32) * iN a = iN (2 * a) := iN_mul 2 a
theorem iNm4 (a : Nat) : (4 : Int32) * iN a = iN (4 * a) := iN_mul 4 a
theorem iNm6 (a : Nat) : (6 : Int32) * iN a = iN (6 * a) := iN_mul 6 a
theorem iNm8 (a : Nat) : (8 : Int32) * iN a = iN (8 * a) := iN_mul 8 a
theorem iNm10 (a : Nat) : (10 : Int32) * iN a = iN (10 * a) := iN_mul 10 a
theorem iNm12 (a : Nat) : (12 : Int32) * iN a = iN (12 * a) := iN_mul 12 a
theorem iNm60 (a : Nat) : (60 : Int32) * iN a = iN (60 * a) := iN_mul 60 a
theorem iNm305 (a : Nat) : (305 : Int32) * iN a = iN (305 * a) := iN_mul 305 a
theorem iNs1 {a : Nat} (h : 1 ≤ a) : iN a - (1 : Int32) = iN (a - 1) := iN_sub h
theorem iNs4 {a : Nat} (h : 4 ≤ a) : iN a - (4 : Int32) = iN (a - 4) := iN_sub h
theorem iNs8 {a : Nat} (h : 8 ≤ a) : iN a - (8 : Int32) = iN (a - 8) := iN_sub h
def MSf : List Nat := [1, 2, 3, 4, 5, 8, 15, 17, 25, 26, 27, 33, 34, 35, 37]
def MSk : List Nat := [0, 0, 0, 0, 0, 1, 0, 0, 0, 0, 0, 0, 0, 0, 0]
def MSl : List Nat := [2003, 1154, 1154, 305, 3660, 400, 5, 400, 10, 10, 8, 61, 61, 10, 640]
/-- the shapes of the model at m -/
def MS (u : gU) (m : Nat) : Prop := u.1 m = some (.inr 7) ∧ ∀ j : Nat, j < 15 → u.2.1 m (MSf.getD j 0) = some (m + 1 + j) ∧ u.1 (m + 1 + j) = some (.inl (MSk.getD j 0, MSl.getD j 0))
section RM
variable {iv : gV} {u : gU} {m : Nat}
theorem rMi (H : MS u m) {k : Nat} {P : Int32 → g_H → Prop} : gW (gFI m 7 k) (iv, u) P ↔ P (iv m k) (iv, u) := gW_FI H.1
theorem rMp (H : MS u m) {k : Nat} {x : Int32} {P : Unit → g_H → Prop} : gW (gPI m 7 k x) (iv, u) P ↔ P () (g_u2 iv m k x, u) := gW_PI H.1
theorem rMz (H : MS u m) {k : Nat} {x : Int32} {P : Unit → g_H → Prop} (hx : x = 0 ∨ x = 1) : gW (gPZ m 7 k x) (iv, u) P ↔ P () (g_u2 iv m k x, u) := gW_PZ H.1 hx
theorem rMc (H : MS u m) {P : Unit → g_H → Prop} : gW (gCk m 7) (iv, u) P ↔ P () (iv, u) := gW_Ck H.1
theorem rMr0 (H : MS u m) {P : Nat → g_H → Prop} : gW (gFR m 7 1) (iv, u) P ↔ P (m + 1) (iv, u) := gW_FR H.1 (H.2 0 (by decide)).1
theorem rMa0 (H : MS u m) {k : Nat} (hk : k < 2003) {P : Int32 → g_H → Prop} : gW (gAI (m + 1) 0 (iN k)) (iv, u) P ↔ P (iv (m + 1) k) (iv, u) := gW_AI (H.2 0 (by decide)).2 rfl hk (show 2003 < 2147483648 by decide)
theorem rMs0 (H : MS u m) {k : Nat} (hk : k < 2003) {x : Int32} {P : Unit → g_H → Prop} : gW (gSI (m + 1) 0 (iN k) x) (iv, u) P ↔ P () (g_u2 iv (m + 1) k x, u) := gW_SI (H.2 0 (by decide)).2 rfl hk (show 2003 < 2147483648 by decide)
theorem rMr1 (H : MS u m) {P : Nat → g_H → Prop} : gW (gFR m 7 2) (iv, u) P ↔ P (m + 2) (iv, u) := gW_FR H.1 (H.2 1 (by decide)).1
theorem rMa1 (H : MS u m) {k : Nat} (hk : k < 1154) {P : Int32 → g_H → Prop} : gW (gAI (m + 2) 0 (iN k)) (iv, u) P ↔ P (iv (m + 2) k) (iv, u) := gW_AI (H.2 1 (by decide)).2 rfl hk (show 1154 < 2147483648 by decide)
theorem rMs1 (H : MS u m) {k : Nat} (hk : k < 1154) {x : Int32} {P : Unit → g_H → Prop} : gW (gSI (m + 2) 0 (iN k) x) (iv, u) P ↔ P () (g_u2 iv (m + 2) k x, u) := gW_SI (H.2 1 (by decide)).2 rfl hk (show 1154 < 2147483648 by decide)
theorem rMr2 (H : MS u m) {P : Nat → g_H → Prop} : gW (gFR m 7 3) (iv, u) P ↔ P (m + 3) (iv, u) := gW_FR H.1 (H.2 2 (by decide)).1
theorem rMa2 (H : MS u m) {k : Nat} (hk : k < 1154) {P : Int32 → g_H → Prop} : gW (gAI (m + 3) 0 (iN k)) (iv, u) P ↔ P (iv (m + 3) k) (iv, u) := gW_AI (H.2 2 (by decide)).2 rfl hk (show 1154 < 2147483648 by decide)
theorem rMs2 (H : MS u m) {k : Nat} (hk : k < 1154) {x : Int32} {P : Unit → g_H → Prop} : gW (gSI (m + 3) 0 (iN k) x) (iv, u) P ↔ P () (g_u2 iv (m + 3) k x, u) := gW_SI (H.2 2 (by decide)).2 rfl hk (show 1154 < 2147483648 by decide)
theorem rMr3 (H : MS u m) {P : Nat → g_H → Prop} : gW (gFR m 7 4) (iv, u) P ↔ P (m + 4) (iv, u) := gW_FR H.1 (H.2 3 (by decide)).1
theorem rMa3 (H : MS u m) {k : Nat} (hk : k < 305) {P : Int32 → g_H → Prop} : gW (gAI (m + 4) 0 (iN k)) (iv, u) P ↔ P (iv (m + 4) k) (iv, u) := gW_AI (H.2 3 (by decide)).2 rfl hk (show 305 < 2147483648 by decide)
theorem rMs3 (H : MS u m) {k : Nat} (hk : k < 305) {x : Int32} {P : Unit → g_H → Prop} : gW (gSI (m + 4) 0 (iN k) x) (iv, u) P ↔ P () (g_u2 iv (m + 4) k x, u) := gW_SI (H.2 3 (by decide)).2 rfl hk (show 305 < 2147483648 by decide)
theorem rMr4 (H : MS u m) {P : Nat → g_H → Prop} : gW (gFR m 7 5) (iv, u) P ↔ P (m + 5) (iv, u) := gW_FR H.1 (H.2 4 (by decide)).1
theorem rMa4 (H : MS u m) {k : Nat} (hk : k < 3660) {P : Int32 → g_H → Prop} : gW (gAI (m + 5) 0 (iN k)) (iv, u) P ↔ P (iv (m + 5) k) (iv, u) := gW_AI (H.2 4 (by decide)).2 rfl hk (show 3660 < 2147483648 by decide)
theorem rMs4 (H : MS u m) {k : Nat} (hk : k < 3660) {x : Int32} {P : Unit → g_H → Prop} : gW (gSI (m + 5) 0 (iN k) x) (iv, u) P ↔ P () (g_u2 iv (m + 5) k x, u) := gW_SI (H.2 4 (by decide)).2 rfl hk (show 3660 < 2147483648 by decide)
theorem rMr5 (H : MS u m) {P : Nat → g_H → Prop} : gW (gFR m 7 8) (iv, u) P ↔ P (m + 6) (iv, u) := gW_FR H.1 (H.2 5 (by decide)).1
theorem rMa5 (H : MS u m) {k : Nat} (hk : k < 400) {P : Int32 → g_H → Prop} : gW (gAI (m + 6) 1 (iN k)) (iv, u) P ↔ P (iv (m + 6) k) (iv, u) := gW_AI (H.2 5 (by decide)).2 rfl hk (show 400 < 2147483648 by decide)
theorem rMs5 (H : MS u m) {k : Nat} (hk : k < 400) {x : Int32} {P : Unit → g_H → Prop} : gW (gSI (m + 6) 1 (iN k) x) (iv, u) P ↔ P () (g_u2 iv (m + 6) k x, u) := gW_SI (H.2 5 (by decide)).2 rfl hk (show 400 < 2147483648 by decide)
theorem rMr6 (H : MS u m) {P : Nat → g_H → Prop} : gW (gFR m 7 15) (iv, u) P ↔ P (m + 7) (iv, u) := gW_FR H.1 (H.2 6 (by decide)).1
theorem rMa6 (H : MS u m) {k : Nat} (hk : k < 5) {P : Int32 → g_H → Prop} : gW (gAI (m + 7) 0 (iN k)) (iv, u) P ↔ P (iv (m + 7) k) (iv, u) := gW_AI (H.2 6 (by decide)).2 rfl hk (show 5 < 2147483648 by decide)
theorem rMs6 (H : MS u m) {k : Nat} (hk : k < 5) {x : Int32} {P : Unit → g_H → Prop} : gW (gSI (m + 7) 0 (iN k) x) (iv, u) P ↔ P () (g_u2 iv (m + 7) k x, u) := gW_SI (H.2 6 (by decide)).2 rfl hk (show 5 < 2147483648 by decide)
theorem rMr7 (H : MS u m) {P : Nat → g_H → Prop} : gW (gFR m 7 17) (iv, u) P ↔ P (m + 8) (iv, u) := gW_FR H.1 (H.2 7 (by decide)).1
theorem rMa7 (H : MS u m) {k : Nat} (hk : k < 400) {P : Int32 → g_H → Prop} : gW (gAI (m + 8) 0 (iN k)) (iv, u) P ↔ P (iv (m + 8) k) (iv, u) := gW_AI (H.2 7 (by decide)).2 rfl hk (show 400 < 2147483648 by decide)
theorem rMs7 (H : MS u m) {k : Nat} (hk : k < 400) {x : Int32} {P : Unit → g_H → Prop} : gW (gSI (m + 8) 0 (iN k) x) (iv, u) P ↔ P () (g_u2 iv (m + 8) k x, u) := gW_SI (H.2 7 (by decide)).2 rfl hk (show 400 < 2147483648 by decide)
theorem rMr8 (H : MS u m) {P : Nat → g_H → Prop} : gW (gFR m 7 25) (iv, u) P ↔ P (m + 9) (iv, u) := gW_FR H.1 (H.2 8 (by decide)).1
theorem rMa8 (H : MS u m) {k : Nat} (hk : k < 10) {P : Int32 → g_H → Prop} : gW (gAI (m + 9) 0 (iN k)) (iv, u) P ↔ P (iv (m + 9) k) (iv, u) := gW_AI (H.2 8 (by decide)).2 rfl hk (show 10 < 2147483648 by decide)
theorem rMs8 (H : MS u m) {k : Nat} (hk : k < 10) {x : Int32} {P : Unit → g_H → Prop} : gW (gSI (m + 9) 0 (iN k) x) (iv, u) P ↔ P () (g_u2 iv (m + 9) k x, u) := gW_SI (H.2 8 (by decide)).2 rfl hk (show 10 < 2147483648 by decide)
theorem rMr9 (H : MS u m) {P : Nat → g_H → Prop} : gW (gFR m 7 26) (iv, u) P ↔ P (m + 10) (iv, u) := gW_FR H.1 (H.2 9 (by decide)).1
theorem rMa9 (H : MS u m) {k : Nat} (hk : k < 10) {P : Int32 → g_H → Prop} : gW (gAI (m + 10) 0 (iN k)) (iv, u) P ↔ P (iv (m + 10) k) (iv, u) := gW_AI (H.2 9 (by decide)).2 rfl hk (show 10 < 2147483648 by decide)
theorem rMs9 (H : MS u m) {k : Nat} (hk : k < 10) {x : Int32} {P : Unit → g_H → Prop} : gW (gSI (m + 10) 0 (iN k) x) (iv, u) P ↔ P () (g_u2 iv (m + 10) k x, u) := gW_SI (H.2 9 (by decide)).2 rfl hk (show 10 < 2147483648 by decide)
theorem rMr10 (H : MS u m) {P : Nat → g_H → Prop} : gW (gFR m 7 27) (iv, u) P ↔ P (m + 11) (iv, u) := gW_FR H.1 (H.2 10 (by decide)).1
theorem rMa10 (H : MS u m) {k : Nat} (hk : k < 8) {P : Int32 → g_H → Prop} : gW (gAI (m + 11) 0 (iN k)) (iv, u) P ↔ P (iv (m + 11) k) (iv, u) := gW_AI (H.2 10 (by decide)).2 rfl hk (show 8 < 2147483648 by decide)
theorem rMs10 (H : MS u m) {k : Nat} (hk : k < 8) {x : Int32} {P : Unit → g_H → Prop} : gW (gSI (m + 11) 0 (iN k) x) (iv, u) P ↔ P () (g_u2 iv (m + 11) k x, u) := gW_SI (H.2 10 (by decide)).2 rfl hk (show 8 < 2147483648 by decide)
theorem rMr11 (H : MS u m) {P : Nat → g_H → Prop} : gW (gFR m 7 33) (iv, u) P ↔ P (m + 12) (iv, u) := gW_FR H.1 (H.2 11 (by decide)).1
theorem rMa11 (H : MS u m) {k : Nat} (hk : k < 61) {P : Int32 → g_H → Prop} : gW (gAI (m + 12) 0 (iN k)) (iv, u) P ↔ P (iv (m + 12) k) (iv, u) := gW_AI (H.2 11 (by decide)).2 rfl hk (show 61 < 2147483648 by decide)
theorem rMs11 (H : MS u m) {k : Nat} (hk : k < 61) {x : Int32} {P : Unit → g_H → Prop} : gW (gSI (m + 12) 0 (iN k) x) (iv, u) P ↔ P () (g_u2 iv (m + 12) k x, u) := gW_SI (H.2 11 (by decide)).2 rfl hk (show 61 < 2147483648 by decide)
theorem rMr12 (H : MS u m) {P : Nat → g_H → Prop} : gW (gFR m 7 34) (iv, u) P ↔ P (m + 13) (iv, u) := gW_FR H.1 (H.2 12 (by decide)).1
theorem rMa12 (H : MS u m) {k : Nat} (hk : k < 61) {P : Int32 → g_H → Prop} : gW (gAI (m + 13) 0 (iN k)) (iv, u) P ↔ P (iv (m + 13) k) (iv, u) := gW_AI (H.2 12 (by decide)).2 rfl hk (show 61 < 2147483648 by decide)
theorem rMs12 (H : MS u m) {k : Nat} (hk : k < 61) {x : Int32} {P : Unit → g_H → Prop} : gW (gSI (m + 13) 0 (iN k) x) (iv, u) P ↔ P () (g_u2 iv (m + 13) k x, u) := gW_SI (H.2 12 (by decide)).2 rfl hk (show 61 < 2147483648 by decide)
theorem rMr13 (H : MS u m) {P : Nat → g_H → Prop} : gW (gFR m 7 35) (iv, u) P ↔ P (m + 14) (iv, u) := gW_FR H.1 (H.2 13 (by decide)).1
theorem rMa13 (H : MS u m) {k : Nat} (hk : k < 10) {P : Int32 → g_H → Prop} : gW (gAI (m + 14) 0 (iN k)) (iv, u) P ↔ P (iv (m + 14) k) (iv, u) := gW_AI (H.2 13 (by decide)).2 rfl hk (show 10 < 2147483648 by decide)
theorem rMs13 (H : MS u m) {k : Nat} (hk : k < 10) {x : Int32} {P : Unit → g_H → Prop} : gW (gSI (m + 14) 0 (iN k) x) (iv, u) P ↔ P () (g_u2 iv (m + 14) k x, u) := gW_SI (H.2 13 (by decide)).2 rfl hk (show 10 < 2147483648 by decide)
theorem rMr14 (H : MS u m) {P : Nat → g_H → Prop} : gW (gFR m 7 37) (iv, u) P ↔ P (m + 15) (iv, u) := gW_FR H.1 (H.2 14 (by decide)).1
theorem rMa14 (H : MS u m) {k : Nat} (hk : k < 640) {P : Int32 → g_H → Prop} : gW (gAI (m + 15) 0 (iN k)) (iv, u) P ↔ P (iv (m + 15) k) (iv, u) := gW_AI (H.2 14 (by decide)).2 rfl hk (show 640 < 2147483648 by decide)
theorem rMs14 (H : MS u m) {k : Nat} (hk : k < 640) {x : Int32} {P : Unit → g_H → Prop} : gW (gSI (m + 15) 0 (iN k) x) (iv, u) P ↔ P () (g_u2 iv (m + 15) k x, u) := gW_SI (H.2 14 (by decide)).2 rfl hk (show 640 < 2147483648 by decide)
theorem rMA0_0 (H : MS u m) {P : Int32 → g_H → Prop} : gW (gAI (m + 1) 0 (0 : Int32)) (iv, u) P ↔ P (iv (m + 1) 0) (iv, u) := rMa0 H (by decide)
theorem rMS0_0 (H : MS u m) {x : Int32} {P : Unit → g_H → Prop} : gW (gSI (m + 1) 0 (0 : Int32) x) (iv, u) P ↔ P () (g_u2 iv (m + 1) 0 x, u) := rMs0 H (by decide)
theorem rMA0_1 (H : MS u m) {P : Int32 → g_H → Prop} : gW (gAI (m + 1) 0 (1 : Int32)) (iv, u) P ↔ P (iv (m + 1) 1) (iv, u) := rMa0 H (by decide)
theorem rMS0_1 (H : MS u m) {x : Int32} {P : Unit → g_H → Prop} : gW (gSI (m + 1) 0 (1 : Int32) x) (iv, u) P ↔ P () (g_u2 iv (m + 1) 1 x, u) := rMs0 H (by decide)
theorem rMA0_2 (H : MS u m) {P : Int32 → g_H → Prop} : gW (gAI (m + 1) 0 (2 : Int32)) (iv, u) P ↔ P (iv (m + 1) 2) (iv, u) := rMa0 H (by decide)
theorem rMS0_2 (H : MS u m) {x : Int32} {P : Unit → g_H → Prop} : gW (gSI (m + 1) 0 (2 : Int32) x) (iv, u) P ↔ P () (g_u2 iv (m + 1) 2 x, u) := rMs0 H (by decide)
theorem rMA0_3 (H : MS u m) {P : Int32 → g_H → Prop} : gW (gAI (m + 1) 0 (3 : Int32)) (iv, u) P ↔ P (iv (m + 1) 3) (iv, u) := rMa0 H (by decide)
theorem rMS0_3 (H : MS u m) {x : Int32} {P : Unit → g_H → Prop} : gW (gSI (m + 1) 0 (3 : Int32) x) (iv, u) P ↔ P () (g_u2 iv (m + 1) 3 x, u) := rMs0 H (by decide)
theorem rMA0_4 (H : MS u m) {P : Int32 → g_H → Prop} : gW (gAI (m + 1) 0 (4 : Int32)) (iv, u) P ↔ P (iv (m + 1) 4) (iv, u) := rMa0 H (by decide)
theorem rMS0_4 (H : MS u m) {x : Int32} {P : Unit → g_H → Prop} : gW (gSI (m + 1) 0 (4 : Int32) x) (iv, u) P ↔ P () (g_u2 iv (m + 1) 4 x, u) := rMs0 H (by decide)
theorem rMA0_5 (H : MS u m) {P : Int32 → g_H → Prop} : gW (gAI (m + 1) 0 (5 : Int32)) (iv, u) P ↔ P (iv (m + 1) 5) (iv, u) := rMa0 H (by decide)
theorem rMS0_5 (H : MS u m) {x : Int32} {P : Unit → g_H → Prop} : gW (gSI (m + 1) 0 (5 : Int32) x) (iv, u) P ↔ P () (g_u2 iv (m + 1) 5 x, u) := rMs0 H (by decide)
theorem rMA0_6 (H : MS u m) {P : Int32 → g_H → Prop} : gW (gAI (m + 1) 0 (6 : Int32)) (iv, u) P ↔ P (iv (m + 1) 6) (iv, u) := rMa0 H (by decide)
theorem rMS0_6 (H : MS u m) {x : Int32} {P : Unit → g_H → Prop} : gW (gSI (m + 1) 0 (6 : Int32) x) (iv, u) P ↔ P () (g_u2 iv (m + 1) 6 x, u) := rMs0 H (by decide)
theorem rMA0_7 (H : MS u m) {P : Int32 → g_H → Prop} : gW (gAI (m + 1) 0 (7 : Int32)) (iv, u) P ↔ P (iv (m + 1) 7) (iv, u) := rMa0 H (by decide)
theorem rMS0_7 (H : MS u m) {x : Int32} {P : Unit → g_H → Prop} : gW (gSI (m + 1) 0 (7 : Int32) x) (iv, u) P ↔ P () (g_u2 iv (m + 1) 7 x, u) := rMs0 H (by decide)
theorem rMA0_8 (H : MS u m) {P : Int32 → g_H → Prop} : gW (gAI (m + 1) 0 (8 : Int32)) (iv, u) P ↔ P (iv (m + 1) 8) (iv, u) := rMa0 H (by decide)
theorem rMS0_8 (H : MS u m) {x : Int32} {P : Unit → g_H → Prop} : gW (gSI (m + 1) 0 (8 : Int32) x) (iv, u) P ↔ P () (g_u2 iv (m + 1) 8 x, u) := rMs0 H (by decide)
theorem rMA0_65 (H : MS u m) {P : Int32 → g_H → Prop} : gW (gAI (m + 1) 0 (65 : Int32)) (iv, u) P ↔ P (iv (m + 1) 65) (iv, u) := rMa0 H (by decide)
theorem rMS0_65 (H : MS u m) {x : Int32} {P : Unit → g_H → Prop} : gW (gSI (m + 1) 0 (65 : Int32) x) (iv, u) P ↔ P () (g_u2 iv (m + 1) 65 x, u) := rMs0 H (by decide)
theorem rMA0_66 (H : MS u m) {P : Int32 → g_H → Prop} : gW (gAI (m + 1) 0 (66 : Int32)) (iv, u) P ↔ P (iv (m + 1) 66) (iv, u) := rMa0 H (by decide)
theorem rMS0_66 (H : MS u m) {x : Int32} {P : Unit → g_H → Prop} : gW (gSI (m + 1) 0 (66 : Int32) x) (iv, u) P ↔ P () (g_u2 iv (m + 1) 66 x, u) := rMs0 H (by decide)
theorem rMA0_67 (H : MS u m) {P : Int32 → g_H → Prop} : gW (gAI (m + 1) 0 (67 : Int32)) (iv, u) P ↔ P (iv (m + 1) 67) (iv, u) := rMa0 H (by decide)
theorem rMS0_67 (H : MS u m) {x : Int32} {P : Unit → g_H → Prop} : gW (gSI (m + 1) 0 (67 : Int32) x) (iv, u) P ↔ P () (g_u2 iv (m + 1) 67 x, u) := rMs0 H (by decide)
theorem rMA0_68 (H : MS u m) {P : Int32 → g_H → Prop} : gW (gAI (m + 1) 0 (68 : Int32)) (iv, u) P ↔ P (iv (m + 1) 68) (iv, u) := rMa0 H (by decide)
theorem rMS0_68 (H : MS u m) {x : Int32} {P : Unit → g_H → Prop} : gW (gSI (m + 1) 0 (68 : Int32) x) (iv, u) P ↔ P () (g_u2 iv (m + 1) 68 x, u) := rMs0 H (by decide)
theorem rMA0_305 (H : MS u m) {P : Int32 → g_H → Prop} : gW (gAI (m + 1) 0 (305 : Int32)) (iv, u) P ↔ P (iv (m + 1) 305) (iv, u) := rMa0 H (by decide)
theorem rMS0_305 (H : MS u m) {x : Int32} {P : Unit → g_H → Prop} : gW (gSI (m + 1) 0 (305 : Int32) x) (iv, u) P ↔ P () (g_u2 iv (m + 1) 305 x, u) := rMs0 H (by decide)
theorem rMA0_1154 (H : MS u m) {P : Int32 → g_H → Prop} : gW (gAI (m + 1) 0 (1154 : Int32)) (iv, u) P ↔ P (iv (m + 1) 1154) (iv, u) := rMa0 H (by decide)
theorem rMS0_1154 (H : MS u m) {x : Int32} {P : Unit → g_H → Prop} : gW (gSI (m + 1) 0 (1154 : Int32) x) (iv, u) P ↔ P () (g_u2 iv (m + 1) 1154 x, u) := rMs0 H (by decide)
theorem rMA7_0 (H : MS u m) {P : Int32 → g_H → Prop} : gW (gAI (m + 8) 0 (0 : Int32)) (iv, u) P ↔ P (iv (m + 8) 0) (iv, u) := rMa7 H (by decide)
theorem rMS6_0 (H : MS u m) {x : Int32} {P : Unit → g_H → Prop} : gW (gSI (m + 7) 0 (0 : Int32) x) (iv, u) P ↔ P () (g_u2 iv (m + 7) 0 x, u) := rMs6 H (by decide)
theorem rMS6_1 (H : MS u m) {x : Int32} {P : Unit → g_H → Prop} : gW (gSI (m + 7) 0 (1 : Int32) x) (iv, u) P ↔ P () (g_u2 iv (m + 7) 1 x, u) := rMs6 H (by decide)
theorem rMS6_2 (H : MS u m) {x : Int32} {P : Unit → g_H → Prop} : gW (gSI (m + 7) 0 (2 : Int32) x) (iv, u) P ↔ P () (g_u2 iv (m + 7) 2 x, u) := rMs6 H (by decide)
theorem rMS6_3 (H : MS u m) {x : Int32} {P : Unit → g_H → Prop} : gW (gSI (m + 7) 0 (3 : Int32) x) (iv, u) P ↔ P () (g_u2 iv (m + 7) 3 x, u) := rMs6 H (by decide)
theorem rMS6_4 (H : MS u m) {x : Int32} {P : Unit → g_H → Prop} : gW (gSI (m + 7) 0 (4 : Int32) x) (iv, u) P ↔ P () (g_u2 iv (m + 7) 4 x, u) := rMs6 H (by decide)
end RM
/-! THE MODEL'S SMALL FUNCTIONS -/
section MF
variable {iv : gV} {u : gU} {m : Nat}
theorem w_props (H : MS u m) {P : Int32 → g_H → Prop} : gW (f_X8_props m) (iv, u) P ↔ P (iv (m + 1) 0) (iv, u) := by
  unfold f_X8_props
  simp (disch := omega) only [gW_B, gW_ret, gW_tr, gW_fa, rMi H, rMp H, rMc H, rMr0 H, rMr1 H, rMr2 H, rMr3 H, rMr4 H, rMr5 H, rMr6 H, rMr7 H, rMr8 H, rMr9 H, rMr10 H, rMr11 H, rMr12 H, rMr13 H, rMr14 H, rMa0 H, rMa1 H, rMa2 H, rMa3 H, rMa4 H, rMa5 H, rMa6 H, rMa7 H, rMa8 H, rMa9 H, rMa10 H, rMa11 H, rMa12 H, rMa13 H, rMa14 H, rMs0 H, rMs1 H, rMs2 H, rMs3 H, rMs4 H, rMs5 H, rMs6 H, rMs7 H, rMs8 H, rMs9 H, rMs10 H, rMs11 H, rMs12 H, rMs13 H, rMs14 H, rMA0_0 H, rMA0_1 H, rMA0_2 H, rMA0_3 H, rMA0_4 H, rMA0_5 H, rMA0_6 H, rMA0_7 H, rMA0_8 H, rMA0_65 H, rMA0_66 H, rMA0_67 H, rMA0_68 H, rMA0_305 H, rMA0_1154 H, rMS0_0 H, rMS0_1 H, rMS0_2 H, rMS0_3 H, rMS0_4 H, rMS0_5 H, rMS0_6 H, rMS0_7 H, rMS0_8 H, rMS0_65 H, rMS0_66 H, rMS0_67 H, rMS0_68 H, rMS0_305 H, rMS0_1154 H, rMA7_0 H, rMS6_0 H, rMS6_1 H, rMS6_2 H, rMS6_3 H, rMS6_4 H, iN_add, iN_mul, iN_sub, iN_m1, iNp1, iNp2, iNp3, iNp4, iNp5, iNp6, iNp8, iNp12, iNp16, iNp20, iNp305, iNl1, iNl6, iNl9, iNl12, iNl41, iNl65, iNl305, iNl306, iNl354, iNl1154, iNl1155, iNl1203, iNm2, iNm4, iNm6, iNm8, iNm10, iNm12, iNm60, iNm305, iNs1, iNs4, iNs8]
theorem w_propAt {h : g_H} {a b : Nat} {P : Int32 → g_H → Prop} : gW (f_X8_propAt (iN a) (iN b)) h P ↔ P (iN (9 + 4 * a + b)) h := by
  unfold f_X8_propAt
  simp (disch := omega) only [gW_ret, iN_add, iN_mul, iN_sub, iN_m1, iNp1, iNp2, iNp3, iNp4, iNp5, iNp6, iNp8, iNp12, iNp16, iNp20, iNp305, iNl1, iNl6, iNl9, iNl12, iNl41, iNl65, iNl305, iNl306, iNl354, iNl1154, iNl1155, iNl1203, iNm2, iNm4, iNm6, iNm8, iNm10, iNm12, iNm60, iNm305, iNs1, iNs4, iNs8]
theorem w_oneAt {h : g_H} {a b : Nat} {P : Int32 → g_H → Prop} : gW (f_X8_oneAt (iN a) (iN b)) h P ↔ P (iN (41 + 4 * a + b)) h := by
  unfold f_X8_oneAt
  simp (disch := omega) only [gW_ret, iN_add, iN_mul, iN_sub, iN_m1, iNp1, iNp2, iNp3, iNp4, iNp5, iNp6, iNp8, iNp12, iNp16, iNp20, iNp305, iNl1, iNl6, iNl9, iNl12, iNl41, iNl65, iNl305, iNl306, iNl354, iNl1154, iNl1155, iNl1203, iNm2, iNm4, iNm6, iNm8, iNm10, iNm12, iNm60, iNm305, iNs1, iNs4, iNs8]
theorem w_ofProp (H : MS u m) {a b : Nat} (ha : a < 8) (hb : b < 4) {P : Int32 → g_H → Prop} : gW (f_X8_ofProp m (iN a) (iN b)) (iv, u) P ↔ P (iv (m + 1) (9 + 4 * a + b)) (iv, u) := by
  unfold f_X8_ofProp
  simp (disch := omega) only [gW_B, gW_ret, gW_tr, gW_fa, rMi H, rMp H, rMc H, rMr0 H, rMr1 H, rMr2 H, rMr3 H, rMr4 H, rMr5 H, rMr6 H, rMr7 H, rMr8 H, rMr9 H, rMr10 H, rMr11 H, rMr12 H, rMr13 H, rMr14 H, rMa0 H, rMa1 H, rMa2 H, rMa3 H, rMa4 H, rMa5 H, rMa6 H, rMa7 H, rMa8 H, rMa9 H, rMa10 H, rMa11 H, rMa12 H, rMa13 H, rMa14 H, rMs0 H, rMs1 H, rMs2 H, rMs3 H, rMs4 H, rMs5 H, rMs6 H, rMs7 H, rMs8 H, rMs9 H, rMs10 H, rMs11 H, rMs12 H, rMs13 H, rMs14 H, rMA0_0 H, rMA0_1 H, rMA0_2 H, rMA0_3 H, rMA0_4 H, rMA0_5 H, rMA0_6 H, rMA0_7 H, rMA0_8 H, rMA0_65 H, rMA0_66 H, rMA0_67 H, rMA0_68 H, rMA0_305 H, rMA0_1154 H, rMS0_0 H, rMS0_1 H, rMS0_2 H, rMS0_3 H, rMS0_4 H, rMS0_5 H, rMS0_6 H, rMS0_7 H, rMS0_8 H, rMS0_65 H, rMS0_66 H, rMS0_67 H, rMS0_68 H, rMS0_305 H, rMS0_1154 H, rMA7_0 H, rMS6_0 H, rMS6_1 H, rMS6_2 H, rMS6_3 H, rMS6_4 H, iN_add, iN_mul, iN_sub, iN_m1, iNp1, iNp2, iNp3, iNp4, iNp5, iNp6, iNp8, iNp12, iNp16, iNp20, iNp305, iNl1, iNl6, iNl9, iNl12, iNl41, iNl65, iNl305, iNl306, iNl354, iNl1154, iNl1155, iNl1203, iNm2, iNm4, iNm6, iNm8, iNm10, iNm12, iNm60, iNm305, iNs1, iNs4, iNs8, w_propAt]
theorem w_of (H : MS u m) {a b : Nat} (ha : a < 6) (hb : b < 4) {P : Int32 → g_H → Prop} : gW (f_X8_of m (iN a) (iN b)) (iv, u) P ↔ P (iv (m + 1) (41 + 4 * a + b)) (iv, u) := by
  unfold f_X8_of
  simp (disch := omega) only [gW_B, gW_ret, gW_tr, gW_fa, rMi H, rMp H, rMc H, rMr0 H, rMr1 H, rMr2 H, rMr3 H, rMr4 H, rMr5 H, rMr6 H, rMr7 H, rMr8 H, rMr9 H, rMr10 H, rMr11 H, rMr12 H, rMr13 H, rMr14 H, rMa0 H, rMa1 H, rMa2 H, rMa3 H, rMa4 H, rMa5 H, rMa6 H, rMa7 H, rMa8 H, rMa9 H, rMa10 H, rMa11 H, rMa12 H, rMa13 H, rMa14 H, rMs0 H, rMs1 H, rMs2 H, rMs3 H, rMs4 H, rMs5 H, rMs6 H, rMs7 H, rMs8 H, rMs9 H, rMs10 H, rMs11 H, rMs12 H, rMs13 H, rMs14 H, rMA0_0 H, rMA0_1 H, rMA0_2 H, rMA0_3 H, rMA0_4 H, rMA0_5 H, rMA0_6 H, rMA0_7 H, rMA0_8 H, rMA0_65 H, rMA0_66 H, rMA0_67 H, rMA0_68 H, rMA0_305 H, rMA0_1154 H, rMS0_0 H, rMS0_1 H, rMS0_2 H, rMS0_3 H, rMS0_4 H, rMS0_5 H, rMS0_6 H, rMS0_7 H, rMS0_8 H, rMS0_65 H, rMS0_66 H, rMS0_67 H, rMS0_68 H, rMS0_305 H, rMS0_1154 H, rMA7_0 H, rMS6_0 H, rMS6_1 H, rMS6_2 H, rMS6_3 H, rMS6_4 H, iN_add, iN_mul, iN_sub, iN_m1, iNp1, iNp2, iNp3, iNp4, iNp5, iNp6, iNp8, iNp12, iNp16, iNp20, iNp305, iNl1, iNl6, iNl9, iNl12, iNl41, iNl65, iNl305, iNl306, iNl354, iNl1154, iNl1155, iNl1203, iNm2, iNm4, iNm6, iNm8, iNm10, iNm12, iNm60, iNm305, iNs1, iNs4, iNs8, w_oneAt]
theorem w_ofProp0 (H : MS u m) {a : Nat} (ha : a < 8) {P : Int32 → g_H → Prop} : gW (f_X8_ofProp m (iN a) (0 : Int32)) (iv, u) P ↔ P (iv (m + 1) (9 + 4 * a + 0)) (iv, u) := w_ofProp H ha (by decide)
theorem w_of0 (H : MS u m) {a : Nat} (ha : a < 6) {P : Int32 → g_H → Prop} : gW (f_X8_of m (iN a) (0 : Int32)) (iv, u) P ↔ P (iv (m + 1) (41 + 4 * a + 0)) (iv, u) := w_of H ha (by decide)
theorem w_ofProp1 (H : MS u m) {a : Nat} (ha : a < 8) {P : Int32 → g_H → Prop} : gW (f_X8_ofProp m (iN a) (1 : Int32)) (iv, u) P ↔ P (iv (m + 1) (9 + 4 * a + 1)) (iv, u) := w_ofProp H ha (by decide)
theorem w_of1 (H : MS u m) {a : Nat} (ha : a < 6) {P : Int32 → g_H → Prop} : gW (f_X8_of m (iN a) (1 : Int32)) (iv, u) P ↔ P (iv (m + 1) (41 + 4 * a + 1)) (iv, u) := w_of H ha (by decide)
theorem w_ofProp2 (H : MS u m) {a : Nat} (ha : a < 8) {P : Int32 → g_H → Prop} : gW (f_X8_ofProp m (iN a) (2 : Int32)) (iv, u) P ↔ P (iv (m + 1) (9 + 4 * a + 2)) (iv, u) := w_ofProp H ha (by decide)
theorem w_of2 (H : MS u m) {a : Nat} (ha : a < 6) {P : Int32 → g_H → Prop} : gW (f_X8_of m (iN a) (2 : Int32)) (iv, u) P ↔ P (iv (m + 1) (41 + 4 * a + 2)) (iv, u) := w_of H ha (by decide)
theorem w_ofProp3 (H : MS u m) {a : Nat} (ha : a < 8) {P : Int32 → g_H → Prop} : gW (f_X8_ofProp m (iN a) (3 : Int32)) (iv, u) P ↔ P (iv (m + 1) (9 + 4 * a + 3)) (iv, u) := w_ofProp H ha (by decide)
theorem w_of3 (H : MS u m) {a : Nat} (ha : a < 6) {P : Int32 → g_H → Prop} : gW (f_X8_of m (iN a) (3 : Int32)) (iv, u) P ↔ P (iv (m + 1) (41 + 4 * a + 3)) (iv, u) := w_of H ha (by decide)
theorem w_oneCount (H : MS u m) {P : Int32 → g_H → Prop} : gW (f_X8_oneCount m) (iv, u) P ↔ P (iv (m + 1) 1) (iv, u) := by
  unfold f_X8_oneCount
  simp (disch := omega) only [gW_B, gW_ret, gW_tr, gW_fa, rMi H, rMp H, rMc H, rMr0 H, rMr1 H, rMr2 H, rMr3 H, rMr4 H, rMr5 H, rMr6 H, rMr7 H, rMr8 H, rMr9 H, rMr10 H, rMr11 H, rMr12 H, rMr13 H, rMr14 H, rMa0 H, rMa1 H, rMa2 H, rMa3 H, rMa4 H, rMa5 H, rMa6 H, rMa7 H, rMa8 H, rMa9 H, rMa10 H, rMa11 H, rMa12 H, rMa13 H, rMa14 H, rMs0 H, rMs1 H, rMs2 H, rMs3 H, rMs4 H, rMs5 H, rMs6 H, rMs7 H, rMs8 H, rMs9 H, rMs10 H, rMs11 H, rMs12 H, rMs13 H, rMs14 H, rMA0_0 H, rMA0_1 H, rMA0_2 H, rMA0_3 H, rMA0_4 H, rMA0_5 H, rMA0_6 H, rMA0_7 H, rMA0_8 H, rMA0_65 H, rMA0_66 H, rMA0_67 H, rMA0_68 H, rMA0_305 H, rMA0_1154 H, rMS0_0 H, rMS0_1 H, rMS0_2 H, rMS0_3 H, rMS0_4 H, rMS0_5 H, rMS0_6 H, rMS0_7 H, rMS0_8 H, rMS0_65 H, rMS0_66 H, rMS0_67 H, rMS0_68 H, rMS0_305 H, rMS0_1154 H, rMA7_0 H, rMS6_0 H, rMS6_1 H, rMS6_2 H, rMS6_3 H, rMS6_4 H, iN_add, iN_mul, iN_sub, iN_m1, iNp1, iNp2, iNp3, iNp4, iNp5, iNp6, iNp8, iNp12, iNp16, iNp20, iNp305, iNl1, iNl6, iNl9, iNl12, iNl41, iNl65, iNl305, iNl306, iNl354, iNl1154, iNl1155, iNl1203, iNm2, iNm4, iNm6, iNm8, iNm10, iNm12, iNm60, iNm305, iNs1, iNs4, iNs8]
/-- the prop in a slot, by the props' slots -/
def sInF (W : Nat → Int32) (x : Int32) : Nat → Nat → Int32
  | 0, _ => -1
  | k + 1, p => if W (9 + 4 * p + 3) = x then iN p else sInF W x k (p + 1)
theorem w_propIn_2 (H : MS u m) {x : Int32} {P : Int32 → g_H → Prop} {pn : Nat} (hp : iv (m + 1) 0 = iN pn) (hpn : pn ≤ 8) : ∀ k p n : Nat, p + k = pn → k < n → (gW (f_X8_propIn_2 n m x (iN p)) (iv, u) P ↔ P (sInF (iv (m + 1)) x k p) (iv, u)) := by
  intro k
  induction k with
  | zero =>
    intro p n h1 h2
    obtain ⟨n, rfl⟩ : ∃ n', n = n' + 1 := ⟨n - 1, by omega⟩
    rw [f_X8_propIn_2]
    simp (disch := omega) only [gW_B, gW_ret, gW_tr, gW_fa, rMi H, rMp H, rMc H, rMr0 H, rMr1 H, rMr2 H, rMr3 H, rMr4 H, rMr5 H, rMr6 H, rMr7 H, rMr8 H, rMr9 H, rMr10 H, rMr11 H, rMr12 H, rMr13 H, rMr14 H, rMa0 H, rMa1 H, rMa2 H, rMa3 H, rMa4 H, rMa5 H, rMa6 H, rMa7 H, rMa8 H, rMa9 H, rMa10 H, rMa11 H, rMa12 H, rMa13 H, rMa14 H, rMs0 H, rMs1 H, rMs2 H, rMs3 H, rMs4 H, rMs5 H, rMs6 H, rMs7 H, rMs8 H, rMs9 H, rMs10 H, rMs11 H, rMs12 H, rMs13 H, rMs14 H, rMA0_0 H, rMA0_1 H, rMA0_2 H, rMA0_3 H, rMA0_4 H, rMA0_5 H, rMA0_6 H, rMA0_7 H, rMA0_8 H, rMA0_65 H, rMA0_66 H, rMA0_67 H, rMA0_68 H, rMA0_305 H, rMA0_1154 H, rMS0_0 H, rMS0_1 H, rMS0_2 H, rMS0_3 H, rMS0_4 H, rMS0_5 H, rMS0_6 H, rMS0_7 H, rMS0_8 H, rMS0_65 H, rMS0_66 H, rMS0_67 H, rMS0_68 H, rMS0_305 H, rMS0_1154 H, rMA7_0 H, rMS6_0 H, rMS6_1 H, rMS6_2 H, rMS6_3 H, rMS6_4 H, iN_add, iN_mul, iN_sub, iN_m1, iNp1, iNp2, iNp3, iNp4, iNp5, iNp6, iNp8, iNp12, iNp16, iNp20, iNp305, iNl1, iNl6, iNl9, iNl12, iNl41, iNl65, iNl305, iNl306, iNl354, iNl1154, iNl1155, iNl1203, iNm2, iNm4, iNm6, iNm8, iNm10, iNm12, iNm60, iNm305, iNs1, iNs4, iNs8, w_props H, hp, iN_le, gW_ift (show pn ≤ p by omega), f_X8_propIn_28]
    rfl
  | succ k ih =>
    intro p n h1 h2
    obtain ⟨n, rfl⟩ : ∃ n', n = n' + 1 := ⟨n - 1, by omega⟩
    rw [f_X8_propIn_2]
    have hc : ¬ iN pn ≤ iN p := by rw [iN_le (by omega) (by omega)]; omega
    simp (disch := omega) only [gW_B, gW_ret, gW_tr, gW_fa, rMi H, rMp H, rMc H, rMr0 H, rMr1 H, rMr2 H, rMr3 H, rMr4 H, rMr5 H, rMr6 H, rMr7 H, rMr8 H, rMr9 H, rMr10 H, rMr11 H, rMr12 H, rMr13 H, rMr14 H, rMa0 H, rMa1 H, rMa2 H, rMa3 H, rMa4 H, rMa5 H, rMa6 H, rMa7 H, rMa8 H, rMa9 H, rMa10 H, rMa11 H, rMa12 H, rMa13 H, rMa14 H, rMs0 H, rMs1 H, rMs2 H, rMs3 H, rMs4 H, rMs5 H, rMs6 H, rMs7 H, rMs8 H, rMs9 H, rMs10 H, rMs11 H, rMs12 H, rMs13 H, rMs14 H, rMA0_0 H, rMA0_1 H, rMA0_2 H, rMA0_3 H, rMA0_4 H, rMA0_5 H, rMA0_6 H, rMA0_7 H, rMA0_8 H, rMA0_65 H, rMA0_66 H, rMA0_67 H, rMA0_68 H, rMA0_305 H, rMA0_1154 H, rMS0_0 H, rMS0_1 H, rMS0_2 H, rMS0_3 H, rMS0_4 H, rMS0_5 H, rMS0_6 H, rMS0_7 H, rMS0_8 H, rMS0_65 H, rMS0_66 H, rMS0_67 H, rMS0_68 H, rMS0_305 H, rMS0_1154 H, rMA7_0 H, rMS6_0 H, rMS6_1 H, rMS6_2 H, rMS6_3 H, rMS6_4 H, iN_add, iN_mul, iN_sub, iN_m1, iNp1, iNp2, iNp3, iNp4, iNp5, iNp6, iNp8, iNp12, iNp16, iNp20, iNp305, iNl1, iNl6, iNl9, iNl12, iNl41, iNl65, iNl305, iNl306, iNl354, iNl1154, iNl1155, iNl1203, iNm2, iNm4, iNm6, iNm8, iNm10, iNm12, iNm60, iNm305, iNs1, iNs4, iNs8, w_props H, hp, gW_iff hc, w_ofProp0 H, w_ofProp1 H, w_ofProp2 H, w_ofProp3 H]
    rw [sInF]
    by_cases hx : iv (m + 1) (9 + 4 * p + 3) = x
    · rw [gW_ift hx, if_pos hx, f_X8_propIn_20, gW_ret]
    · rw [gW_iff hx, if_neg hx, ih (p + 1) n (by omega) (by omega)]
def sIn (W : Nat → Int32) (pn : Nat) (x : Int32) : Int32 := sInF W x pn 0
theorem w_propIn (H : MS u m) {x : Int32} {P : Int32 → g_H → Prop} {pn : Nat} (hp : iv (m + 1) 0 = iN pn) (hpn : pn ≤ 8) : gW (f_X8_propIn m x) (iv, u) P ↔ P (sIn (iv (m + 1)) pn x) (iv, u) := by
  unfold f_X8_propIn
  exact w_propIn_2 H hp hpn pn 0 gN (by omega) (by rw [gN_eq]; omega)
end MF
