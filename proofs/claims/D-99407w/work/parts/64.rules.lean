/-! RULES FOR THE CALLS: checks, what is thrown, who rides -/
section RU
variable {iv jv kv : gV} {u v : gU} {x : Nat} {V : Nat → Int32} {pn on : Nat} {L : gLw} {h : g_H}
theorem i_get {a : Int32} {n : Nat} (hn : n < 1000) (h0 : 0 ≤ a ∧ a ≤ iN n - 1) : ∃ o : Nat, o < n ∧ a = iN o := by
  have h1 := Int32.le_iff_toInt_le.mp h0.1
  have z : (0 : Int32).toInt = 0 := by decide
  rw [z] at h1
  by_cases hz : n = 0
  · subst hz
    have h2 := Int32.le_iff_toInt_le.mp h0.2
    have : (iN 0 - 1).toInt = -1 := by decide
    omega
  · have h2 := Int32.le_iff_toInt_le.mp h0.2
    rw [show (1 : Int32) = iN 1 from rfl, iN_sub (by omega), iN_t (by omega)] at h2
    refine ⟨a.toInt.toNat, by omega, ?_⟩
    apply Int32.toInt_inj.mp
    rw [iN_t (by omega)]
    omega
theorem i_put {o n : Nat} (hn : n < 1000) (ho : o < n) : 0 ≤ iN o ∧ iN o ≤ iN n - 1 := by
  rw [show (0 : Int32) = iN 0 from rfl, show (1 : Int32) = iN 1 from rfl, iN_sub (by omega), iN_le (by omega) (by omega), iN_le (by omega) (by omega)]
  omega
theorem i_get2 {a : Int32} {n : Nat} (hn : n < 1000) (h0 : 0 ≤ a ∧ a ≤ iN n) : ∃ o : Nat, o ≤ n ∧ a = iN o := by
  have h1 := Int32.le_iff_toInt_le.mp h0.1
  have z : (0 : Int32).toInt = 0 := by decide
  have h2 := Int32.le_iff_toInt_le.mp h0.2
  rw [iN_t (by omega)] at h2
  refine ⟨a.toInt.toNat, by omega, ?_⟩
  apply Int32.toInt_inj.mp
  rw [iN_t (by omega)]
  omega
theorem w_isIn {y l t : Int32} {P : Int32 → g_H → Prop} : gW (f_X1_isIn y l t) h P ↔ P (bI (l ≤ y ∧ y ≤ t)) h := by
  unfold f_X1_isIn f_X1_isIn_14 f_X1_isIn_15
  by_cases h1 : y < l
  · rw [gW_ift h1, bI_f (fun q => Int32.not_lt.mpr q.1 h1)]
    simp [gW_B, gW_gd, gW_ret]
  · rw [gW_iff h1]
    by_cases h2 : t < y
    · rw [gW_ift h2, bI_f (fun q => Int32.not_lt.mpr q.2 h2)]
      simp [gW_B, gW_gd, gW_ret]
    · rw [gW_iff h2, bI_t ⟨Int32.not_lt.mp h1, Int32.not_lt.mp h2⟩]
      simp [gW_B, gW_gd, gW_ret]
/-- behind a throw -/
def Th (iv : gV) (u : gU) (jv : gV) (v : gU) : Prop := Ux u.2.2.2.1 u v ∧ (∀ a : Nat, a < u.2.2.2.1 → jv a = iv a) ∧ v.2.2.2.1 = u.2.2.2.1 + 1 ∧ v.2.2.2.2 = u.2.2.2.2 + 6
theorem w_thr {α : Type} {ci : Nat} {P : α ⊕ gE → g_H → Prop} (hP : ∀ (a : Nat) (jv : gV) (v : gU), Th iv u jv v → P (.inr (ci, a)) (jv, v)) : gW (gB (gNew ci 6) fun a1 => gB (gCk a1 ci) fun _ => gRet (.inr (ci, a1))) (iv, u) P := by
  rw [gW_B, gW_new, gW_B]
  refine (gW_Ck (iv := (g_add (iv, u) (.inr ci) 6).1) (u := (g_add (iv, u) (.inr ci) 6).2) (va_up_self _ _ _)).mpr ?_
  rw [gW_ret]
  exact hP _ _ _ ⟨Ux.add, fun a ha => (g_addU (iv := iv) a (by omega)).2.2, rfl, rfl⟩
/-- after gB is gone -/
theorem w_thr' {α : Type} {ci : Nat} {P : α ⊕ gE → g_H → Prop} (hP : ∀ (a : Nat) (jv : gV) (v : gU), Th iv u jv v → P (.inr (ci, a)) (jv, v)) : gW (gNew ci 6) (iv, u) (fun a h1 => gW (gCk a ci) h1 (fun _ h2 => P (.inr (ci, a)) h2)) := by
  have := w_thr (P := P) hP
  simp only [gW_B, gW_ret] at this
  exact this
theorem w_must_t {y : Int32} (hc : y = 1) {P : Unit ⊕ gE → g_H → Prop} : gW (f_X1_must y) h P ↔ P (.inl ()) h := by
  unfold f_X1_must
  rw [gW_iff (by rw [hc]; decide), gW_ret]
theorem w_must_f {y : Int32} (hc : y = 0) {P : Unit ⊕ gE → g_H → Prop} (hP : ∀ (a : Nat) (jv : gV) (v : gU), Th iv u jv v → P (.inr (17, a)) (jv, v)) : gW (f_X1_must y) (iv, u) P := by
  unfold f_X1_must
  rw [gW_ift hc]
  exact w_thr hP
theorem w_mustBe_t {y : Int32} (hc : y = 1) {P : Unit ⊕ gE → g_H → Prop} : gW (f_X1_mustBe y) h P ↔ P (.inl ()) h := by
  unfold f_X1_mustBe
  rw [gW_iff (by rw [hc]; decide), gW_ret]
theorem w_mustBe_f {y : Int32} (hc : y = 0) {P : Unit ⊕ gE → g_H → Prop} (hP : ∀ (a : Nat) (jv : gV) (v : gU), Th iv u jv v → P (.inr (19, a)) (jv, v)) : gW (f_X1_mustBe y) (iv, u) P := by
  unfold f_X1_mustBe
  rw [gW_ift hc]
  exact w_thr hP
theorem w_can_t {y : Int32} (hc : y = 1) {P : Unit ⊕ gE → g_H → Prop} : gW (f_X1_can y) h P ↔ P (.inl ()) h := by
  unfold f_X1_can
  rw [gW_iff (by rw [hc]; decide), gW_ret]
theorem w_can_f {y : Int32} (hc : y = 0) {P : Unit ⊕ gE → g_H → Prop} (hP : ∀ (a : Nat) (jv : gV) (v : gU), Th iv u jv v → P (.inr (13, a)) (jv, v)) : gW (f_X1_can y) (iv, u) P := by
  unfold f_X1_can
  rw [gW_ift hc]
  exact w_thr hP
theorem w_thereIs_t {y : Int32} (hc : y = 1) {P : Unit ⊕ gE → g_H → Prop} : gW (f_X1_thereIs y) h P ↔ P (.inl ()) h := by
  unfold f_X1_thereIs
  rw [gW_iff (by rw [hc]; decide), gW_ret]
theorem w_thereIs_f {y : Int32} (hc : y = 0) {P : Unit ⊕ gE → g_H → Prop} (hP : ∀ (a : Nat) (jv : gV) (v : gU), Th iv u jv v → P (.inr (20, a)) (jv, v)) : gW (f_X1_thereIs y) (iv, u) P := by
  unfold f_X1_thereIs
  rw [gW_ift hc]
  exact w_thr hP
theorem w_mayBe_t {y : Int32} (hc : y = 1) {P : Unit ⊕ gE → g_H → Prop} : gW (f_X1_mayBe y) h P ↔ P (.inl ()) h := by
  unfold f_X1_mayBe
  rw [gW_iff (by rw [hc]; decide), gW_ret]
theorem w_mayBe_f {y : Int32} (hc : y = 0) {P : Unit ⊕ gE → g_H → Prop} (hP : ∀ (a : Nat) (jv : gV) (v : gU), Th iv u jv v → P (.inr (18, a)) (jv, v)) : gW (f_X1_mayBe y) (iv, u) P := by
  unfold f_X1_mayBe
  rw [gW_ift hc]
  exact w_thr hP
/-- is it a slot -/
def okS (a : Int32) : Prop := 0 ≤ a ∧ a ≤ iN 10 - 1
theorem w_isSlot_t {a : Int32} (ha : okS a) {P : Unit ⊕ gE → g_H → Prop} : gW (f_X1_isSlot a) h P ↔ P (.inl ()) h := by
  unfold f_X1_isSlot
  rw [gW_B, w_isIn, gW_T, w_mustBe_t (bI_t (show 0 ≤ a ∧ a ≤ 9 from ha)), gW_ret]
theorem w_isSlot_f {a : Int32} (ha : ¬ okS a) {P : Unit ⊕ gE → g_H → Prop} (hP : ∀ (a : Nat) (jv : gV) (v : gU), Th iv u jv v → P (.inr (19, a)) (jv, v)) : gW (f_X1_isSlot a) (iv, u) P := by
  unfold f_X1_isSlot
  rw [gW_B, w_isIn, gW_T]
  exact w_mustBe_f (bI_f (show ¬ (0 ≤ a ∧ a ≤ 9) from ha)) hP
theorem w_oneAt_t (hC : CI x iv u V pn on L) {o : Nat} (ho : o < on) {P : Nat ⊕ gE → g_H → Prop} : gW (f_X1_oneAt x (iN o)) (iv, u) P ↔ P (.inl (x + 28 + 15 + o)) (iv, u) := by
  have H := hC.X
  have := hC.o6
  unfold f_X1_oneAt
  simp (disch := omega) only [gW_B, gW_ret, gW_tr, gW_fa, iN_add, iN_mul, iN_sub, iN_m1, iNp1, iNp2, iNp3, iNp4, iNp5, iNp6, iNp8, iNp12, iNp16, iNp20, iNp305, iNl1, iNl6, iNl9, iNl12, iNl41, iNl65, iNl305, iNl306, iNl354, iNl1154, iNl1155, iNl1203, iNm2, iNm4, iNm6, iNm8, iNm10, iNm12, iNm60, iNm305, iNs1, iNs4, iNs8, rXi H, rXp H, rXc H, rXsi H, rXsp H, rXr0 H, rXr1 H, rXr2 H, rXr3 H, rXr4 H, rXr5 H, rXr6 H, rXr7 H, rXr8 H, rXr9 H, rXr10 H, rXa97 H, rXa98 H, rXa99 H, rXa100 H, rXs97 H, rXs98 H, rXs99 H, rXs100 H, rSi (H.nw), rSp (H.nw), rSc (H.nw), rSP (H.nw), rSO (H.nw), rSPi (H.nw), rSPp (H.nw), rSPc (H.nw), rSOi (H.nw), rSOp (H.nw), rSOc (H.nw), rSr0 (H.nw), rSr1 (H.nw), rSr2 (H.nw), rSr3 (H.nw), rSr4 (H.nw), rSr5 (H.nw), rSa3 (H.nw), rSa4 (H.nw), rSa5 (H.nw), rSs3 (H.nw), rSs4 (H.nw), rSs5 (H.nw), rSf0 (H.nw), rSf1 (H.nw), rSf2 (H.nw), rSf3 (H.nw), rSf4 (H.nw), rSf5 (H.nw), rSf6 (H.nw), rSf7 (H.nw), hC.oN, w_isIn, gW_T]
  rw [w_mustBe_t (bI_t (by have := i_put (show on < 1000 by omega) ho; rw [show (1 : Int32) = iN 1 from rfl, iN_sub (by omega)] at this; exact this))]
  simp (disch := omega) only [gW_B, gW_ret, gW_tr, gW_fa, iN_add, iN_mul, iN_sub, iN_m1, iNp1, iNp2, iNp3, iNp4, iNp5, iNp6, iNp8, iNp12, iNp16, iNp20, iNp305, iNl1, iNl6, iNl9, iNl12, iNl41, iNl65, iNl305, iNl306, iNl354, iNl1154, iNl1155, iNl1203, iNm2, iNm4, iNm6, iNm8, iNm10, iNm12, iNm60, iNm305, iNs1, iNs4, iNs8, rXi H, rXp H, rXc H, rXsi H, rXsp H, rXr0 H, rXr1 H, rXr2 H, rXr3 H, rXr4 H, rXr5 H, rXr6 H, rXr7 H, rXr8 H, rXr9 H, rXr10 H, rXa97 H, rXa98 H, rXa99 H, rXa100 H, rXs97 H, rXs98 H, rXs99 H, rXs100 H, rSi (H.nw), rSp (H.nw), rSc (H.nw), rSP (H.nw), rSO (H.nw), rSPi (H.nw), rSPp (H.nw), rSPc (H.nw), rSOi (H.nw), rSOp (H.nw), rSOc (H.nw), rSr0 (H.nw), rSr1 (H.nw), rSr2 (H.nw), rSr3 (H.nw), rSr4 (H.nw), rSr5 (H.nw), rSa3 (H.nw), rSa4 (H.nw), rSa5 (H.nw), rSs3 (H.nw), rSs4 (H.nw), rSs5 (H.nw), rSf0 (H.nw), rSf1 (H.nw), rSf2 (H.nw), rSf3 (H.nw), rSf4 (H.nw), rSf5 (H.nw), rSf6 (H.nw), rSf7 (H.nw)]
theorem w_oneAt_f (hC : CI x iv u V pn on L) {a : Int32} (ha : ¬ (0 ≤ a ∧ a ≤ iN on - 1)) {P : Nat ⊕ gE → g_H → Prop} (hP : ∀ (a : Nat) (jv : gV) (v : gU), Th iv u jv v → P (.inr (19, a)) (jv, v)) : gW (f_X1_oneAt x a) (iv, u) P := by
  have H := hC.X
  unfold f_X1_oneAt
  simp (disch := omega) only [gW_B, gW_ret, gW_tr, gW_fa, iN_add, iN_mul, iN_sub, iN_m1, iNp1, iNp2, iNp3, iNp4, iNp5, iNp6, iNp8, iNp12, iNp16, iNp20, iNp305, iNl1, iNl6, iNl9, iNl12, iNl41, iNl65, iNl305, iNl306, iNl354, iNl1154, iNl1155, iNl1203, iNm2, iNm4, iNm6, iNm8, iNm10, iNm12, iNm60, iNm305, iNs1, iNs4, iNs8, rXi H, rXp H, rXc H, rXsi H, rXsp H, rXr0 H, rXr1 H, rXr2 H, rXr3 H, rXr4 H, rXr5 H, rXr6 H, rXr7 H, rXr8 H, rXr9 H, rXr10 H, rXa97 H, rXa98 H, rXa99 H, rXa100 H, rXs97 H, rXs98 H, rXs99 H, rXs100 H, rSi (H.nw), rSp (H.nw), rSc (H.nw), rSP (H.nw), rSO (H.nw), rSPi (H.nw), rSPp (H.nw), rSPc (H.nw), rSOi (H.nw), rSOp (H.nw), rSOc (H.nw), rSr0 (H.nw), rSr1 (H.nw), rSr2 (H.nw), rSr3 (H.nw), rSr4 (H.nw), rSr5 (H.nw), rSa3 (H.nw), rSa4 (H.nw), rSa5 (H.nw), rSs3 (H.nw), rSs4 (H.nw), rSs5 (H.nw), rSf0 (H.nw), rSf1 (H.nw), rSf2 (H.nw), rSf3 (H.nw), rSf4 (H.nw), rSf5 (H.nw), rSf6 (H.nw), rSf7 (H.nw), hC.oN, w_isIn, gW_T]
  exact w_mustBe_f (bI_f ha) hP
theorem w_propAt_t (hC : CI x iv u V pn on L) {o : Nat} (ho : o < pn) {P : Nat ⊕ gE → g_H → Prop} : gW (f_X1_propAt x (iN o)) (iv, u) P ↔ P (.inl (x + 28 + 7 + o)) (iv, u) := by
  have H := hC.X
  have := hC.p8
  unfold f_X1_propAt
  simp (disch := omega) only [gW_B, gW_ret, gW_tr, gW_fa, iN_add, iN_mul, iN_sub, iN_m1, iNp1, iNp2, iNp3, iNp4, iNp5, iNp6, iNp8, iNp12, iNp16, iNp20, iNp305, iNl1, iNl6, iNl9, iNl12, iNl41, iNl65, iNl305, iNl306, iNl354, iNl1154, iNl1155, iNl1203, iNm2, iNm4, iNm6, iNm8, iNm10, iNm12, iNm60, iNm305, iNs1, iNs4, iNs8, rXi H, rXp H, rXc H, rXsi H, rXsp H, rXr0 H, rXr1 H, rXr2 H, rXr3 H, rXr4 H, rXr5 H, rXr6 H, rXr7 H, rXr8 H, rXr9 H, rXr10 H, rXa97 H, rXa98 H, rXa99 H, rXa100 H, rXs97 H, rXs98 H, rXs99 H, rXs100 H, rSi (H.nw), rSp (H.nw), rSc (H.nw), rSP (H.nw), rSO (H.nw), rSPi (H.nw), rSPp (H.nw), rSPc (H.nw), rSOi (H.nw), rSOp (H.nw), rSOc (H.nw), rSr0 (H.nw), rSr1 (H.nw), rSr2 (H.nw), rSr3 (H.nw), rSr4 (H.nw), rSr5 (H.nw), rSa3 (H.nw), rSa4 (H.nw), rSa5 (H.nw), rSs3 (H.nw), rSs4 (H.nw), rSs5 (H.nw), rSf0 (H.nw), rSf1 (H.nw), rSf2 (H.nw), rSf3 (H.nw), rSf4 (H.nw), rSf5 (H.nw), rSf6 (H.nw), rSf7 (H.nw), hC.pN, w_isIn, gW_T]
  rw [w_mustBe_t (bI_t (by have := i_put (show pn < 1000 by omega) ho; rw [show (1 : Int32) = iN 1 from rfl, iN_sub (by omega)] at this; exact this))]
  simp (disch := omega) only [gW_B, gW_ret, gW_tr, gW_fa, iN_add, iN_mul, iN_sub, iN_m1, iNp1, iNp2, iNp3, iNp4, iNp5, iNp6, iNp8, iNp12, iNp16, iNp20, iNp305, iNl1, iNl6, iNl9, iNl12, iNl41, iNl65, iNl305, iNl306, iNl354, iNl1154, iNl1155, iNl1203, iNm2, iNm4, iNm6, iNm8, iNm10, iNm12, iNm60, iNm305, iNs1, iNs4, iNs8, rXi H, rXp H, rXc H, rXsi H, rXsp H, rXr0 H, rXr1 H, rXr2 H, rXr3 H, rXr4 H, rXr5 H, rXr6 H, rXr7 H, rXr8 H, rXr9 H, rXr10 H, rXa97 H, rXa98 H, rXa99 H, rXa100 H, rXs97 H, rXs98 H, rXs99 H, rXs100 H, rSi (H.nw), rSp (H.nw), rSc (H.nw), rSP (H.nw), rSO (H.nw), rSPi (H.nw), rSPp (H.nw), rSPc (H.nw), rSOi (H.nw), rSOp (H.nw), rSOc (H.nw), rSr0 (H.nw), rSr1 (H.nw), rSr2 (H.nw), rSr3 (H.nw), rSr4 (H.nw), rSr5 (H.nw), rSa3 (H.nw), rSa4 (H.nw), rSa5 (H.nw), rSs3 (H.nw), rSs4 (H.nw), rSs5 (H.nw), rSf0 (H.nw), rSf1 (H.nw), rSf2 (H.nw), rSf3 (H.nw), rSf4 (H.nw), rSf5 (H.nw), rSf6 (H.nw), rSf7 (H.nw)]
theorem w_propAt_f (hC : CI x iv u V pn on L) {a : Int32} (ha : ¬ (0 ≤ a ∧ a ≤ iN pn - 1)) {P : Nat ⊕ gE → g_H → Prop} (hP : ∀ (a : Nat) (jv : gV) (v : gU), Th iv u jv v → P (.inr (19, a)) (jv, v)) : gW (f_X1_propAt x a) (iv, u) P := by
  have H := hC.X
  unfold f_X1_propAt
  simp (disch := omega) only [gW_B, gW_ret, gW_tr, gW_fa, iN_add, iN_mul, iN_sub, iN_m1, iNp1, iNp2, iNp3, iNp4, iNp5, iNp6, iNp8, iNp12, iNp16, iNp20, iNp305, iNl1, iNl6, iNl9, iNl12, iNl41, iNl65, iNl305, iNl306, iNl354, iNl1154, iNl1155, iNl1203, iNm2, iNm4, iNm6, iNm8, iNm10, iNm12, iNm60, iNm305, iNs1, iNs4, iNs8, rXi H, rXp H, rXc H, rXsi H, rXsp H, rXr0 H, rXr1 H, rXr2 H, rXr3 H, rXr4 H, rXr5 H, rXr6 H, rXr7 H, rXr8 H, rXr9 H, rXr10 H, rXa97 H, rXa98 H, rXa99 H, rXa100 H, rXs97 H, rXs98 H, rXs99 H, rXs100 H, rSi (H.nw), rSp (H.nw), rSc (H.nw), rSP (H.nw), rSO (H.nw), rSPi (H.nw), rSPp (H.nw), rSPc (H.nw), rSOi (H.nw), rSOp (H.nw), rSOc (H.nw), rSr0 (H.nw), rSr1 (H.nw), rSr2 (H.nw), rSr3 (H.nw), rSr4 (H.nw), rSr5 (H.nw), rSa3 (H.nw), rSa4 (H.nw), rSa5 (H.nw), rSs3 (H.nw), rSs4 (H.nw), rSs5 (H.nw), rSf0 (H.nw), rSf1 (H.nw), rSf2 (H.nw), rSf3 (H.nw), rSf4 (H.nw), rSf5 (H.nw), rSf6 (H.nw), rSf7 (H.nw), hC.pN, w_isIn, gW_T]
  exact w_mustBe_f (bI_f ha) hP
/-! the model's checks -/
theorem m_noOne_t (hM : MI x iv u V pn on L) {o : Nat} (ho : o < on) {P : Int32 → g_H → Prop} : gW (f_X8_noOne (x + 353) (iN o)) (iv, u) P ↔ P 0 (iv, u) := by
  have := hM.o6
  rw [w_noOne hM.M, hM.oN, bI_f (fun q => q (i_put (by omega) ho))]
theorem m_noOne_f (hM : MI x iv u V pn on L) {a : Int32} (ha : ¬ (0 ≤ a ∧ a ≤ iN on - 1)) {P : Int32 → g_H → Prop} : gW (f_X8_noOne (x + 353) a) (iv, u) P ↔ P 1 (iv, u) := by
  rw [w_noOne hM.M, hM.oN, bI_t ha]
theorem m_noProp_t (hM : MI x iv u V pn on L) {o : Nat} (ho : o < pn) {P : Int32 → g_H → Prop} : gW (f_X8_noProp (x + 353) (iN o)) (iv, u) P ↔ P 0 (iv, u) := by
  have := hM.p8
  rw [w_noProp hM.M, hM.pN, bI_f (fun q => q (i_put (by omega) ho))]
theorem m_noProp_f (hM : MI x iv u V pn on L) {a : Int32} (ha : ¬ (0 ≤ a ∧ a ≤ iN pn - 1)) {P : Int32 → g_H → Prop} : gW (f_X8_noProp (x + 353) a) (iv, u) P ↔ P 1 (iv, u) := by
  rw [w_noProp hM.M, hM.pN, bI_t ha]
theorem m_noSlot_t {a : Int32} (ha : okS a) {P : Int32 → g_H → Prop} : gW (f_X8_noSlot a) h P ↔ P 0 h := by
  rw [w_noSlot, bI_f (fun q => q ha)]
theorem m_noSlot_f {a : Int32} (ha : ¬ okS a) {P : Int32 → g_H → Prop} : gW (f_X8_noSlot a) h P ↔ P 1 h := by
  rw [w_noSlot, bI_t (show ¬ (0 ≤ a ∧ a ≤ 9) from ha)]
theorem m_in_t {y l t : Int32} (hc : l ≤ y ∧ y ≤ t) {P : Int32 → g_H → Prop} : gW (f_X8_in y l t) h P ↔ P 1 h := by rw [w_in, bI_t hc]
theorem m_in_f {y l t : Int32} (hc : ¬ (l ≤ y ∧ y ≤ t)) {P : Int32 → g_H → Prop} : gW (f_X8_in y l t) h P ↔ P 0 h := by rw [w_in, bI_f hc]
theorem m_thr0 {m : Nat} {y : Int32} {P : Int32 → g_H → Prop} : gW (f_X8_throwsIf m 0 y) h P ↔ P 0 h := by
  unfold f_X8_throwsIf f_X8_throwsIf_9
  rw [gW_ift rfl]
  simp [gW_B, gW_gd, gW_ret]
theorem m_thr1 {m : Nat} (H : MS u m) {y : Int32} {P : Int32 → g_H → Prop} : gW (f_X8_throwsIf m 1 y) (iv, u) P ↔ P 1 (g_u2 iv m 0 y, u) := by
  unfold f_X8_throwsIf f_X8_throwsIf_9
  rw [gW_iff (by decide), gW_B, rMp H]
  simp [gW_B, gW_gd, gW_ret]
theorem gW_00 {α : Type} {i : Decidable ((0 : Int32) = 0)} {a b : gM α} {P : α → g_H → Prop} : gW (@gIf α ((0 : Int32) = 0) i a b) h P ↔ gW a h P := gW_ift rfl
theorem gW_10 {α : Type} {i : Decidable ((1 : Int32) = 0)} {a b : gM α} {P : α → g_H → Prop} : gW (@gIf α ((1 : Int32) = 0) i a b) h P ↔ gW b h P := gW_iff (fun q => absurd (congrArg Int32.toInt q) (by decide))
theorem cN1 : ((20 : Nat) = 19) = False := by decide
theorem cN2 : ((17 : Nat) = 19) = False := by decide
theorem cN3 : ((13 : Nat) = 19) = False := by decide
theorem cN4 : ((18 : Nat) = 17) = False := by decide
/-- jv is as iv but for what the model doesn't keep -/
def Sm (x : Nat) (iv jv : gV) : Prop := (∀ k : Nat, (k = 0 ∨ k = 6 ∨ k = 7 ∨ k = 9 ∨ k = 11 ∨ k = 14 ∨ k = 23 ∨ k = 24) → jv (x + 353) k = iv (x + 353) k) ∧ ∀ a : Nat, (a ≠ x + 353 ∧ a ≠ x + 356 ∧ a ≠ x + 357 ∧ (a < x + 360 ∨ x + 368 < a)) → jv a = iv a
theorem Sm.rf : Sm x iv iv := ⟨fun _ _ => rfl, fun _ _ => rfl⟩
theorem Sm.tr (h : Sm x iv jv) (g : Sm x jv kv) : Sm x iv kv := ⟨fun k a => (g.1 k a).trans (h.1 k a), fun a q => (g.2 a q).trans (h.2 a q)⟩
theorem Sm.a (h : Sm x iv jv) {a : Nat} (q : a ≠ x + 353 ∧ a ≠ x + 356 ∧ a ≠ x + 357 ∧ (a < x + 360 ∨ x + 368 < a)) : jv a = iv a := h.2 a q
theorem Sm.S (h : Sm x iv jv) : Sx x iv jv := ⟨fun k _ _ _ => by rw [h.a (by omega)], by rw [h.a (by omega)], fun k _ => by rw [h.a (by omega)], fun k hk => h.1 k (by omega), fun a ha => h.a (by omega)⟩
theorem Sm.up {a : Nat} {f : Nat → Int32} (q : a = x + 356 ∨ a = x + 357 ∨ (x + 360 ≤ a ∧ a ≤ x + 368)) : Sm x iv (va_up iv a f) := ⟨fun k _ => by rw [va_up_ne _ _ (by omega)], fun c hc => va_up_ne _ _ (by omega)⟩
theorem Sm.u2 {a k : Nat} {y : Int32} (q : a = x + 356 ∨ a = x + 357 ∨ (x + 360 ≤ a ∧ a ≤ x + 368)) : Sm x iv (g_u2 iv a k y) := ⟨fun k _ => by rw [g_u2_ne _ _ _ (by omega)], fun c hc => g_u2_ne _ _ _ (by omega)⟩
theorem Sm.um {k : Nat} {y : Int32} (q : k ≠ 0 ∧ k ≠ 6 ∧ k ≠ 7 ∧ k ≠ 9 ∧ k ≠ 11 ∧ k ≠ 14 ∧ k ≠ 23 ∧ k ≠ 24) : Sm x iv (g_u2 iv (x + 353) k y) := ⟨fun j hj => by rw [g_u2_self, va_up_ne _ _ (by omega)], fun c hc => g_u2_ne _ _ _ (by omega)⟩
/-- a call of the model begins: nothing is thrown -/
theorem m_z (hM : MI x iv u V pn on L) {α : Type} {k : Unit → gM α} {P : α → g_H → Prop} (hk : ∀ jv : gV, Sx x iv jv → jv (x + 353) 0 = 0 → (∀ a : Nat, a ≠ x + 353 → jv a = iv a) → MI x jv u V pn on L → gW (k ()) (jv, u) P) : gW (gB (gPI (x + 353) 7 0 (0 : Int32)) k) (iv, u) P := by
  have H := hM.M
  rw [gW_B, rMp H]
  exact hk _ (Sx.um (by omega)) (by rw [g_u2_self, va_up_self]) (fun a ha => g_u2_ne _ _ _ ha) (hM.fr (Sx.um (by omega)))
/-! how an op ends -/
/-- if nothing was thrown the answers are alike -/
def oE (k y c : Int32) : Prop := k = 0 → y = c
/-- both answer alike, and what is kept stays alike -/
def gOp (x z b n t : Nat) (f0 f8 : gM Int32) : Prop := ∀ (iv : gV) (u : gU), RR x z b n t iv u → gW f0 (iv, u) (fun k h1 => gW f8 h1 (fun c h2 => h2.1 (x + 353) 0 = k ∧ oE k (h2.1 (x + 369) 0) c ∧ RR x z b n (t + 1) h2.1 h2.2))
def gOpU (x z b n t : Nat) (f0 : gM Int32) (f8 : gM Unit) : Prop := ∀ (iv : gV) (u : gU), RR x z b n t iv u → gW f0 (iv, u) (fun k h1 => gW f8 h1 (fun _ h2 => h2.1 (x + 353) 0 = k ∧ RR x z b n (t + 1) h2.1 h2.2))
def gOp1 (x z b n t : Nat) (f0 f8 : gM Int32) : Prop := ∀ (iv : gV) (u : gU), RR x z b n t iv u → gW f0 (iv, u) (fun k h1 => gW f8 h1 (fun c h2 => k = c ∧ RR x z b n (t + 1) h2.1 h2.2))
variable {z b n t : Nat}
theorem RR.get (hR : RR x z b n t iv u) : ∃ (pn on rm : Nat) (L : gLw), CI x iv u (iv (x + 354)) pn on L ∧ MI x iv u (iv (x + 354)) pn on L ∧ cC x t iv u (x + 28) (iv (x + 354)) pn on rm L := by
  obtain ⟨hB, hT, hI, pn, on, rm, L, h1, h2, h3⟩ := hR
  exact ⟨pn, on, rm, L, ⟨hB.1, h1.1.toW h1.2.1, h1.2.1, h1.2.2.2.1, hB.2.2.2.2.2.1⟩, ⟨hB.2.1, rfl, h1.2.1, h2⟩, h1⟩
theorem RR.th (hR : RR x z b n t iv u) (hT : Th iv u jv v) : RR x z b n (t + 1) jv v := by
  obtain ⟨hB, hT', hI, pn, on, rm, L, h1, h2, h3⟩ := hR
  obtain ⟨hu, e, hn, hs⟩ := hT
  have hx := hB.2.2.2.2.2.1
  refine ⟨hB.fr hu (by omega) (fun a _ => e a (by omega)) (by omega) (by omega), ?_, hI.fr hx hu (by omega) (by rw [e _ (by omega)]) (by rw [e _ (by omega)]) (e _ (by omega)) (fun a _ _ => e a (by omega)) (fun a _ h => e a h), pn, on, rm, L, ?_, ?_, ?_⟩
  · unfold RT
    rw [e _ (show x < _ by omega), e (x + 1) (by omega), e (x + 2) (by omega), e (x + 353) (by omega), e (x + 359) (by omega), e (x + 96) (by omega)]
    exact hT'
  · rw [e (x + 354) (by omega)]
    exact h1.fr hu (by omega) (by omega) (e _ (by omega)) (fun a _ _ _ => e a (by omega)) (fun a _ h => e a h)
  · rw [e (x + 354) (by omega)]; exact h2
  · exact h3.fr hx hu (by omega) (by rw [e _ (by omega)]) (by rw [e _ (by omega)]) (by rw [e _ (by omega)]) (e _ (by omega)) (by rw [e _ (by omega)]) (fun a _ _ => e a (by omega)) (fun a _ h => e a h)
theorem RR.nx (hR : RR x z b n t iv u) : x + 370 ≤ u.2.2.2.1 := hR.1.2.2.2.2.2.1
theorem RR.out (hR : RR x z b n t iv u) : u.1 (x + 369) = some (.inl (2, 1)) := hR.1.2.2.1
theorem MI.th (hM : MI x iv u V pn on L) (hx : x + 370 ≤ u.2.2.2.1) (hT : Th iv u jv v) : MI x jv v V pn on L := ⟨hM.1.fr hT.1 (by omega), by rw [hT.2.1 _ (by omega)]; exact hM.2.1, hM.2.2⟩
/-- the answer is laid out -/
theorem w_out (hR : RR x z b n t iv u) {y : Int32} {P : Unit → g_H → Prop} : gW (gSI (x + 369) 2 (0 : Int32) y) (iv, u) P ↔ P () (g_u2 iv (x + 369) 0 y, u) := gW_SI hR.out (k := 0) rfl (by decide) (by decide)
/-- the shapes stay -/
def oU (h2 : g_H) (u : gU) : Prop := h2.2 = u
/-- an op that only reads ends well -/
theorem op_end (hR : RR x z b n t iv u) {y : Int32} {f8 : gM Int32} (hS : Sx x iv jv) (hP : ∀ kv : gV, Sx x iv kv → (∀ a : Nat, a ≠ x + 369 → kv a = jv a) → gW f8 (kv, u) (fun c h2 => c = y ∧ h2.1 (x + 353) 0 = 0 ∧ h2.1 (x + 369) = kv (x + 369) ∧ oU h2 u ∧ Sx x kv h2.1)) : gW (gSI (x + 369) 2 (0 : Int32) y) (jv, u) (fun _ h1 => gW f8 h1 (fun c h2 => h2.1 (x + 353) 0 = 0 ∧ oE 0 (h2.1 (x + 369) 0) c ∧ RR x z b n (t + 1) h2.1 h2.2)) := by
  have hR2 := hR.fr (Nat.le_refl _) hS
  rw [w_out hR2]
  have hS2 : Sx x iv (g_u2 jv (x + 369) 0 y) := hS.tr (Sx.u2 (by omega))
  refine gW_mono (hP _ hS2 (fun a ha => g_u2_ne _ _ _ ha)) (fun c h2 ⟨q1, q2, q3, q4, q5⟩ => ⟨q2, fun _ => by rw [q3, q1, g_u2_self, va_up_self], ?_⟩)
  rw [show h2.2 = u from q4]
  exact hR.fr (by omega) (hS2.tr q5)
/-- an op that throws, in both -/
theorem op_thr (hR : RR x z b n t iv u) (hT : Th iv u jv v) {y : Int32} (hy : y ≠ 0) {f8 : gM Int32} (hP : gW f8 (jv, v) (fun _ h2 => h2.1 (x + 353) 0 = y ∧ oU h2 v ∧ Sx x jv h2.1)) : gW f8 (jv, v) (fun c h2 => h2.1 (x + 353) 0 = y ∧ oE y (h2.1 (x + 369) 0) c ∧ RR x z b n (t + 1) h2.1 h2.2) := by
  refine gW_mono hP (fun c h2 ⟨q1, q2, q3⟩ => ⟨q1, fun h => (hy h).elim, ?_⟩)
  rw [show h2.2 = v from q2]
  exact (hR.th hT).fr (Nat.le_refl _) q3
/-- of its end in the model -/
theorem m_te (hz : Sx x iv jv) {y : Int32} : (g_u2 jv (x + 353) 0 y) (x + 353) 0 = y ∧ oU (g_u2 jv (x + 353) 0 y, v) v ∧ Sx x iv (g_u2 jv (x + 353) 0 y) := ⟨by rw [g_u2_self, va_up_self], rfl, hz.tr (Sx.um (by omega))⟩
theorem m_end {mv : gV} (z1 : Sx x kv jv) (z2 : jv (x + 353) 0 = 0) (z3 : ∀ a : Nat, a ≠ x + 353 → jv a = kv a) (m1 : Sm x jv mv) {c y : Int32} (hc : c = y) : c = y ∧ mv (x + 353) 0 = 0 ∧ mv (x + 369) = kv (x + 369) ∧ oU (mv, u) u ∧ Sx x kv mv := ⟨hc, by rw [m1.1 0 (by omega)]; exact z2, by rw [m1.a (by omega), z3 _ (by omega)], rfl, z1.tr m1.S⟩
end RU
