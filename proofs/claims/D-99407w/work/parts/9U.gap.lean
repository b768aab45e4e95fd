/-! OPS: gap, errors, bravest -/
section GP
variable {iv jv kv lv : gV} {u v : gU} {x z b n t : Nat} {V : Nat → Int32} {pn on : Nat} {L : gLw}
theorem op_end1 (hR : RR x z b n t iv u) {y : Int32} {f8 : gM Int32} (hS : Sx x iv jv) (hP : gW f8 (jv, u) (fun c h2 => y = c ∧ oU h2 u ∧ Sx x jv h2.1)) : gW f8 (jv, u) (fun c h2 => y = c ∧ RR x z b n (t + 1) h2.1 h2.2) := by
  refine gW_mono hP (fun c h2 ⟨q1, q2, q3⟩ => ⟨q1, ?_⟩)
  rw [show h2.2 = u from q2]
  exact hR.fr (by omega) (hS.tr q3)
noncomputable def gapF (V : Nat → Int32) (pn : Nat) (L : gLw) : Nat → Nat → Int32 → Int32
  | 0, _, s => s
  | k + 1, o, s => gapF V pn L k (o + 1) (if V (41 + 4 * o + 3) = 0 then s + (if V (41 + 4 * o + 0) = 0 then odO V pn L o else -odO V pn L o) else s)
noncomputable def gapS (V : Nat → Int32) (pn on : Nat) (L : gLw) : Int32 := gapF V pn L on 0 0
theorem c_gap_4 {P : Int32 → g_H → Prop} : ∀ (k o N : Nat) (s : Int32) (iv : gV), o + k = on → k < N → CI x iv u V pn on L → (∀ kv : gV, cQ x iv kv → CI x kv u V pn on L → P (gapF V pn L k o s) (kv, u)) → gW (f_X1_gap_4 N x s (iN o)) (iv, u) P := by
  intro k
  induction k with
  | zero =>
    intro o N s iv h1 h2 hC hP
    obtain ⟨N, rfl⟩ : ∃ N', N = N' + 1 := ⟨N - 1, by omega⟩
    have HX := hC.X
    have h6 := hC.o6
    unfold f_X1_gap_4 f_X1_gap_68
    rw [gW_B, rXr1 HX, gW_B, rSi HX.nw, hC.oN, gW_ift (by rw [iN_le (by omega) (by omega)]; omega), gW_ret]
    exact hP iv cQ.rf hC
  | succ k ih =>
    intro o N s iv h1 h2 hC hP
    obtain ⟨N, rfl⟩ : ∃ N', N = N' + 1 := ⟨N - 1, by omega⟩
    have HX := hC.X
    have h6 := hC.o6
    have ho : o < on := by omega
    have o3 := hC.o (f := 3) ho (by decide)
    have o0 := hC.o (f := 0) ho (by decide)
    unfold f_X1_gap_4 f_X1_gap_62 f_X1_gap_60 f_X1_gap_62
    rw [gW_B, rXr1 HX, gW_B, rSi HX.nw, hC.oN, gW_iff (by rw [iN_le (by omega) (by omega)]; omega), gW_B, rXr1 HX, gW_B, rSr1 HX.nw, gW_B, rSO HX.nw (by omega), gW_B, rSOi HX.nw (by omega), o3]
    rw [gapF] at hP
    by_cases c : V (41 + 4 * o + 3) = 0
    · rw [if_pos c] at hP
      rw [gW_ift c, gW_B, rXr1 HX, gW_B, rSr1 HX.nw, gW_B, rSO HX.nw (by omega), gW_B, rSOi HX.nw (by omega), o0]
      by_cases c2 : V (41 + 4 * o + 0) = 0
      · rw [if_pos c2] at hP
        rw [gW_ift c2, gW_B, rXc HX, gW_B]
        refine c_oddsOf hC ho (fun kv g1 g2 => ?_)
        rw [iNp1]
        exact ih (o + 1) N _ kv (by omega) (by omega) g2 (fun lv q1 q2 => hP lv (g1.tr q1) q2)
      · rw [if_neg c2] at hP
        rw [gW_iff c2, gW_B, rXc HX, gW_B]
        refine c_oddsOf hC ho (fun kv g1 g2 => ?_)
        rw [iNp1]
        exact ih (o + 1) N _ kv (by omega) (by omega) g2 (fun lv q1 q2 => hP lv (g1.tr q1) q2)
    · rw [if_neg c] at hP
      rw [gW_iff c, iNp1]
      exact ih (o + 1) N _ iv (by omega) (by omega) hC hP
theorem c_gap (hC : CI x iv u V pn on L) {P : Int32 → g_H → Prop} (hP : ∀ kv : gV, cQ x iv kv → CI x kv u V pn on L → P (gapS V pn on L) (kv, u)) : gW (f_X1_gap x) (iv, u) P := by
  unfold f_X1_gap
  have h6 := hC.o6
  show gW (f_X1_gap_4 gN x 0 (iN 0)) _ _
  exact c_gap_4 on 0 gN 0 iv (by omega) (by rw [gN_eq]; omega) hC hP
theorem m_gap_4 (hL : lS L) {P : Int32 → g_H → Prop} : ∀ (k o N : Nat) (s : Int32) (iv : gV), o + k = on → k < N → MI x iv u V pn on L → (∀ kv : gV, Sm x iv kv → MI x kv u V pn on L → P (gapF V pn L k o s) (kv, u)) → gW (f_X8_gapNow_4 N (x + 353) s (iN o)) (iv, u) P := by
  intro k
  induction k with
  | zero =>
    intro o N s iv h1 h2 hM hP
    obtain ⟨N, rfl⟩ : ∃ N', N = N' + 1 := ⟨N - 1, by omega⟩
    have H := hM.M
    have h6 := hM.o6
    unfold f_X8_gapNow_4 f_X8_gapNow_51
    rw [gW_B, rMc H, gW_B, w_oneCount H, hM.oN, gW_ift (by rw [iN_le (by omega) (by omega)]; omega), gW_ret]
    exact hP iv Sm.rf hM
  | succ k ih =>
    intro o N s iv h1 h2 hM hP
    obtain ⟨N, rfl⟩ : ∃ N', N = N' + 1 := ⟨N - 1, by omega⟩
    have H := hM.M
    have h6 := hM.o6
    have ho : o < on := by omega
    unfold f_X8_gapNow_4 f_X8_gapNow_45 f_X8_gapNow_43 f_X8_gapNow_45
    rw [gW_B, rMc H, gW_B, w_oneCount H, hM.oN, gW_iff (by rw [iN_le (by omega) (by omega)]; omega), gW_B, rMc H, gW_B, w_waits H (by omega), hM.vE]
    rw [gapF] at hP
    by_cases c : V (41 + 4 * o + 3) = 0
    · rw [if_pos c] at hP
      rw [bI_t c, gW_iff (by decide), gW_B, rMc H, gW_B, w_isInnocent H (by omega), hM.vE]
      by_cases c2 : V (41 + 4 * o + 0) = 0
      · rw [if_pos c2] at hP
        rw [bI_t c2, gW_iff (by decide), gW_B, rMc H, gW_B]
        refine m_oddsOf hM hL ho (fun kv g1 g2 => ?_)
        rw [iNp1]
        exact ih (o + 1) N _ kv (by omega) (by omega) g2 (fun lv q1 q2 => hP lv (g1.tr q1) q2)
      · rw [if_neg c2] at hP
        rw [bI_f c2, gW_ift rfl, gW_B, rMc H, gW_B]
        refine m_oddsOf hM hL ho (fun kv g1 g2 => ?_)
        rw [iNp1]
        exact ih (o + 1) N _ kv (by omega) (by omega) g2 (fun lv q1 q2 => hP lv (g1.tr q1) q2)
    · rw [if_neg c] at hP
      rw [bI_f c, gW_ift rfl, iNp1]
      exact ih (o + 1) N _ iv (by omega) (by omega) hM hP
theorem m_gap (hM : MI x iv u V pn on L) (hL : lS L) {P : Int32 → g_H → Prop} (hP : ∀ kv : gV, Sm x iv kv → MI x kv u V pn on L → P (gapS V pn on L) (kv, u)) : gW (f_X8_gapNow (x + 353)) (iv, u) P := by
  unfold f_X8_gapNow
  have h6 := hM.o6
  show gW (f_X8_gapNow_4 gN (x + 353) 0 (iN 0)) _ _
  exact m_gap_4 hL on 0 gN 0 iv (by omega) (by rw [gN_eq]; omega) hM hP
theorem o_gap : gOp1 x z b n t (f_X1_gap x) (f_X8_gap (x + 353)) := by
  intro iv u hR
  obtain ⟨pn, on, rm, L, hC, hM, h1⟩ := hR.get
  refine c_gap hC (fun kv g1 g2 => ?_)
  refine op_end1 hR g1.S ?_
  unfold f_X8_gap
  refine m_z (hM.fr g1.S) (fun lv z1 z2 z3 hM2 => ?_)
  have H := hM2.M
  rw [gW_B, rMc H, gW_B]
  refine m_gap hM2 hC.lS (fun mv m1 m2 => ?_)
  rw [gW_ret]
  exact ⟨rfl, rfl, z1.tr m1.S⟩
/-! errors -/
noncomputable def errF (V : Nat → Int32) (pn : Nat) (L : gLw) (a : Int32) : Nat → Nat → Int32 → Int32
  | 0, _, s => s
  | k + 1, o, s => errF V pn L a k (o + 1) (if V (41 + 4 * o + 3) = 0 ∧ bI (V (41 + 4 * o + 0) = 0) = a then s + (if (odO V pn L o < 5000 ↔ a = 1) then 1 else 0) else s)
theorem c_err_4 {a : Int32} (ha : a = 0 ∨ a = 1) {P : Int32 → g_H → Prop} : ∀ (k o N : Nat) (s : Int32) (iv : gV), o + k = on → k < N → CI x iv u V pn on L → (∀ kv : gV, cQ x iv kv → CI x kv u V pn on L → P (errF V pn L a k o s) (kv, u)) → gW (f_X1_errors_4 N x a s (iN o)) (iv, u) P := by
  intro k
  induction k with
  | zero =>
    intro o N s iv h1 h2 hC hP
    obtain ⟨N, rfl⟩ : ∃ N', N = N' + 1 := ⟨N - 1, by omega⟩
    have HX := hC.X
    have h6 := hC.o6
    unfold f_X1_errors_4 f_X1_errors_91
    rw [gW_B, rXr1 HX, gW_B, rSi HX.nw, hC.oN, gW_ift (by rw [iN_le (by omega) (by omega)]; omega), gW_ret]
    exact hP iv cQ.rf hC
  | succ k ih =>
    intro o N s iv h1 h2 hC hP
    obtain ⟨N, rfl⟩ : ∃ N', N = N' + 1 := ⟨N - 1, by omega⟩
    have HX := hC.X
    have h6 := hC.o6
    have ho : o < on := by omega
    have o3 := hC.o (f := 3) ho (by decide)
    have o0 := hC.o (f := 0) ho (by decide)
    rw [f_X1_errors_4, gW_B, rXr1 HX, gW_B, rSi HX.nw, hC.oN, gW_iff (by rw [iN_le (by omega) (by omega)]; omega), gW_B, rXr1 HX, gW_B, rSr1 HX.nw, gW_B, rSO HX.nw (by omega), gW_B, rSOi HX.nw (by omega), o3]
    rw [errF] at hP
    have key : ∀ y : Int32, y = bI (V (41 + 4 * o + 0) = 0) → V (41 + 4 * o + 3) = 0 → gW (f_X1_errors_50 (f_X1_errors_4 N) x a s (iN o) y) (iv, u) P := by
      intro y hy c
      unfold f_X1_errors_50 f_X1_errors_85
      by_cases e : y = a
      · rw [if_pos ⟨c, hy.symm.trans e⟩] at hP
        rw [gW_ift e, gW_B, rXc HX, gW_B]
        refine c_oddsOf hC ho (fun kv g1 g2 => ?_)
        unfold f_X1_errors_74 f_X1_errors_83 f_X1_errors_85
        have fin : ∀ w : Int32, w = (if (odO V pn L o < 5000 ↔ a = 1) then 1 else 0) → gW (f_X1_errors_4 N x a (s + w) (iN o + 1)) (kv, u) P := by
          intro w hw
          rw [hw, iNp1]
          exact ih (o + 1) N _ kv (by omega) (by omega) g2 (fun lv q1 q2 => hP lv (g1.tr q1) q2)
        by_cases c3 : odO V pn L o < 5000
        · rw [gW_ift c3]
          rcases ha with a0 | a1
          · rw [gW_ift a0.symm]
            exact fin 0 (by rw [if_neg (fun q => absurd (a0.symm.trans (q.mp c3)) (by decide))])
          · rw [gW_iff (by rw [a1]; decide)]
            exact fin 1 (by rw [if_pos ⟨fun _ => a1, fun _ => c3⟩])
        · rw [gW_iff c3]
          rcases ha with a0 | a1
          · rw [gW_iff (by rw [a0]; decide)]
            exact fin 1 (by rw [if_pos ⟨fun q => absurd q c3, fun q => absurd (a0.symm.trans q) (by decide)⟩])
          · rw [gW_ift a1.symm]
            exact fin 0 (by rw [if_neg (fun q => c3 (q.mpr a1))])
      · rw [if_neg (fun q => e (hy.trans q.2))] at hP
        rw [gW_iff e, iNp1]
        exact ih (o + 1) N _ iv (by omega) (by omega) hC hP
    by_cases c : V (41 + 4 * o + 3) = 0
    · rw [gW_ift c, gW_B, rXr1 HX, gW_B, rSr1 HX.nw, gW_B, rSO HX.nw (by omega), gW_B, rSOi HX.nw (by omega), o0]
      by_cases c2 : V (41 + 4 * o + 0) = 0
      · rw [gW_ift c2]
        exact key 1 (bI_t c2).symm c
      · rw [gW_iff c2]
        exact key 0 (bI_f c2).symm c
    · unfold f_X1_errors_85
      rw [if_neg (fun q => c q.1)] at hP
      rw [gW_iff c, iNp1]
      exact ih (o + 1) N _ iv (by omega) (by omega) hC hP
theorem m_err_9 (hL : lS L) {a : Int32} (ha : a = 0 ∨ a = 1) {P : Int32 → g_H → Prop} : ∀ (k o N : Nat) (s : Int32) (iv : gV), o + k = on → k < N → MI x iv u V pn on L → (∀ kv : gV, Sm x iv kv → MI x kv u V pn on L → P (errF V pn L a k o s) (kv, u)) → gW (f_X8_errors_9 N (x + 353) a s (iN o)) (iv, u) P := by
  intro k
  induction k with
  | zero =>
    intro o N s iv h1 h2 hM hP
    obtain ⟨N, rfl⟩ : ∃ N', N = N' + 1 := ⟨N - 1, by omega⟩
    have H := hM.M
    have h6 := hM.o6
    unfold f_X8_errors_9 f_X8_errors_68
    rw [gW_B, rMc H, gW_B, w_oneCount H, hM.oN, gW_ift (by rw [iN_le (by omega) (by omega)]; omega), gW_ret]
    exact hP iv Sm.rf hM
  | succ k ih =>
    intro o N s iv h1 h2 hM hP
    obtain ⟨N, rfl⟩ : ∃ N', N = N' + 1 := ⟨N - 1, by omega⟩
    have H := hM.M
    have h6 := hM.o6
    have ho : o < on := by omega
    rw [f_X8_errors_9, gW_B, rMc H, gW_B, w_oneCount H, hM.oN, gW_iff (by rw [iN_le (by omega) (by omega)]; omega), gW_B, rMc H, gW_B, w_waits H (by omega), hM.vE]
    unfold f_X8_errors_62
    rw [errF] at hP
    by_cases c : V (41 + 4 * o + 3) = 0
    · rw [bI_t c, gW_iff (by decide), gW_B, rMc H, gW_B, w_isInnocent H (by omega), hM.vE]
      by_cases e : bI (V (41 + 4 * o + 0) = 0) = a
      · rw [if_pos ⟨c, e⟩] at hP
        rw [gW_ift e, gW_B, rMc H, gW_B]
        refine m_oddsOf hM hL ho (fun kv g1 g2 => ?_)
        unfold f_X8_errors_51 f_X8_errors_60 f_X8_errors_62
        have fin : ∀ w : Int32, w = (if (odO V pn L o < 5000 ↔ a = 1) then 1 else 0) → gW (f_X8_errors_9 N (x + 353) a (s + w) (iN o + 1)) (kv, u) P := by
          intro w hw
          rw [hw, iNp1]
          exact ih (o + 1) N _ kv (by omega) (by omega) g2 (fun lv q1 q2 => hP lv (g1.tr q1) q2)
        by_cases c3 : odO V pn L o < 5000
        · rw [gW_iff (Int32.not_le.mpr c3)]
          rcases ha with a0 | a1
          · rw [gW_iff (by rw [a0]; decide)]
            exact fin 0 (by rw [if_neg (fun q => absurd (a0.symm.trans (q.mp c3)) (by decide))])
          · rw [gW_ift a1.symm]
            exact fin 1 (by rw [if_pos ⟨fun _ => a1, fun _ => c3⟩])
        · rw [gW_ift (Int32.not_lt.mp c3)]
          rcases ha with a0 | a1
          · rw [gW_ift a0.symm]
            exact fin 1 (by rw [if_pos ⟨fun q => absurd q c3, fun q => absurd (a0.symm.trans q) (by decide)⟩])
          · rw [gW_iff (by rw [a1]; decide)]
            exact fin 0 (by rw [if_neg (fun q => c3 (q.mpr a1))])
      · rw [if_neg (fun q => e q.2)] at hP
        rw [gW_iff e, iNp1]
        exact ih (o + 1) N _ iv (by omega) (by omega) hM hP
    · rw [if_neg (fun q => c q.1)] at hP
      rw [bI_f c, gW_ift rfl, iNp1]
      exact ih (o + 1) N _ iv (by omega) (by omega) hM hP
theorem o_errors {a : Int32} (ha : a = 0 ∨ a = 1) : gOp1 x z b n t (f_X1_errors x a) (f_X8_errors (x + 353) a) := by
  intro iv u hR
  obtain ⟨pn, on, rm, L, hC, hM, h1⟩ := hR.get
  have h6 := hC.o6
  unfold f_X1_errors
  show gW (f_X1_errors_4 gN x a 0 (iN 0)) _ _
  refine c_err_4 ha on 0 gN 0 iv (by omega) (by rw [gN_eq]; omega) hC (fun kv g1 g2 => ?_)
  refine op_end1 hR g1.S ?_
  unfold f_X8_errors
  refine m_z (hM.fr g1.S) (fun lv z1 z2 z3 hM2 => ?_)
  show gW (f_X8_errors_9 gN (x + 353) a 0 (iN 0)) _ _
  exact m_err_9 hC.lS ha on 0 gN 0 lv (by omega) (by rw [gN_eq]; omega) hM2 (fun mv m1 m2 => ⟨rfl, rfl, z1.tr m1.S⟩)
/-! bravest -/
noncomputable def braF (V : Nat → Int32) (pn : Nat) (L : gLw) : Nat → Nat → Int32 → Int32 → Int32
  | 0, _, f, _ => f
  | k + 1, o, f, l => if (if V (41 + 4 * o + 3) = 0 then odO V pn L o else 100000000) < l then braF V pn L k (o + 1) (iN o) (if V (41 + 4 * o + 3) = 0 then odO V pn L o else 100000000) else braF V pn L k (o + 1) f l
theorem c_bra_8 {P : Int32 → g_H → Prop} : ∀ (k o N : Nat) (f l : Int32) (iv : gV), o + k = on → k < N → CI x iv u V pn on L → (∀ kv : gV, cQ x iv kv → CI x kv u V pn on L → P (braF V pn L k o f l) (kv, u)) → gW (f_X1_bravest_8 N x f l (iN o)) (iv, u) P := by
  intro k
  induction k with
  | zero =>
    intro o N f l iv h1 h2 hC hP
    obtain ⟨N, rfl⟩ : ∃ N', N = N' + 1 := ⟨N - 1, by omega⟩
    have HX := hC.X
    have h6 := hC.o6
    unfold f_X1_bravest_8 f_X1_bravest_67
    rw [gW_B, rXr1 HX, gW_B, rSi HX.nw, hC.oN, gW_ift (by rw [iN_le (by omega) (by omega)]; omega), gW_ret]
    exact hP iv cQ.rf hC
  | succ k ih =>
    intro o N f l iv h1 h2 hC hP
    obtain ⟨N, rfl⟩ : ∃ N', N = N' + 1 := ⟨N - 1, by omega⟩
    have HX := hC.X
    have h6 := hC.o6
    have ho : o < on := by omega
    have o3 := hC.o (f := 3) ho (by decide)
    rw [f_X1_bravest_8, gW_B, rXr1 HX, gW_B, rSi HX.nw, hC.oN, gW_iff (by rw [iN_le (by omega) (by omega)]; omega), gW_B, rXr1 HX, gW_B, rSr1 HX.nw, gW_B, rSO HX.nw (by omega), gW_B, rSOi HX.nw (by omega), o3]
    rw [braF] at hP
    have key : ∀ (y : Int32) (jv : gV), y = (if V (41 + 4 * o + 3) = 0 then odO V pn L o else 100000000) → cQ x iv jv → CI x jv u V pn on L → gW (f_X1_bravest_45 (f_X1_bravest_8 N) x f l (iN o) y) (jv, u) P := by
      intro y jv hy g1 g2
      unfold f_X1_bravest_45 f_X1_bravest_61
      rw [← hy] at hP
      by_cases e : y < l
      · rw [if_pos e] at hP
        rw [gW_ift e, iNp1]
        exact ih (o + 1) N _ _ jv (by omega) (by omega) g2 (fun lv q1 q2 => hP lv (g1.tr q1) q2)
      · rw [if_neg e] at hP
        rw [gW_iff e, iNp1]
        exact ih (o + 1) N _ _ jv (by omega) (by omega) g2 (fun lv q1 q2 => hP lv (g1.tr q1) q2)
    by_cases c : V (41 + 4 * o + 3) = 0
    · rw [gW_ift c, gW_B, rXc HX, gW_B]
      exact c_oddsOf hC ho (fun kv g1 g2 => key _ kv (by rw [if_pos c]) g1 g2)
    · rw [gW_iff c]
      exact key _ iv (by rw [if_neg c]) cQ.rf hC
theorem m_bra_13 (hL : lS L) {P : Int32 → g_H → Prop} : ∀ (k o N : Nat) (f l : Int32) (iv : gV), o + k = on → k < N → MI x iv u V pn on L → (∀ kv : gV, Sm x iv kv → MI x kv u V pn on L → P (braF V pn L k o f l) (kv, u)) → gW (f_X8_bravest_13 N (x + 353) f l (iN o)) (iv, u) P := by
  intro k
  induction k with
  | zero =>
    intro o N f l iv h1 h2 hM hP
    obtain ⟨N, rfl⟩ : ∃ N', N = N' + 1 := ⟨N - 1, by omega⟩
    have H := hM.M
    have h6 := hM.o6
    unfold f_X8_bravest_13 f_X8_bravest_67
    rw [gW_B, rMc H, gW_B, w_oneCount H, hM.oN, gW_ift (by rw [iN_le (by omega) (by omega)]; omega), gW_ret]
    exact hP iv Sm.rf hM
  | succ k ih =>
    intro o N f l iv h1 h2 hM hP
    obtain ⟨N, rfl⟩ : ∃ N', N = N' + 1 := ⟨N - 1, by omega⟩
    have H := hM.M
    have h6 := hM.o6
    have ho : o < on := by omega
    rw [f_X8_bravest_13, gW_B, rMc H, gW_B, w_oneCount H, hM.oN, gW_iff (by rw [iN_le (by omega) (by omega)]; omega), gW_B, rMc H, gW_B, w_waits H (by omega), hM.vE]
    rw [braF] at hP
    have key : ∀ (y : Int32) (jv : gV), y = (if V (41 + 4 * o + 3) = 0 then odO V pn L o else 100000000) → Sm x iv jv → MI x jv u V pn on L → gW (f_X8_bravest_40 (f_X8_bravest_13 N) (x + 353) f l (iN o) y) (jv, u) P := by
      intro y jv hy g1 g2
      unfold f_X8_bravest_40 f_X8_bravest_53
      rw [← hy] at hP
      by_cases e : y < l
      · rw [if_pos e] at hP
        rw [gW_iff (Int32.not_le.mpr e), gW_B, w_min, show mN l y = y from if_pos e, iNp1]
        exact ih (o + 1) N _ _ jv (by omega) (by omega) g2 (fun lv q1 q2 => hP lv (g1.tr q1) q2)
      · rw [if_neg e] at hP
        rw [gW_ift (Int32.not_lt.mp e), gW_B, w_min, show mN l y = l from if_neg e, iNp1]
        exact ih (o + 1) N _ _ jv (by omega) (by omega) g2 (fun lv q1 q2 => hP lv (g1.tr q1) q2)
    by_cases c : V (41 + 4 * o + 3) = 0
    · rw [bI_t c, gW_iff (by decide), gW_B, rMc H, gW_B]
      exact m_oddsOf hM hL ho (fun kv g1 g2 => key _ kv (by rw [if_pos c]) g1 g2)
    · rw [bI_f c, gW_ift rfl]
      exact key _ iv (by rw [if_neg c]) Sm.rf hM
theorem o_bravest : gOp1 x z b n t (f_X1_bravest x) (f_X8_bravest (x + 353)) := by
  intro iv u hR
  obtain ⟨pn, on, rm, L, hC, hM, h1⟩ := hR.get
  have h6 := hC.o6
  unfold f_X1_bravest
  show gW (f_X1_bravest_8 gN x (-1) 100000000 (iN 0)) _ _
  refine c_bra_8 on 0 gN _ _ iv (by omega) (by rw [gN_eq]; omega) hC (fun kv g1 g2 => ?_)
  refine op_end1 hR g1.S ?_
  unfold f_X8_bravest
  refine m_z (hM.fr g1.S) (fun lv z1 z2 z3 hM2 => ?_)
  show gW (f_X8_bravest_13 gN (x + 353) (-1) 100000000 (iN 0)) _ _
  exact m_bra_13 hC.lS on 0 gN _ _ lv (by omega) (by rw [gN_eq]; omega) hM2 (fun mv m1 m2 => ⟨rfl, rfl, z1.tr m1.S⟩)
end GP
