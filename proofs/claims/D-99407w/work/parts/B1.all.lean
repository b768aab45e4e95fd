/-! OPS: all -/
section ALL
variable {iv jv kv lv : gV} {u v w : gU} {x z b n t : Nat} {V M : Nat → Int32} {pn on rm : Nat} {L : gLw}
/-- does one scream straight -/
def scO (V : Nat → Int32) (pn : Nat) (L : gLw) (o : Nat) : Bool := decide (¬ (rO V pn L o false false 0 0).2.1 = -1)
theorem scO_r {o : Nat} {r : gRz} (hr : rO V pn L o false false 0 0 = r) : scO V pn L o = decide (¬ r.2.1 = -1) := by unfold scO; rw [hr]
def snF (V : Nat → Int32) (pn : Nat) (L : gLw) : Nat → Nat → Int32 → Int32
  | 0, _, y => y
  | k + 1, o, y => snF V pn L k (o + 1) (if V (41 + 4 * o + 3) = 0 then y ||| (if scO V pn L o = true then (1 : Int32) <<< (iN o &&& 31) else 0) else y)
/-- an answer by whether one screamed -/
theorem scr_if {α : Type} {y : Int32} {A B : gM α} {h : g_H} {P : α → g_H → Prop} (hA : ¬ (decide (¬ y = -1) = true) → gW A h P) (hB : decide (¬ y = -1) = true → gW B h P) : gW (gIf (y = (-1 : Int32)) A B) h P := by
  by_cases q : y = -1
  · rw [gW_ift q]; exact hA (fun h => absurd q (of_decide_eq_true h))
  · rw [gW_iff q]; exact hB (decide_eq_true q)
theorem c_sn_4 (h17 : iv x 17 = -1) {P : Int32 → g_H → Prop} : ∀ (k o N : Nat) (y : Int32) (jv : gV), o + k = on → k < N → Sx x iv jv → (∀ a : Nat, a ≠ x → a ≠ x + 33 → a ≠ x + 98 → jv a = iv a) → CI x jv u V pn on L → (∀ kv : gV, Sx x iv kv → (∀ a : Nat, a ≠ x → a ≠ x + 33 → a ≠ x + 98 → kv a = iv a) → CI x kv u V pn on L → P (snF V pn L k o y) (kv, u)) → gW (f_X1_screamsNow_4 N x y (iN o)) (jv, u) P := by
  intro k
  induction k with
  | zero =>
    intro o N y jv h1 h2 hS hF hC hP
    obtain ⟨N, rfl⟩ : ∃ N', N = N' + 1 := ⟨N - 1, by omega⟩
    have HX := hC.X
    have h6 := hC.o6
    unfold f_X1_screamsNow_4 f_X1_screamsNow_71
    rw [gW_B, rXr1 HX, gW_B, rSi HX.nw, hC.oN, gW_ift (by rw [iN_le (by omega) (by omega)]; omega), gW_ret]
    exact hP jv hS hF hC
  | succ k ih =>
    intro o N y jv h1 h2 hS hF hC hP
    obtain ⟨N, rfl⟩ : ∃ N', N = N' + 1 := ⟨N - 1, by omega⟩
    have HX := hC.X
    have h6 := hC.o6
    have ho : o < on := by omega
    rw [f_X1_screamsNow_4, gW_B, rXr1 HX, gW_B, rSi HX.nw, hC.oN, gW_iff (by rw [iN_le (by omega) (by omega)]; omega), gW_B, rXr1 HX, gW_B, rSr1 HX.nw, gW_B, rSO HX.nw (by omega), gW_B, rSOi HX.nw (by omega), hC.o ho (by decide)]
    unfold f_X1_screamsNow_63 f_X1_screamsNow_65
    rw [snF] at hP
    by_cases c : V (41 + 4 * o + 3) = 0
    · rw [if_pos c] at hP
      obtain ⟨r, hr⟩ : ∃ r, rO V pn L o false false 0 0 = r := ⟨_, rfl⟩
      rw [scO_r hr] at hP
      have e17 : jv x 17 = -1 := by rw [hS.1 17 (by decide) (by decide) (by decide)]; exact h17
      rw [gW_ift c, gW_B, rXr1 HX, gW_B, rSr1 HX.nw, gW_B, rSO HX.nw (by omega), gW_B, rXc HX, gW_B]
      refine c_straight hC (Or.inl e17) ho (fun j1 S1 hB => ?_)
      rw [e17, eSet_m1, hr] at hB
      clear hr
      have C1 := hC.fr S1
      have F1 : ∀ a : Nat, a ≠ x → a ≠ x + 33 → a ≠ x + 98 → j1 a = iv a := fun a a1 a2 a3 => by
        rw [← hF a a1 a2 a3]
        by_cases e : a = x + 28
        · rw [e, S1.a (by omega)]
        · exact hB.2.2.2.2.2 a a1 e a2 a3
      rw [gW_B, rXi HX, hB.2.1]
      refine scr_if (fun q => ?_) (fun q => ?_)
      · rw [if_neg q] at hP
        rw [iNp1]
        exact ih (o + 1) N _ j1 (by omega) (by omega) (hS.tr S1) F1 C1 hP
      · rw [if_pos q] at hP
        rw [iNp1]
        exact ih (o + 1) N _ j1 (by omega) (by omega) (hS.tr S1) F1 C1 hP
    · rw [if_neg c] at hP
      rw [gW_iff c, iNp1]
      exact ih (o + 1) N y jv (by omega) (by omega) hS hF hC hP
theorem c_screamsNow (hC : CI x iv u V pn on L) (h17 : iv x 17 = -1) {P : Int32 → g_H → Prop} (hP : ∀ kv : gV, Sx x iv kv → (∀ a : Nat, a ≠ x → a ≠ x + 33 → a ≠ x + 98 → kv a = iv a) → CI x kv u V pn on L → P (snF V pn L on 0 0) (kv, u)) : gW (f_X1_screamsNow x) (iv, u) P := by
  have h6 := hC.o6
  unfold f_X1_screamsNow
  show gW (f_X1_screamsNow_4 gN x 0 (iN 0)) _ _
  exact c_sn_4 h17 on 0 gN 0 iv (by omega) (by rw [gN_eq]; omega) Sx.rf (fun _ _ _ _ => rfl) hC hP
/-! one behind another -/
def qnV (V : Nat → Int32) (pn : Nat) (L : gLw) (o : Nat) : Nat → Int32 := laS V (rO V pn L o false false 0 0).1.2.1 (rO V pn L o false false 0 0).1.2.2.2 pn
def quF (pn : Nat) (L : gLw) : Nat → Nat → (Nat → Int32) → Int32 → Int32
  | 0, _, _, y => y
  | k + 1, o, V, y => if V (41 + 4 * o + 3) = 0 then quF pn L k (o + 1) (qnV V pn L o) (y ||| (if scO V pn L o = true then (1 : Int32) <<< (iN o &&& 31) else 0)) else quF pn L k (o + 1) V y
theorem c_all_24 {j0 : gV} (h17 : j0 x 17 = -1) {P : Int32 → g_H → Prop} : ∀ (k o N : Nat) (y : Int32) (V : Nat → Int32) (jv : gV), o + k = on → k < N → Sp x j0 jv → (∀ a : Nat, x + 70 ≤ a → a < x + 91 → jv a = j0 a) → CI x jv v V pn on L → (∀ kv : gV, Sp x j0 kv → (∀ a : Nat, x + 70 ≤ a → a < x + 91 → kv a = j0 a) → gW (f_X1_all_95 x (quF pn L k o V y)) (kv, v) P) → gW (f_X1_all_24 N x y (iN o)) (jv, v) P := by
  intro k
  induction k with
  | zero =>
    intro o N y V jv h1 h2 hS hT hC hP
    obtain ⟨N, rfl⟩ : ∃ N', N = N' + 1 := ⟨N - 1, by omega⟩
    have HX := hC.X
    have h6 := hC.o6
    rw [f_X1_all_24, gW_B, rXr1 HX, gW_B, rSi HX.nw, hC.oN, gW_ift (by rw [iN_le (by omega) (by omega)]; omega)]
    exact hP jv hS hT
  | succ k ih =>
    intro o N y V jv h1 h2 hS hT hC hP
    obtain ⟨N, rfl⟩ : ∃ N', N = N' + 1 := ⟨N - 1, by omega⟩
    have HX := hC.X
    have h6 := hC.o6
    have ho : o < on := by omega
    rw [f_X1_all_24, gW_B, rXr1 HX, gW_B, rSi HX.nw, hC.oN, gW_iff (by rw [iN_le (by omega) (by omega)]; omega), gW_B, rXr1 HX, gW_B, rSr1 HX.nw, gW_B, rSO HX.nw (by omega), gW_B, rSOi HX.nw (by omega), hC.o ho (by decide)]
    unfold f_X1_all_87 f_X1_all_89
    rw [quF] at hP
    by_cases c : V (41 + 4 * o + 3) = 0
    · rw [if_pos c] at hP
      obtain ⟨r, hr⟩ : ∃ r, rO V pn L o false false 0 0 = r := ⟨_, rfl⟩
      have hqn : qnV V pn L o = laS V r.1.2.1 r.1.2.2.2 pn := by unfold qnV; rw [hr]
      rw [scO_r hr, hqn] at hP
      rw [gW_ift c, gW_B, rXr1 HX, gW_B, rSr1 HX.nw, gW_B, rSO HX.nw (by omega)]
      refine c_rideW hC (by rw [hS.1 17 (by decide) (by decide) (by decide)]; exact h17) ho hr (fun j1 S1 T1 C1 e16 e14 _ => ?_)
      have T2 : ∀ a : Nat, x + 70 ≤ a → a < x + 91 → j1 a = j0 a := fun a a1 a2 => by rw [T1 a a1 a2, hT a a1 a2]
      have H1 := C1.X
      rw [gW_B, rXi H1, e14]
      refine scr_if (fun q => ?_) (fun q => ?_)
      · rw [if_neg q] at hP
        rw [iNp1]
        exact ih (o + 1) N _ _ j1 (by omega) (by omega) (hS.tr S1) T2 C1 hP
      · rw [if_pos q] at hP
        rw [iNp1]
        exact ih (o + 1) N _ _ j1 (by omega) (by omega) (hS.tr S1) T2 C1 hP
    · rw [if_neg c] at hP
      rw [gW_iff c, iNp1]
      exact ih (o + 1) N y V jv (by omega) (by omega) hS hT hC hP
/-! courts that are alike for a ride -/
theorem rW_c (h8 : pn ≤ 8) (h : ∀ k : Nat, k < 41 → M k = V k) {d n k tk es : Int32} {dr te : Bool} : rW M pn L d n k dr te tk es = rW V pn L d n k dr te tk es := by
  unfold rW
  rw [h 5 (by decide), h 8 (by decide)]
  have es : ∀ s : Nat, sOn M pn tk s = sOn V pn tk s := fun s => by
    unfold sOn
    rw [sIn_c (fun p hp => h _ (by omega))]
  refine rdLoop_cg 10 0 _ (fun j _ hj => ⟨es j, ?_⟩)
  rcases sOn_or M pn tk j with e | ⟨p, hp, e, -⟩
  · exact Or.inl e
  · exact Or.inr ⟨p, by omega, e, fun t => fR_c (fun f hf => h _ (by omega))⟩
theorem rO_c (h8 : pn ≤ 8) (h : ∀ k : Nat, k < 41 → M k = V k) {o : Nat} (ho : ∀ f : Nat, f < 3 → M (41 + 4 * o + f) = V (41 + 4 * o + f)) {dr te : Bool} {tk es : Int32} : rO M pn L o dr te tk es = rO V pn L o dr te tk es := by
  have h0 := ho 0 (by decide)
  have h1 := ho 1 (by decide)
  have h2 := ho 2 (by decide)
  unfold rO
  rw [h0, h1, h2]
  exact rW_c h8 h
theorem la_c {c : Int32} {w : Nat → Int32} (h : ∀ k : Nat, k < 41 → M k = V k) : ∀ (j k : Nat), j ≤ 8 → M k = V k → laS M c w j k = laS V c w j k := by
  intro j
  induction j with
  | zero => exact fun k _ hk => hk
  | succ j ih =>
    intro k hj hk
    rw [laS, laS]
    split
    · by_cases e : k = 9 + 4 * j + 2
      · rw [e, va_up_self, va_up_self, h _ (by omega)]
      · rw [va_up_ne _ _ e, va_up_ne _ _ e]; exact ih k (by omega) hk
    · exact ih k (by omega) hk
theorem m_scr0_8 {V0 : Nat → Int32} (h23 : iv (x + 353) 23 = 0) (h24 : iv (x + 353) 24 = 0) {P : Int32 → g_H → Prop} : ∀ (k o N : Nat) (y : Int32) (jv : gV), o + k = on → k < N → Sn x iv jv → (∀ j : Nat, j < 305 → jv (x + 357) j = V0 j) → MI x jv u V0 pn on L → (∀ kv : gV, Sn x iv kv → (∀ j : Nat, j < 305 → kv (x + 357) j = V0 j) → (∀ j : Nat, 305 ≤ j → kv (x + 353 + 1) j = V0 j) → gW (f_X8_screamers_61 (x + 353) (snF V0 pn L k o y)) (kv, u) P) → gW (f_X8_screamers_8 N (x + 353) 0 y (iN o)) (jv, u) P := by
  intro k
  induction k with
  | zero =>
    intro o N y jv h1 h2 hS hT hM hP
    obtain ⟨N, rfl⟩ : ∃ N', N = N' + 1 := ⟨N - 1, by omega⟩
    have H := hM.M
    have h6 := hM.o6
    rw [f_X8_screamers_8, gW_B, rMc H, gW_B, w_oneCount H, hM.oN, gW_ift (by rw [iN_le (by omega) (by omega)]; omega)]
    exact hP jv hS hT (fun j hj => by rw [hM.vE])
  | succ k ih =>
    intro o N y jv h1 h2 hS hT hM hP
    obtain ⟨N, rfl⟩ : ∃ N', N = N' + 1 := ⟨N - 1, by omega⟩
    have H := hM.M
    have h6 := hM.o6
    have ho : o < on := by omega
    rw [f_X8_screamers_8, gW_B, rMc H, gW_B, w_oneCount H, hM.oN, gW_iff (by rw [iN_le (by omega) (by omega)]; omega), gW_B, rMc H, gW_B, w_waits H (by omega), hM.vE]
    unfold f_X8_screamers_44 f_X8_screamers_55
    rw [snF] at hP
    by_cases c : V0 (41 + 4 * o + 3) = 0
    · rw [if_pos c] at hP
      obtain ⟨r, hr⟩ : ∃ r, rO V0 pn L o false false 0 0 = r := ⟨_, rfl⟩
      rw [scO_r hr] at hP
      rw [bI_t c, gW_iff (by decide), gW_B, rMc H, gW_B]
      refine m_straight2 hM ((hS.1 23 (by omega)).trans h23) ((hS.1 24 (by omega)).trans h24) ho hr (fun j1 S1 m1 T1 => ?_)
      clear hr
      have T2 : ∀ j : Nat, j < 305 → j1 (x + 357) j = V0 j := fun j hj => by rw [T1 _ (by omega) (by omega) (by omega) (by omega) (by omega)]; exact hT j hj
      refine scr_if (fun q => ?_) (fun q => ?_)
      · rw [if_neg q] at hP
        rw [gW_ift rfl, iNp1]
        exact ih (o + 1) N _ j1 (by omega) (by omega) (hS.tr S1.N2) T2 (hM.fr S1.S) hP
      · rw [if_pos q] at hP
        rw [gW_ift rfl, iNp1]
        exact ih (o + 1) N _ j1 (by omega) (by omega) (hS.tr S1.N2) T2 (hM.fr S1.S) hP
    · rw [if_neg c] at hP
      rw [bI_f c, gW_ift rfl, iNp1]
      exact ih (o + 1) N y jv (by omega) (by omega) hS hT hM hP
theorem m_scr1_8 {V0 : Nat → Int32} (h8 : pn ≤ 8) (h23 : iv (x + 353) 23 = 0) (h24 : iv (x + 353) 24 = 0) (hL : lS L) {a : Int32} (ha : ¬ a = 0) {P : Int32 → g_H → Prop} : ∀ (k o N : Nat) (y : Int32) (V M : Nat → Int32) (jv : gV), o + k = on → k < N → Sn x iv jv → (∀ j : Nat, j < 305 → jv (x + 357) j = V0 j) → (∀ j : Nat, 305 ≤ j → M j = V0 j) → MI x jv u M pn on L → (∀ k : Nat, (∀ o' : Nat, o' < o → k ≠ 41 + 4 * o' + 2) → M k = V k) → (∀ kv : gV, Sn x iv kv → (∀ j : Nat, j < 305 → kv (x + 357) j = V0 j) → (∀ j : Nat, 305 ≤ j → kv (x + 353 + 1) j = V0 j) → gW (f_X8_screamers_61 (x + 353) (quF pn L k o V y)) (kv, u) P) → gW (f_X8_screamers_8 N (x + 353) a y (iN o)) (jv, u) P := by
  intro k
  induction k with
  | zero =>
    intro o N y V M jv h1 h2 hS hT hB hM hE hP
    obtain ⟨N, rfl⟩ : ∃ N', N = N' + 1 := ⟨N - 1, by omega⟩
    have H := hM.M
    have h6 := hM.o6
    rw [f_X8_screamers_8, gW_B, rMc H, gW_B, w_oneCount H, hM.oN, gW_ift (by rw [iN_le (by omega) (by omega)]; omega)]
    exact hP jv hS hT (fun j hj => by rw [hM.vE]; exact hB j hj)
  | succ k ih =>
    intro o N y V M jv h1 h2 hS hT hB hM hE hP
    obtain ⟨N, rfl⟩ : ∃ N', N = N' + 1 := ⟨N - 1, by omega⟩
    have H := hM.M
    have h6 := hM.o6
    have ho : o < on := by omega
    have hE41 : ∀ k : Nat, k < 41 → M k = V k := fun k hk => hE k (fun o' _ => by omega)
    have e3 : M (41 + 4 * o + 3) = V (41 + 4 * o + 3) := hE _ (fun o' _ => by omega)
    rw [f_X8_screamers_8, gW_B, rMc H, gW_B, w_oneCount H, hM.oN, gW_iff (by rw [iN_le (by omega) (by omega)]; omega), gW_B, rMc H, gW_B, w_waits H (by omega), hM.vE, bI_c (show M (41 + 4 * o + 3) = 0 ↔ V (41 + 4 * o + 3) = 0 by rw [e3])]
    unfold f_X8_screamers_44 f_X8_screamers_55
    rw [quF] at hP
    by_cases c : V (41 + 4 * o + 3) = 0
    · rw [if_pos c] at hP
      obtain ⟨r, hr⟩ : ∃ r, rO V pn L o false false 0 0 = r := ⟨_, rfl⟩
      have hqn : qnV V pn L o = laS V r.1.2.1 r.1.2.2.2 pn := by unfold qnV; rw [hr]
      rw [scO_r hr, hqn] at hP
      have hrM : rO M pn L o false false 0 0 = r := (rO_c h8 hE41 (fun f hf => hE _ (fun o' _ => by omega))).trans hr
      have hI := rW_I hM.W hL hrM
      clear hr
      obtain ⟨cc, cc1, cc2⟩ := hI.1
      rw [bI_t c, gW_iff (by decide), gW_B, rMc H, gW_B]
      refine m_straight2 hM ((hS.1 23 (by omega)).trans h23) ((hS.1 24 (by omega)).trans h24) ho hrM (fun j1 S1 m1 T1 => ?_)
      clear hrM
      have M1 := hM.fr S1.S
      have go : ∀ w : Int32, (∀ kv : gV, Sn x iv kv → (∀ j : Nat, j < 305 → kv (x + 357) j = V0 j) → (∀ j : Nat, 305 ≤ j → kv (x + 353 + 1) j = V0 j) → gW (f_X8_screamers_61 (x + 353) (quF pn L k (o + 1) (laS V r.1.2.1 r.1.2.2.2 pn) (y ||| w))) (kv, u) P) → gW (gIf (a = 0) (f_X8_screamers_8 N (x + 353) a (y ||| w) (iN o + 1)) (gB (gCk (x + 353) 7) fun _ => gB (f_X8_laysOn (x + 353) (iN o)) fun _ => f_X8_screamers_8 N (x + 353) a (y ||| w) (iN o + 1))) (j1, u) P := by
        intro w hw
        rw [gW_iff ha, gW_B, rMc H, gW_B]
        refine m_laysOn M1 ho cc1 (w := r.1.2.2.2) (by rw [← cc2]; exact hI.2.1) (by rw [← cc2]; exact m1.2.1) (by rw [← cc2]; exact m1.2.2.2) (fun j2 a2 M2 => ?_)
        rw [← cc2] at M2
        rw [iNp1]
        refine ih (o + 1) N _ (laS V r.1.2.1 r.1.2.2.2 pn) _ j2 (by omega) (by omega) ((hS.tr S1.N2).tr (Sn.wd a2)) (fun j hj => by rw [a2 _ (by omega), T1 _ (by omega) (by omega) (by omega) (by omega) (by omega)]; exact hT j hj) (fun j hj => ?_) M2 (fun k' hk' => ?_) hw
        · unfold laV
          rw [va_up_ne _ _ (by omega), la_o pn _ (by omega)]
          exact hB j hj
        · unfold laV
          rw [va_up_ne _ _ (hk' o (by omega))]
          exact la_c hE41 pn k' h8 (hE k' (fun o' ho' => hk' o' (by omega)))
      refine scr_if (fun q => ?_) (fun q => ?_)
      · rw [if_neg q] at hP
        exact go _ hP
      · rw [if_pos q] at hP
        exact go _ hP
    · rw [if_neg c] at hP
      rw [bI_f c, gW_ift rfl, iNp1]
      exact ih (o + 1) N y V M jv (by omega) (by omega) hS hT hB hM (fun k' hk' => hE k' (fun o' ho' => hk' o' (by omega))) hP
theorem m_screamers (hM : MI x iv u V pn on L) (h23 : iv (x + 353) 23 = 0) (h24 : iv (x + 353) 24 = 0) (hL : lS L) {a : Int32} {P : Int32 → g_H → Prop} (hP : ∀ kv : gV, Sm x iv kv → P (if a = 0 then snF V pn L on 0 0 else quF pn L on 0 V 0) (kv, u)) : gW (f_X8_screamers (x + 353) a) (iv, u) P := by
  have H := hM.M
  have h6 := hM.o6
  have h8 := hM.p8
  unfold f_X8_screamers
  rw [gW_B, rMc H, gW_B]
  refine m_keeps hM (fun j4 s4 hM4 t4 => ?_)
  have fin : ∀ (y : Int32) (kv : gV), y = (if a = 0 then snF V pn L on 0 0 else quF pn L on 0 V 0) → Sn x j4 kv → (∀ j : Nat, j < 305 → kv (x + 357) j = V j) → (∀ j : Nat, 305 ≤ j → kv (x + 353 + 1) j = V j) → gW (f_X8_screamers_61 (x + 353) y) (kv, u) P := by
    intro y kv hy s5 t5 u5
    unfold f_X8_screamers_61
    rw [gW_B, rMc H, gW_B]
    refine m_brings H t5 u5 (fun j6 a6 w6 => ?_)
    rw [gW_ret, hy]
    have s6 : Sm x j4 j6 := Sn.m (s5.tr (Sn.wd a6)) (by rw [w6, hM4.vE])
    exact hP j6 (s4.tr s6)
  by_cases c : a = 0
  · rw [if_pos c] at fin
    rw [c]
    show gW (f_X8_screamers_8 gN (x + 353) 0 0 (iN 0)) _ _
    refine m_scr0_8 (iv := j4) (by rw [s4.1 23 (by omega)]; exact h23) (by rw [s4.1 24 (by omega)]; exact h24) on 0 gN 0 j4 (by omega) (by rw [gN_eq]; omega) Sn.rf t4 hM4 (fun kv q1 q2 q3 => fin _ kv rfl q1 q2 q3)
  · rw [if_neg c] at fin
    show gW (f_X8_screamers_8 gN (x + 353) a 0 (iN 0)) _ _
    refine m_scr1_8 (iv := j4) (V0 := V) h8 (by rw [s4.1 23 (by omega)]; exact h23) (by rw [s4.1 24 (by omega)]; exact h24) hL c on 0 gN 0 V V j4 (by omega) (by rw [gN_eq]; omega) Sn.rf t4 (fun _ _ => rfl) hM4 (fun _ _ => rfl) (fun kv q1 q2 q3 => fin _ kv rfl q1 q2 q3)
theorem o_all {a : Int32} : gOp1 x z b n t (f_X1_all x a) (f_X8_all (x + 353) a) := by
  intro iv u hR
  obtain ⟨pn, on, rm, L, q, r, hq, hr, g3, g4, g5, h1, h2, g6, hC, hM⟩ := hR.all
  have HX := hC.X
  have h6 := hC.o6
  have h8 := hC.p8
  have hT := hR.2.1
  have hW := h1.2.1
  unfold f_X1_all
  by_cases c : a = 0
  · rw [gW_ift c, gW_B, rXc HX, gW_B]
    refine c_screamsNow hC hT.2.2.1 (fun k1 S1 F1 C1 => ?_)
    rw [gW_ret]
    refine op_end1 hR S1 ?_
    unfold f_X8_all
    refine m_z (hM.fr S1) (fun lv z1 z2 z3 hM2 => ?_)
    have H := hM2.M
    have e1 : lv (x + 353) 23 = 0 := by rw [z1.2.2.2.1 23 (by omega), S1.2.2.2.1 23 (by omega)]; exact hT.2.2.2.1
    have e2 : lv (x + 353) 24 = 0 := by rw [z1.2.2.2.1 24 (by omega), S1.2.2.2.1 24 (by omega)]; exact hT.2.2.2.2.1
    rw [gW_B, rMc H, gW_B]
    refine m_screamers hM2 e1 e2 hC.lS (fun mv m1 => ?_)
    rw [gW_ret, if_pos c]
    exact ⟨rfl, rfl, z1.tr m1.S⟩
  · rw [gW_iff c, gW_B, rXr3 HX, gW_B, rXr1 HX, gW_B, rSc HX.pt, gW_B]
    refine c_put HX h1.1 hW (fun j0 v hU p1 p2 p3 => ?_)
    have C0 := hC.pt hU p3
    have S0 : Sp x iv j0 := Sp.nw (fun a ha => p3 a (by omega))
    show gW (f_X1_all_24 gN x 0 (iN 0)) _ _
    refine c_all_24 (j0 := j0) (L := L) (by rw [S0.1 17 (by decide) (by decide) (by decide)]; exact hT.2.2.1) on 0 gN 0 (iv (x + 354)) j0 (by omega) (by rw [gN_eq]; omega) Sp.rf (fun _ _ _ => rfl) C0 (fun k1 S1 T1 => ?_)
    generalize hans : quF pn L on 0 (iv (x + 354)) 0 = ans
    unfold f_X1_all_95
    have HXv := hU.2.2.2.2.1
    rw [gW_B, rXr1 HXv, gW_B, rXr3 HXv, gW_B, rSc HXv.nw, gW_B]
    refine c_back hU (p1.fr h8 h6 (fun k _ => by rw [T1 _ (by omega) (by omega)]) (fun a a1 a2 _ => T1 a (by omega) (by omega))) hW (fun k3 b1 b2 b3 => ?_)
    rw [gW_ret]
    have S3 : Sp x iv k3 := (S0.tr S1).tr (Sp.nw (fun a ha => b3 a (by omega)))
    have n354 : k3 (x + 354) = iv (x + 354) := by rw [S3.a (by omega)]
    have hMl : MI x k3 v (iv (x + 354)) pn on L := ⟨hU.2.2.2.2.2 hM.1, n354, hM.2.2⟩
    have e1 : k3 (x + 353) 23 = 0 := by rw [S3.2.2.2.1 23 (by omega)]; exact hT.2.2.2.1
    have e2 : k3 (x + 353) 24 = 0 := by rw [S3.2.2.2.1 24 (by omega)]; exact hT.2.2.2.2.1
    unfold f_X8_all
    refine m_z hMl (fun j3 z1 z2 z3 hM3 => ?_)
    have H := hM3.M
    rw [gW_B, rMc H, gW_B]
    refine m_screamers hM3 (by rw [z1.2.2.2.1 23 (by omega)]; exact e1) (by rw [z1.2.2.2.1 24 (by omega)]; exact e2) hC.lS (fun mv m1 => ?_)
    rw [gW_ret, if_neg c, hans]
    have S37 : Sx x k3 mv := z1.tr m1.S
    have RRf : RR x z b n (t + 1) mv v := by
      refine RR.put hR h1 h2 ⟨q, r, hq, hr, g3, g4, g5, g6⟩ hU (S3.tr S37.P) (b1.fr h8 h6 (fun k _ => by rw [S37.a (by omega)]) (fun a a1 a2 a3 => by rw [S37.a (by omega)])) ?_ (by rw [S37.a (by omega)]; exact n354)
      rw [S37.a (by omega), b2, T1 _ (by omega) (by omega), p2]
    exact ⟨rfl, RRf⟩
end ALL
