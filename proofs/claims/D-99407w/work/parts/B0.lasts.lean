/-! OPS: lasts, all -/
section LST
variable {iv jv kv lv : gV} {u v w : gU} {x z b n t : Nat} {V M : Nat → Int32} {pn on rm : Nat} {L : gLw}
/-- as Sm, but for the model's court -/
def Sn (x : Nat) (iv jv : gV) : Prop := (∀ k : Nat, (k = 0 ∨ k = 6 ∨ k = 7 ∨ k = 9 ∨ k = 11 ∨ k = 14 ∨ k = 23 ∨ k = 24) → jv (x + 353) k = iv (x + 353) k) ∧ ∀ a : Nat, (a ≠ x + 353 ∧ a ≠ x + 354 ∧ a ≠ x + 356 ∧ a ≠ x + 357 ∧ (a < x + 360 ∨ x + 368 < a)) → jv a = iv a
theorem Sn.rf : Sn x iv iv := ⟨fun _ _ => rfl, fun _ _ => rfl⟩
theorem Sn.tr (h : Sn x iv jv) (g : Sn x jv kv) : Sn x iv kv := ⟨fun k a => (g.1 k a).trans (h.1 k a), fun a q => (g.2 a q).trans (h.2 a q)⟩
theorem Sm.N2 (h : Sm x iv jv) : Sn x iv jv := ⟨h.1, fun a q => h.a (by omega)⟩
theorem Sn.wd (h : ∀ a : Nat, a ≠ x + 353 + 1 → jv a = iv a) : Sn x iv jv := ⟨fun k _ => by rw [h _ (by omega)], fun a q => h a (by omega)⟩
theorem Sn.m (h : Sn x iv jv) (e : jv (x + 353 + 1) = iv (x + 353 + 1)) : Sm x iv jv := ⟨h.1, fun a q => by
  by_cases ea : a = x + 353 + 1
  · rw [ea, e]
  · exact h.2 a (by omega)⟩
/-- a straight ride of the model, with all that it leaves -/
theorem m_straight2 (hM : MI x iv u V pn on L) (h23 : iv (x + 353) 23 = 0) (h24 : iv (x + 353) 24 = 0) {o : Nat} (ho : o < on) {r : gRz} (hr : rO V pn L o false false 0 0 = r) {P : Int32 → g_H → Prop} (hP : ∀ jv, Sm x iv jv → mS x jv r (V (41 + 4 * o + 1)) → (∀ a : Nat, a ≠ x + 353 → a ≠ x + 361 → a ≠ x + 362 → a ≠ x + 363 → a ≠ x + 364 → jv a = iv a) → P r.2.1 (jv, u)) : gW (f_X8_ridesStraight (x + 353) (iN o)) (iv, u) P := by
  have H := hM.M
  unfold f_X8_ridesStraight
  simp only [gW_B, rMc H]
  refine m_looksAt hM ho (fun jv hS hM2 hk ha e18 e19 e20 => ?_)
  simp only [rMc H, gW_ret]
  have key := m_rides (dr := false) (te := false) (P := P) hM2 e18 e19 e20 ((hk 23 (by decide) (by decide) (by decide)).trans h23) ((hk 24 (by decide) (by decide) (by decide)).trans h24) hr (fun kv hB hj => ?_)
  · rw [bI_f (by decide)] at key
    exact key
  · have hS2 := mB.S hr hB hM2
    obtain ⟨b1, b2, b3, b4, b5, b6, b7⟩ := hB
    refine hP kv (hS.tr hS2) ⟨b3, b4, ?_, b5⟩ (fun a a1 a2 a3 a4 a5 => ?_)
    · rw [b6 19 (by decide) (by decide) (by decide) (by decide) (by decide), e19]
    · by_cases e : a = x + 353 + 1
      · rw [e, hS2.a (by omega), hS.a (by omega)]
      · rw [b7 a a1 e a2 a3 a4 a5, ha a a1]
/-- the court behind a ride -/
def nxV (V : Nat → Int32) (pn : Nat) (L : gLw) (o : Nat) : Nat → Int32 := laV V pn (rO V pn L o false false 0 0).1.2.1 (rO V pn L o false false 0 0).1.2.2.2 o
def lsF (pn : Nat) (L : gLw) (o p : Nat) : Nat → (Nat → Int32) → Nat → Int32 → Int32
  | 0, _, _, f => f
  | k + 1, V, m, f => if f = -1 then lsF pn L o p k (nxV V pn L o) (m + 1) (if V (9 + 4 * p + 2) < 50 then -1 else iN m) else f
/-- the component rides, and wears out -/
theorem c_rideW (hC : CI x jv v V pn on L) (h17 : jv x 17 = -1) {o : Nat} (ho : o < on) {r : gRz} (hr : rO V pn L o false false 0 0 = r) {α : Type} {k : Unit → gM α} {P : α → g_H → Prop} (hP : ∀ kv : gV, Sp x jv kv → (∀ a : Nat, x + 70 ≤ a → a < x + 91 → kv a = jv a) → CI x kv v (laS V r.1.2.1 r.1.2.2.2 pn) pn on L → kv x 16 = r.1.2.1 → kv x 14 = r.2.1 → (∀ a f : Nat, x + 28 < a → a < x + 49 → a ≠ x + 33 → f ≠ 2 → kv a f = jv a f) → gW (k ()) (kv, v) P) : gW (gB (gCk x 0) fun _ => gB (f_X1_rides x (x + 28 + 15 + o) (0 : Int32)) fun _ => gB (gCk x 0) fun _ => gB (f_X1_wearsOut x) k) (jv, v) P := by
  have HX := hC.X
  have hI := rW_I hC.W hC.lS hr
  rw [gW_B, rXc HX, gW_B]
  refine c_straight hC (Or.inl h17) ho (fun j1 S1 hB => ?_)
  rw [h17, eSet_m1, hr] at hB
  obtain ⟨b1, b2, b3, b4, b5, b6⟩ := hB
  have C1 := hC.fr S1
  rw [gW_B, rXc HX, gW_B]
  refine c_wearsOut C1 hI.2.1 b4 b5 (fun j2 a1 a2 C2 => ?_)
  refine hP j2 (S1.P.tr (Sp.nw (fun a ha => a1 a (by omega)))) (fun a c1 c2 => by rw [a1 a (by omega), b6 a (by omega) (by omega) (by omega) (by omega)]) C2 (by rw [a1 x (by omega)]; exact b4) (by rw [a1 x (by omega)]; exact b2) (fun a f c1 c2 c3 c4 => by rw [a2 a f c4, b6 a (by omega) (by omega) (by omega) (by omega)])
theorem c_lasts_29 {j0 : gV} (h17 : j0 x 17 = -1) {o p : Nat} (ho : o < on) (hp : p < pn) {P : Int32 ⊕ gE → g_H → Prop} : ∀ (k m N : Nat) (f : Int32) (V : Nat → Int32) (jv : gV), m + k = 61 → k < N → Sp x j0 jv → (∀ a : Nat, x + 70 ≤ a → a < x + 91 → jv a = j0 a) → CI x jv v V pn on L → (∀ kv : gV, Sp x j0 kv → (∀ a : Nat, x + 70 ≤ a → a < x + 91 → kv a = j0 a) → gW (f_X1_lasts_92 x (lsF pn L o p k V m f)) (kv, v) P) → gW (f_X1_lasts_29 N x (iN p) (x + 28 + 15 + o) f (iN m)) (jv, v) P := by
  intro k
  induction k with
  | zero =>
    intro m N f V jv h1 h2 hS hT hC hP
    obtain ⟨N, rfl⟩ : ∃ N', N = N' + 1 := ⟨N - 1, by omega⟩
    have : m = 61 := by omega
    subst this
    rw [f_X1_lasts_29, gW_ift (by decide)]
    exact hP jv hS hT
  | succ k ih =>
    intro m N f V jv h1 h2 hS hT hC hP
    obtain ⟨N, rfl⟩ : ∃ N', N = N' + 1 := ⟨N - 1, by omega⟩
    have HX := hC.X
    have h8 := hC.p8
    have h6 := hC.o6
    rw [f_X1_lasts_29, gW_iff (by rw [show (60 : Int32) = iN 60 from rfl, iN_lt (by omega) (by omega)]; omega)]
    rw [lsF] at hP
    by_cases c : f = -1
    · rw [if_pos c] at hP
      rw [gW_ift c, gW_B, rXr1 HX, gW_B, rSr0 HX.nw, gW_B, rSP HX.nw (by omega), gW_B, rSPi HX.nw (by omega), hC.p hp (by decide)]
      obtain ⟨r, hr⟩ : ∃ r, rO V pn L o false false 0 0 = r := ⟨_, rfl⟩
      have go : ∀ f' : Int32, f' = (if V (9 + 4 * p + 2) < 50 then -1 else iN m) → gW (f_X1_lasts_63 (f_X1_lasts_29 N) x (iN p) (x + 28 + 15 + o) f' (iN m)) (jv, v) P := by
        intro f' hf'
        rw [← hf'] at hP
        have hnx : nxV V pn L o = laV V pn r.1.2.1 r.1.2.2.2 o := by unfold nxV; rw [hr]
        rw [hnx] at hP
        obtain ⟨cc, cc1, cc2⟩ := (rW_I hC.W hC.lS hr).1
        unfold f_X1_lasts_63
        refine c_rideW hC (by rw [hS.1 17 (by decide) (by decide) (by decide)]; exact h17) ho hr (fun j1 S1 T1 C1 e16 _ _ => ?_)
        have H1 := C1.X
        have ek : (laS V r.1.2.1 r.1.2.2.2 pn) (41 + 4 * o + 2) = V (41 + 4 * o + 2) := la_o pn _ (by omega)
        obtain ⟨q, q1, q2⟩ := kn_n hC.W ho cc1
        rw [gW_B, rSOi H1.nw (by omega), C1.o ho (by decide), ek, gW_B, rXi H1, e16, cc2, q2, gW_B, rSOp H1.nw (by omega), iNp1]
        have C2 := (C1.kn ho q1).re (V' := laV V pn r.1.2.1 r.1.2.2.2 o) (by unfold laV; rw [cc2, q2])
        have S2 : Sp x j1 (g_u2 j1 (x + 28 + 15 + o) 2 (iN q)) := Sp.nw (fun a ha => g_u2_ne _ _ _ (by omega))
        exact ih (m + 1) N f' _ _ (by omega) (by omega) ((hS.tr S1).tr S2) (fun a c1 c2 => by rw [g_u2_ne _ _ _ (by omega), T1 a c1 c2]; exact hT a c1 c2) C2 hP
      by_cases c2 : V (9 + 4 * p + 2) < 50
      · rw [gW_ift c2]
        exact go f (by rw [if_pos c2]; exact c)
      · rw [gW_iff c2]
        exact go _ (by rw [if_neg c2])
    · rw [if_neg c] at hP
      rw [gW_iff c]
      exact hP jv hS hT
theorem m_lasts_45 {V0 : Nat → Int32} (h23 : iv (x + 353) 23 = 0) (h24 : iv (x + 353) 24 = 0) (hL : lS L) {o p : Nat} (ho : o < on) (hp : p < pn) {P : Int32 → g_H → Prop} : ∀ (k m N : Nat) (f : Int32) (V : Nat → Int32) (jv : gV), m + k = 61 → k < N → Sn x iv jv → (∀ j : Nat, j < 305 → jv (x + 357) j = V0 j) → (∀ j : Nat, 305 ≤ j → V j = V0 j) → MI x jv u V pn on L → (∀ kv : gV, Sn x iv kv → (∀ j : Nat, j < 305 → kv (x + 357) j = V0 j) → (∀ j : Nat, 305 ≤ j → kv (x + 353 + 1) j = V0 j) → gW (f_X8_lasts_92 (x + 353) (lsF pn L o p k V m f)) (kv, u) P) → gW (f_X8_lasts_45 N (x + 353) (iN p) (iN o) f (iN m)) (jv, u) P := by
  intro k
  induction k with
  | zero =>
    intro m N f V jv h1 h2 hS hT hB hM hP
    obtain ⟨N, rfl⟩ : ∃ N', N = N' + 1 := ⟨N - 1, by omega⟩
    have : m = 61 := by omega
    subst this
    rw [f_X8_lasts_45, gW_ift (by decide)]
    exact hP jv hS hT (fun j hj => by rw [hM.vE]; exact hB j hj)
  | succ k ih =>
    intro m N f V jv h1 h2 hS hT hB hM hP
    obtain ⟨N, rfl⟩ : ∃ N', N = N' + 1 := ⟨N - 1, by omega⟩
    have H := hM.M
    have h8 := hM.p8
    have h6 := hM.o6
    rw [f_X8_lasts_45, gW_iff (by rw [show (60 : Int32) = iN 60 from rfl, iN_lt (by omega) (by omega)]; omega)]
    rw [lsF] at hP
    by_cases c : f = -1
    · rw [if_pos c] at hP
      rw [gW_ift c, gW_B, rMc H, gW_B, w_ofProp2 H (by omega), hM.vE]
      obtain ⟨r, hr⟩ : ∃ r, rO V pn L o false false 0 0 = r := ⟨_, rfl⟩
      have go : ∀ f' : Int32, f' = (if V (9 + 4 * p + 2) < 50 then -1 else iN m) → gW (f_X8_lasts_74 (f_X8_lasts_45 N) (x + 353) (iN p) (iN o) (iN m) f') (jv, u) P := by
        intro f' hf'
        rw [← hf'] at hP
        have hnx : nxV V pn L o = laV V pn r.1.2.1 r.1.2.2.2 o := by unfold nxV; rw [hr]
        rw [hnx] at hP
        have hI := rW_I hM.W hL hr
        obtain ⟨cc, cc1, cc2⟩ := hI.1
        unfold f_X8_lasts_74
        rw [gW_B, rMc H, gW_B]
        refine m_straight2 hM ((hS.1 23 (by omega)).trans h23) ((hS.1 24 (by omega)).trans h24) ho hr (fun j1 S1 m1 T1 => ?_)
        have M1 := hM.fr S1.S
        rw [gW_B, rMc H, gW_B]
        refine m_laysOn M1 ho cc1 (w := r.1.2.2.2) (by rw [← cc2]; exact hI.2.1) (by rw [← cc2]; exact m1.2.1) (by rw [← cc2]; exact m1.2.2.2) (fun j2 a2 M2 => ?_)
        rw [← cc2] at M2
        rw [iNp1]
        refine ih (m + 1) N f' _ j2 (by omega) (by omega) ((hS.tr S1.N2).tr (Sn.wd a2)) (fun j hj => by rw [a2 _ (by omega), T1 _ (by omega) (by omega) (by omega) (by omega) (by omega)]; exact hT j hj) (fun j hj => ?_) M2 hP
        unfold laV
        rw [va_up_ne _ _ (by omega), la_o pn _ (by omega)]
        exact hB j hj
      by_cases c2 : V (9 + 4 * p + 2) < 50
      · rw [gW_ift c2]
        exact go _ (by rw [if_pos c2])
      · rw [gW_iff c2]
        exact go _ (by rw [if_neg c2])
    · rw [if_neg c] at hP
      rw [gW_iff c]
      exact hP jv hS hT (fun j hj => by rw [hM.vE]; exact hB j hj)
theorem o_lasts {a c : Int32} : gOp x z b n t (f_X0_lasts x a c (x + 369)) (f_X8_lasts (x + 353) a c) := by
  intro iv u hR
  obtain ⟨pn, on, rm, L, q, r, hq, hr, g3, g4, g5, h1, h2, g6, hC, hM⟩ := hR.all
  have HX := hC.X
  have h6 := hC.o6
  have h8 := hC.p8
  have hT := hR.2.1
  have hW := h1.2.1
  unfold f_X0_lasts f_X1_lasts
  rw [gW_B, rXc HX, gW_B, gW_B, rXc HX, gW_T]
  by_cases ha : 0 ≤ a ∧ a ≤ iN pn - 1
  · obtain ⟨p, hp, rfl⟩ := i_get (by omega) ha
    rw [w_propAt_t hC hp]
    dsimp only
    rw [gW_B, rXc HX, gW_T]
    by_cases hc : 0 ≤ c ∧ c ≤ iN on - 1
    · obtain ⟨o, ho, rfl⟩ := i_get (by omega) hc
      rw [w_oneAt_t hC ho]
      dsimp only
      rw [gW_B, rXr3 HX, gW_B, rXr1 HX, gW_B, rSc HX.pt, gW_B]
      refine c_put HX h1.1 hW (fun j0 v hU p1 p2 p3 => ?_)
      have C0 := hC.pt hU p3
      show gW (f_X1_lasts_29 gN x (iN p) (x + 28 + 15 + o) (-1) (iN 0)) _ _
      have S0 : Sp x iv j0 := Sp.nw (fun a ha => p3 a (by omega))
      refine c_lasts_29 (j0 := j0) (L := L) (by rw [S0.1 17 (by decide) (by decide) (by decide)]; exact hT.2.2.1) ho hp 61 0 gN (-1) (iv (x + 354)) j0 (by omega) (by rw [gN_eq]; omega) Sp.rf (fun _ _ _ => rfl) C0 (fun k1 S1 T1 => ?_)
      generalize hans : lsF pn L o p 61 (iv (x + 354)) 0 (-1) = ans
      unfold f_X1_lasts_92
      have HXv := hU.2.2.2.2.1
      rw [gW_B, rXr1 HXv, gW_B, rXr3 HXv, gW_B, rSc HXv.nw, gW_B]
      refine c_back hU (p1.fr h8 h6 (fun k _ => by rw [T1 _ (by omega) (by omega)]) (fun a a1 a2 _ => T1 a (by omega) (by omega))) hW (fun k2 b1 b2 b3 => ?_)
      rw [gW_ret]
      show gW (gB (gSI (x + 369) 2 (0 : Int32) _) _) _ _
      rw [gW_B, w_outS (by rw [hU.1]; exact hR.out), gW_ret]
      have d1 : ∀ a : Nat, a ≠ x + 369 → g_u2 k2 (x + 369) 0 ans a = k2 a := fun a h => g_u2_ne _ _ _ h
      have d2 : g_u2 k2 (x + 369) 0 ans (x + 369) 0 = ans := by rw [g_u2_self, va_up_self]
      generalize g_u2 k2 (x + 369) 0 ans = k3 at d1 d2 ⊢
      have S3 : Sp x iv k3 := ((S0.tr S1).tr (Sp.nw (fun a ha => b3 a (by omega)))).tr (Sx.of (a := x + 369) (by omega) d1).P
      have n354 : k3 (x + 354) = iv (x + 354) := by rw [S3.a (by omega)]
      have hMl : MI x k3 v (iv (x + 354)) pn on L := ⟨hU.2.2.2.2.2 hM.1, n354, hM.2.2⟩
      have HMv := hMl.M
      have e1 : k3 (x + 353) 23 = 0 := by rw [S3.2.2.2.1 23 (by omega)]; exact hT.2.2.2.1
      have e2 : k3 (x + 353) 24 = 0 := by rw [S3.2.2.2.1 24 (by omega)]; exact hT.2.2.2.2.1
      unfold f_X8_lasts f_X8_lasts_27
      refine m_z hMl (fun j3 z1 z2 z3 hM3 => ?_)
      have H := hM3.M
      rw [gW_B, rMc H, gW_B, m_noProp_t hM3 hp, gW_ift rfl, gW_B, rMc H, gW_B, m_noOne_t hM3 ho, gW_ift rfl, gW_B, rMc H, gW_B, m_thr0, gW_ift rfl, gW_B, rMc H, gW_B]
      refine m_keeps hM3 (fun j4 s4 hM4 t4 => ?_)
      show gW (f_X8_lasts_45 gN (x + 353) (iN p) (iN o) (-1) (iN 0)) _ _
      refine m_lasts_45 (iv := j4) (V0 := iv (x + 354)) (by rw [s4.1 23 (by omega), z1.2.2.2.1 23 (by omega)]; exact e1) (by rw [s4.1 24 (by omega), z1.2.2.2.1 24 (by omega)]; exact e2) hC.lS ho hp 61 0 gN (-1) (iv (x + 354)) j4 (by omega) (by rw [gN_eq]; omega) Sn.rf t4 (fun _ _ => rfl) hM4 (fun j5 s5 t5 u5 => ?_)
      rw [hans]
      unfold f_X8_lasts_92
      rw [gW_B, rMc H, gW_B]
      refine m_brings H t5 u5 (fun j6 a6 w6 => ?_)
      rw [gW_ret]
      have s6 : Sm x j4 j6 := Sn.m (s5.tr (Sn.wd a6)) (by rw [w6, hM4.vE])
      have s7 := s4.tr s6
      have RRf : RR x z b n (t + 1) j6 v := by
        have S37 : Sx x k3 j6 := z1.tr s7.S
        refine RR.put hR h1 h2 ⟨q, r, hq, hr, g3, g4, g5, g6⟩ hU (S3.tr S37.P) (b1.fr h8 h6 (fun k _ => by rw [S37.a (by omega), d1 _ (by omega)]) (fun a a1 a2 a3 => by rw [S37.a (by omega), d1 a (by omega)])) ?_ (by rw [S37.a (by omega)]; exact n354)
        rw [S37.a (by omega), d1 _ (by omega), b2, T1 _ (by omega) (by omega), p2]
      refine ⟨?_, ?_, RRf⟩
      · show j6 (x + 353) 0 = 0
        rw [s7.1 0 (by omega)]; exact z2
      · rw [oE0]
        show j6 (x + 369) 0 = ans
        rw [s7.a (by omega), z3 _ (by omega)]; exact d2
    · refine w_oneAt_f hC hc (fun a' jv v hT => ?_)
      simp only [gW_tr, gW_fa, gW_ret, cN1, cN2, cN3, cN4]
      refine op_thr hR hT (by decide) ?_
      unfold f_X8_lasts f_X8_lasts_22 f_X8_lasts_27
      refine m_z (hM.th hR.nx hT) (fun lv z1 z2 z3 hM2 => ?_)
      have H := hM2.M
      rw [gW_B, rMc H, gW_B, m_noProp_t hM2 hp, gW_ift rfl, gW_B, rMc H, gW_B, m_noOne_f hM2 hc, gW_iff (by decide), gW_B, rMc H, gW_B, m_thr1 H, gW_iff (by decide), gW_ret]
      exact m_te z1
  · refine w_propAt_f hC ha (fun a' jv v hT => ?_)
    simp only [gW_tr, gW_fa, gW_ret, cN1, cN2, cN3, cN4]
    refine op_thr hR hT (by decide) ?_
    unfold f_X8_lasts f_X8_lasts_22 f_X8_lasts_27
    refine m_z (hM.th hR.nx hT) (fun lv z1 z2 z3 hM2 => ?_)
    have H := hM2.M
    rw [gW_B, rMc H, gW_B, m_noProp_f hM2 ha, gW_iff (by decide), gW_B, rMc H, gW_B, m_thr1 H, gW_iff (by decide), gW_ret]
    exact m_te z1
end LST
