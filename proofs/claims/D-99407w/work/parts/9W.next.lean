/-! OPS: next, loudest -/
section NXT
variable {iv jv kv lv : gV} {u v : gU} {x z b n t : Nat} {V : Nat → Int32} {pn on : Nat} {L : gLw}
/-- the props' slots in the component -/
def cP3 (x : Nat) (iv : gV) (V : Nat → Int32) (pn : Nat) : Prop := ∀ p : Nat, p < pn → iv (x + 28 + 7 + p) 3 = V (9 + 4 * p + 3)
theorem cP3.q (h : cP3 x iv V pn) (h8 : pn ≤ 8) (hQ : cQ x iv jv) : cP3 x jv V pn := fun p hp => by rw [hQ _ (by omega) (by omega)]; exact h p hp
theorem CI.WN (hW : WI V pn on) {p s : Nat} (hp : p < pn) (hs : s < 10) (h2 : sIn V pn (iN s) = -1) : WI (va_up V (9 + 4 * p + 3) (iN s)) pn on := hW.slt hp (Or.inr ⟨s, hs, rfl⟩) (fun _ => sIn_none hW h2 (iN_eqm (by omega)))
/-- the component tries a prop in a slot -/
theorem c_tryN (hC : CI x iv u V pn on L) {p s : Nat} (hp : p < pn) (hs : s < 10) (h1 : V (9 + 4 * p + 3) = -1) (h2 : sIn V pn (iN s) = -1) {k : Int32 → gM Int32} {P : Int32 → g_H → Prop} (hP : ∀ kv : gV, cQ x iv kv → CI x kv u V pn on L → gW (k (gapS (va_up V (9 + 4 * p + 3) (iN s)) pn on L)) (kv, u) P) : gW (gB (gFR x 0 1) fun v108 => gB (gFR v108 2 3) fun v109 => gB (gSI v109 0 (iN s) (iN p)) fun _ => gB (gCk x 0) fun _ => gB (f_X1_gap x) fun r110 => gB (gFR x 0 1) fun v111 => gB (gFR v111 2 3) fun v112 => gB (gSI v112 0 (iN s) (-1 : Int32)) fun _ => k r110) (iv, u) P := by
  have HX := hC.X
  have h8 := hC.p8
  have WN := CI.WN hC.W hp hs h2
  have ne : iN s ≠ -1 := iN_eqm (by omega)
  rw [gW_B, rXr1 HX, gW_B, rSr3 HX.nw, gW_B, rSs3 HX.nw hs, gW_B, rXc HX, gW_B]
  have hC1 : CI x (g_u2 iv (x + 28 + 4) s (iN p)) u (va_up V (9 + 4 * p + 3) (iN s)) pn on L := by
    refine hC.slo WN (fun k hk => va_up_ne _ _ (by omega)) (fun d hd => g_u2_ne _ _ _ hd) (fun s' hs' => ?_)
    rw [g_u2_self]
    by_cases es : s' = s
    · have := sIn_found WN hp (by rw [va_up_self]; exact ne)
      rw [va_up_self] at this
      rw [es, va_up_self, this]
    · rw [va_up_ne _ _ es, hC.s hs']
      refine (sIn_iff (fun p' hp' => ?_)).symm
      by_cases ep : p' = p
      · subst ep
        rw [va_up_self, h1]
        exact ⟨fun q => absurd ((iN_eq (by omega) (by omega)).mp q) (fun q2 => es q2.symm), fun q => absurd q.symm (iN_eqm (by omega))⟩
      · rw [va_up_ne _ _ (by omega)]
  refine c_gap hC1 (fun k2 a2 hC2 => ?_)
  rw [gW_B, rXr1 HX, gW_B, rSr3 HX.nw, gW_B, rSs3 HX.nw hs]
  have q : cQ x iv (g_u2 k2 (x + 28 + 4) s (-1)) := fun d d1 d2 => by
    by_cases e : d = x + 28 + 4
    · subst e
      rw [g_u2_self, a2 _ (by omega) (by omega), g_u2_self, va_up_up]
      have : iv (x + 28 + 4) s = -1 := (hC.s hs).trans h2
      rw [← this]
      exact va_up_g _ _
    · rw [g_u2_ne _ _ _ e, a2 d d1 d2, g_u2_ne _ _ _ e]
  exact hP _ q (hC.fr q.S)
theorem m_tryN (hM : MI x iv u V pn on L) (hL : lS L) {p s : Nat} (hp : p < pn) (hs : s < 10) (h1 : V (9 + 4 * p + 3) = -1) (h2 : sIn V pn (iN s) = -1) {k : Int32 → gM Int32} {P : Int32 → g_H → Prop} (hP : ∀ kv : gV, Sm x iv kv → MI x kv u V pn on L → gW (k (gapS (va_up V (9 + 4 * p + 3) (iN s)) pn on L)) (kv, u) P) : gW (gB (gFR (x + 353) 7 1) fun v103 => gB (f_X8_propAt (iN p) (3 : Int32)) fun r104 => gB (gSI v103 0 r104 (iN s)) fun _ => gB (gCk (x + 353) 7) fun _ => gB (f_X8_gapNow (x + 353)) fun r105 => gB (gFR (x + 353) 7 1) fun v106 => gB (f_X8_propAt (iN p) (3 : Int32)) fun r107 => gB (gSI v106 0 r107 (-1 : Int32)) fun _ => k r105) (iv, u) P := by
  have H := hM.M
  have h8 := hM.p8
  have WN := CI.WN hM.W hp hs h2
  rw [gW_B, rMr0 H, gW_B, wpA.2.2.2, gW_B, rMs0 H (by omega), gW_B, rMc H, gW_B]
  have hM1 : MI x (g_u2 iv (x + 353 + 1) (9 + 4 * p + 3) (iN s)) u (va_up V (9 + 4 * p + 3) (iN s)) pn on L := hM.slo WN (fun k hk => va_up_ne _ _ (by omega)) (by rw [g_u2_self, hM.vE])
  refine m_gap hM1 hL (fun k2 a2 hM2 => ?_)
  rw [gW_B, rMr0 H, gW_B, wpA.2.2.2, gW_B, rMs0 H (by omega)]
  have q : Sm x iv (g_u2 k2 (x + 353 + 1) (9 + 4 * p + 3) (-1)) := ⟨fun i hi => by rw [g_u2_ne _ _ _ (by omega), a2.1 i hi, g_u2_ne _ _ _ (by omega)], fun d hd => by
    by_cases e : d = x + 353 + 1
    · subst e
      rw [g_u2_self, hM2.vE, va_up_up, ← h1, va_up_g, hM.vE]
    · rw [g_u2_ne _ _ _ e, a2.a hd, g_u2_ne _ _ _ e]⟩
  exact hP _ q (hM.fr q.S)
noncomputable def nxB (V : Nat → Int32) (pn on : Nat) (L : gLw) (p : Nat) : Nat → Nat → Int32 → Int32 → Int32 × Int32
  | 0, _, m, f => (m, f)
  | k + 1, s, m, f => if V (9 + 4 * p + 3) = -1 ∧ sIn V pn (iN s) = -1 ∧ m < gapS (va_up V (9 + 4 * p + 3) (iN s)) pn on L then nxB V pn on L p k (s + 1) (gapS (va_up V (9 + 4 * p + 3) (iN s)) pn on L) ((10 : Int32) * iN p + iN s) else nxB V pn on L p k (s + 1) m f
noncomputable def nxA (V : Nat → Int32) (pn on : Nat) (L : gLw) : Nat → Nat → Int32 → Int32 → Int32
  | 0, _, _, f => f
  | k + 1, p, m, f => nxA V pn on L k (p + 1) (nxB V pn on L p 10 0 m f).1 (nxB V pn on L p 10 0 m f).2
theorem c_next_22 {p : Nat} (hp : p < pn) {k9 : Nat → Int32 → Int32 → Int32 → gM Int32} {P : Int32 → g_H → Prop} : ∀ (k s N : Nat) (m f : Int32) (iv : gV), s + k = 10 → k < N → CI x iv u V pn on L → cP3 x iv V pn → (∀ kv : gV, cQ x iv kv → CI x kv u V pn on L → cP3 x kv V pn → gW (k9 x (nxB V pn on L p k s m f).1 (nxB V pn on L p k s m f).2 (iN (p + 1))) (kv, u) P) → gW (f_X1_next_22 k9 N x m f (iN p) (iN s)) (iv, u) P := by
  intro k
  induction k with
  | zero =>
    intro s N m f iv h1 h2 hC h3 hP
    obtain ⟨N, rfl⟩ : ∃ N', N = N' + 1 := ⟨N - 1, by omega⟩
    have : s = 10 := by omega
    subst this
    unfold f_X1_next_22 f_X1_next_116
    rw [gW_ift (by decide), iNp1]
    exact hP iv cQ.rf hC h3
  | succ k ih =>
    intro s N m f iv h1 h2 hC h3 hP
    obtain ⟨N, rfl⟩ : ∃ N', N = N' + 1 := ⟨N - 1, by omega⟩
    have HX := hC.X
    have h8 := hC.p8
    rw [nxB] at hP
    have skip : ¬ (V (9 + 4 * p + 3) = -1 ∧ sIn V pn (iN s) = -1) → gW (f_X1_next_110 (f_X1_next_22 k9 N) x m f (iN p) (iN s)) (iv, u) P := by
      intro hn
      rw [if_neg (fun q => hn ⟨q.1, q.2.1⟩)] at hP
      unfold f_X1_next_110
      rw [iNp1]
      exact ih (s + 1) N m f iv (by omega) (by omega) hC h3 hP
    rw [f_X1_next_22, gW_iff (by rw [show (10 : Int32) = iN 10 from rfl, iN_le (by omega) (by omega)]; omega), gW_B, rXr1 HX, gW_B, rSr0 HX.nw, gW_B, rSP HX.nw (by omega), gW_B, rSPi HX.nw (by omega), h3 p hp]
    by_cases c1 : V (9 + 4 * p + 3) = -1
    · rw [gW_ift c1, gW_B, rXr1 HX, gW_B, rSr3 HX.nw, gW_B, rSa3 HX.nw (by omega), hC.s (by omega)]
      by_cases c2 : sIn V pn (iN s) = -1
      · rw [gW_ift c2]
        refine c_tryN hC hp (show s < 10 by omega) c1 c2 (fun kv g1 g2 => ?_)
        unfold f_X1_next_110
        by_cases e : m < gapS (va_up V (9 + 4 * p + 3) (iN s)) pn on L
        · rw [if_pos ⟨c1, c2, e⟩] at hP
          rw [gW_ift e, iNp1]
          exact ih (s + 1) N _ _ kv (by omega) (by omega) g2 (h3.q h8 g1) (fun lv q1 q2 q3 => hP lv (g1.tr q1) q2 q3)
        · rw [if_neg (fun q => e q.2.2)] at hP
          rw [gW_iff e, iNp1]
          exact ih (s + 1) N _ _ kv (by omega) (by omega) g2 (h3.q h8 g1) (fun lv q1 q2 q3 => hP lv (g1.tr q1) q2 q3)
      · rw [gW_iff c2]
        exact skip (fun q => c2 q.2)
    · rw [gW_iff c1]
      exact skip (fun q => c1 q.1)
theorem c_next_8 {P : Int32 → g_H → Prop} : ∀ (k p N : Nat) (m f : Int32) (iv : gV), p + k = pn → k < N → CI x iv u V pn on L → cP3 x iv V pn → (∀ kv : gV, cQ x iv kv → CI x kv u V pn on L → P (nxA V pn on L k p m f) (kv, u)) → gW (f_X1_next_8 N x m f (iN p)) (iv, u) P := by
  intro k
  induction k with
  | zero =>
    intro p N m f iv h1 h2 hC h3 hP
    obtain ⟨N, rfl⟩ : ∃ N', N = N' + 1 := ⟨N - 1, by omega⟩
    have HX := hC.X
    have h8 := hC.p8
    unfold f_X1_next_8 f_X1_next_122
    rw [gW_B, rXr1 HX, gW_B, rSi HX.nw, hC.pN, gW_ift (by rw [iN_le (by omega) (by omega)]; omega), gW_ret]
    exact hP iv cQ.rf hC
  | succ k ih =>
    intro p N m f iv h1 h2 hC h3 hP
    obtain ⟨N, rfl⟩ : ∃ N', N = N' + 1 := ⟨N - 1, by omega⟩
    have HX := hC.X
    have h8 := hC.p8
    rw [f_X1_next_8, gW_B, rXr1 HX, gW_B, rSi HX.nw, hC.pN, gW_iff (by rw [iN_le (by omega) (by omega)]; omega)]
    rw [nxA] at hP
    show gW (f_X1_next_22 (f_X1_next_8 N) gN x m f (iN p) (iN 0)) _ _
    refine c_next_22 (show p < pn by omega) 10 0 gN m f iv (by omega) (by rw [gN_eq]; omega) hC h3 (fun kv g1 g2 g3 => ?_)
    exact ih (p + 1) N _ _ kv (by omega) (by omega) g2 g3 (fun lv q1 q2 => hP lv (g1.tr q1) q2)
theorem m_next_24 (hL : lS L) {p : Nat} (hp : p < pn) {k9 : Nat → Int32 → Int32 → Int32 → gM Int32} {P : Int32 → g_H → Prop} : ∀ (k s N : Nat) (m f : Int32) (iv : gV), s + k = 10 → k < N → MI x iv u V pn on L → (∀ kv : gV, Sm x iv kv → MI x kv u V pn on L → gW (k9 (x + 353) (nxB V pn on L p k s m f).2 (nxB V pn on L p k s m f).1 (iN (p + 1))) (kv, u) P) → gW (f_X8_next_24 k9 N (x + 353) f m (iN p) (iN s)) (iv, u) P := by
  intro k
  induction k with
  | zero =>
    intro s N m f iv h1 h2 hM hP
    obtain ⟨N, rfl⟩ : ∃ N', N = N' + 1 := ⟨N - 1, by omega⟩
    have : s = 10 := by omega
    subst this
    unfold f_X8_next_24 f_X8_next_112
    rw [gW_ift (by decide), iNp1]
    exact hP iv Sm.rf hM
  | succ k ih =>
    intro s N m f iv h1 h2 hM hP
    obtain ⟨N, rfl⟩ : ∃ N', N = N' + 1 := ⟨N - 1, by omega⟩
    have H := hM.M
    have h8 := hM.p8
    rw [nxB] at hP
    have skip : ¬ (V (9 + 4 * p + 3) = -1 ∧ sIn V pn (iN s) = -1) → gW (f_X8_next_106 (f_X8_next_24 k9 N) (x + 353) f m (iN p) (iN s)) (iv, u) P := by
      intro hn
      rw [if_neg (fun q => hn ⟨q.1, q.2.1⟩)] at hP
      unfold f_X8_next_106
      rw [iNp1]
      exact ih (s + 1) N m f iv (by omega) (by omega) hM hP
    rw [f_X8_next_24, gW_iff (by rw [show (10 : Int32) = iN 10 from rfl, iN_le (by omega) (by omega)]; omega), gW_B, rMc H, gW_B, w_isNailed H (by omega), hM.vE]
    by_cases c1 : V (9 + 4 * p + 3) = -1
    · rw [bI_f (fun q => q c1), gW_ift rfl, gW_B, rMc H, gW_B, w_propIn H hM.pN h8, hM.vE]
      by_cases c2 : sIn V pn (iN s) = -1
      · rw [gW_ift c2]
        refine m_tryN hM hL hp (show s < 10 by omega) c1 c2 (fun kv g1 g2 => ?_)
        unfold f_X8_next_98 f_X8_next_106
        by_cases e : m < gapS (va_up V (9 + 4 * p + 3) (iN s)) pn on L
        · rw [if_pos ⟨c1, c2, e⟩] at hP
          rw [gW_iff (Int32.not_le.mpr e), gW_B, w_max, show mX m (gapS (va_up V (9 + 4 * p + 3) (iN s)) pn on L) = _ from if_pos e, iNp1]
          exact ih (s + 1) N _ _ kv (by omega) (by omega) g2 (fun lv q1 q2 => hP lv (g1.tr q1) q2)
        · rw [if_neg (fun q => e q.2.2)] at hP
          rw [gW_ift (Int32.not_lt.mp e), gW_B, w_max, show mX m (gapS (va_up V (9 + 4 * p + 3) (iN s)) pn on L) = m from if_neg e, iNp1]
          exact ih (s + 1) N _ _ kv (by omega) (by omega) g2 (fun lv q1 q2 => hP lv (g1.tr q1) q2)
      · rw [gW_iff c2]
        exact skip (fun q => c2 q.2)
    · rw [bI_t c1, gW_iff (by decide)]
      exact skip (fun q => c1 q.1)
theorem m_next_13 (hL : lS L) {P : Int32 → g_H → Prop} : ∀ (k p N : Nat) (m f : Int32) (iv : gV), p + k = pn → k < N → MI x iv u V pn on L → (∀ kv : gV, Sm x iv kv → MI x kv u V pn on L → P (nxA V pn on L k p m f) (kv, u)) → gW (f_X8_next_13 N (x + 353) f m (iN p)) (iv, u) P := by
  intro k
  induction k with
  | zero =>
    intro p N m f iv h1 h2 hM hP
    obtain ⟨N, rfl⟩ : ∃ N', N = N' + 1 := ⟨N - 1, by omega⟩
    have H := hM.M
    have h8 := hM.p8
    unfold f_X8_next_13 f_X8_next_118
    rw [gW_B, rMc H, gW_B, w_props H, hM.pN, gW_ift (by rw [iN_le (by omega) (by omega)]; omega), gW_ret]
    exact hP iv Sm.rf hM
  | succ k ih =>
    intro p N m f iv h1 h2 hM hP
    obtain ⟨N, rfl⟩ : ∃ N', N = N' + 1 := ⟨N - 1, by omega⟩
    have H := hM.M
    have h8 := hM.p8
    rw [f_X8_next_13, gW_B, rMc H, gW_B, w_props H, hM.pN, gW_iff (by rw [iN_le (by omega) (by omega)]; omega)]
    rw [nxA] at hP
    show gW (f_X8_next_24 (f_X8_next_13 N) gN (x + 353) f m (iN p) (iN 0)) _ _
    refine m_next_24 hL (show p < pn by omega) 10 0 gN m f iv (by omega) (by rw [gN_eq]; omega) hM (fun kv g1 g2 => ?_)
    exact ih (p + 1) N _ _ kv (by omega) (by omega) g2 (fun lv q1 q2 => hP lv (g1.tr q1) q2)
theorem o_next : gOp1 x z b n t (f_X1_next x) (f_X8_next (x + 353)) := by
  intro iv u hR
  obtain ⟨pn, on, rm, L, hC, hM, h1⟩ := hR.get
  have h8 := hC.p8
  unfold f_X1_next
  show gW (f_X1_next_8 gN x (-100000000) (-1) (iN 0)) _ _
  refine c_next_8 pn 0 gN _ _ iv (by omega) (by rw [gN_eq]; omega) hC (fun p hp => h1.1.2.1 p hp 3 (by decide)) (fun kv g1 g2 => ?_)
  refine op_end1 hR g1.S ?_
  unfold f_X8_next
  refine m_z (hM.fr g1.S) (fun lv z1 z2 z3 hM2 => ?_)
  show gW (f_X8_next_13 gN (x + 353) (-1) (-100000000) (iN 0)) _ _
  exact m_next_13 hC.lS pn 0 gN _ _ lv (by omega) (by rw [gN_eq]; omega) hM2 (fun mv m1 m2 => ⟨rfl, rfl, z1.tr m1.S⟩)
/-! loudest -/
noncomputable def ldF (V : Nat → Int32) (pn : Nat) (L : gLw) (s : Nat) : Nat → Nat → Int32 → Int32
  | 0, _, y => y
  | k + 1, o, y => ldF V pn L s k (o + 1) (if V (41 + 4 * o + 3) = 0 then y + iN (atO V pn L o s) else y)
noncomputable def loY (V : Nat → Int32) (pn on : Nat) (L : gLw) (p : Nat) : Int32 := if V (9 + 4 * p + 3) = -1 then 0 else ldF V pn L (V (9 + 4 * p + 3)).toNatClampNeg on 0 0
noncomputable def loA (V : Nat → Int32) (pn on : Nat) (L : gLw) : Nat → Nat → Int32 → Int32 → Int32
  | 0, _, f, _ => f
  | k + 1, p, f, m => if m < loY V pn on L p then loA V pn on L k (p + 1) (iN p) (loY V pn on L p) else loA V pn on L k (p + 1) f m
theorem c_loud_4 {p s : Nat} (hp : p < pn) (hs : s < 10) (hV : V (9 + 4 * p + 3) = iN s) {P : Int32 → g_H → Prop} : ∀ (k o N : Nat) (y : Int32) (iv : gV), o + k = on → k < N → CI x iv u V pn on L → cP3 x iv V pn → (∀ kv : gV, cQ x iv kv → CI x kv u V pn on L → P (ldF V pn L s k o y) (kv, u)) → gW (f_X1_loud_4 N x (iN p) y (iN o)) (iv, u) P := by
  intro k
  induction k with
  | zero =>
    intro o N y iv h1 h2 hC h3 hP
    obtain ⟨N, rfl⟩ : ∃ N', N = N' + 1 := ⟨N - 1, by omega⟩
    have HX := hC.X
    have h6 := hC.o6
    unfold f_X1_loud_4 f_X1_loud_78
    rw [gW_B, rXr1 HX, gW_B, rSi HX.nw, hC.oN, gW_ift (by rw [iN_le (by omega) (by omega)]; omega), gW_ret]
    exact hP iv cQ.rf hC
  | succ k ih =>
    intro o N y iv h1 h2 hC h3 hP
    obtain ⟨N, rfl⟩ : ∃ N', N = N' + 1 := ⟨N - 1, by omega⟩
    have HX := hC.X
    have h6 := hC.o6
    have h8 := hC.p8
    have ho : o < on := by omega
    have o3 := hC.o (f := 3) ho (by decide)
    rw [f_X1_loud_4, gW_B, rXr1 HX, gW_B, rSi HX.nw, hC.oN, gW_iff (by rw [iN_le (by omega) (by omega)]; omega), gW_B, rXr1 HX, gW_B, rSr1 HX.nw, gW_B, rSO HX.nw (by omega), gW_B, rSOi HX.nw (by omega), o3]
    unfold f_X1_loud_72
    rw [ldF] at hP
    by_cases c : V (41 + 4 * o + 3) = 0
    · rw [if_pos c] at hP
      rw [gW_ift c, gW_B, rXr5 HX, gW_B, rXr1 HX, gW_B, rSr1 HX.nw, gW_B, rSO HX.nw (by omega), gW_B, rWc HX, gW_B]
      refine c_cnt hC ho (fun kv g1 g2 g3 g4 g5 => ?_)
      rw [gW_B, rXr5 HX, gW_B, rWr2 HX, gW_B, rXr1 HX, gW_B, rSr0 HX.nw, gW_B, rSP HX.nw (by omega), gW_B, rSPi HX.nw (by omega), (h3.q h8 g1) p hp, hV, gW_B, rWa2 HX hs, g3 s hs, iNp1]
      exact ih (o + 1) N _ kv (by omega) (by omega) g2 (h3.q h8 g1) (fun lv q1 q2 => hP lv (g1.tr q1) q2)
    · rw [if_neg c] at hP
      rw [gW_iff c, iNp1]
      exact ih (o + 1) N _ iv (by omega) (by omega) hC h3 hP
theorem c_loudest_6 {P : Int32 → g_H → Prop} : ∀ (k p N : Nat) (f m : Int32) (iv : gV), p + k = pn → k < N → CI x iv u V pn on L → cP3 x iv V pn → (∀ kv : gV, cQ x iv kv → CI x kv u V pn on L → P (loA V pn on L k p f m) (kv, u)) → gW (f_X1_loudest_6 N x f m (iN p)) (iv, u) P := by
  intro k
  induction k with
  | zero =>
    intro p N f m iv h1 h2 hC h3 hP
    obtain ⟨N, rfl⟩ : ∃ N', N = N' + 1 := ⟨N - 1, by omega⟩
    have HX := hC.X
    have h8 := hC.p8
    unfold f_X1_loudest_6 f_X1_loudest_64
    rw [gW_B, rXr1 HX, gW_B, rSi HX.nw, hC.pN, gW_ift (by rw [iN_le (by omega) (by omega)]; omega), gW_ret]
    exact hP iv cQ.rf hC
  | succ k ih =>
    intro p N f m iv h1 h2 hC h3 hP
    obtain ⟨N, rfl⟩ : ∃ N', N = N' + 1 := ⟨N - 1, by omega⟩
    have HX := hC.X
    have h8 := hC.p8
    have h6 := hC.o6
    have hp : p < pn := by omega
    rw [f_X1_loudest_6, gW_B, rXr1 HX, gW_B, rSi HX.nw, hC.pN, gW_iff (by rw [iN_le (by omega) (by omega)]; omega), gW_B, rXr1 HX, gW_B, rSr0 HX.nw, gW_B, rSP HX.nw (by omega), gW_B, rSPi HX.nw (by omega), h3 p hp]
    rw [loA] at hP
    have key : ∀ (y : Int32) (jv : gV), y = loY V pn on L p → cQ x iv jv → CI x jv u V pn on L → gW (f_X1_loudest_42 (f_X1_loudest_6 N) x f m (iN p) y) (jv, u) P := by
      intro y jv hy g1 g2
      unfold f_X1_loudest_42 f_X1_loudest_58
      rw [← hy] at hP
      by_cases e : m < y
      · rw [if_pos e] at hP
        rw [gW_ift e, iNp1]
        exact ih (p + 1) N _ _ jv (by omega) (by omega) g2 (h3.q h8 g1) (fun lv q1 q2 => hP lv (g1.tr q1) q2)
      · rw [if_neg e] at hP
        rw [gW_iff e, iNp1]
        exact ih (p + 1) N _ _ jv (by omega) (by omega) g2 (h3.q h8 g1) (fun lv q1 q2 => hP lv (g1.tr q1) q2)
    rcases (hC.W.2.1 p hp).1 with c | ⟨s, hs, c⟩
    · rw [gW_ift c]
      exact key 0 iv (by unfold loY; rw [if_pos c]) cQ.rf hC
    · have ne : ¬ V (9 + 4 * p + 3) = -1 := by rw [c]; exact iN_eqm (by omega)
      rw [gW_iff ne, gW_B, rXc HX, gW_B]
      unfold f_X1_loud
      show gW (f_X1_loud_4 gN x (iN p) 0 (iN 0)) _ _
      refine c_loud_4 hp hs c on 0 gN 0 iv (by omega) (by rw [gN_eq]; omega) hC h3 (fun kv g1 g2 => ?_)
      exact key _ kv (by unfold loY; rw [if_neg ne, c, iN_c (by omega)]) g1 g2
theorem m_loudest_25 (hL : lS L) {p s : Nat} (hp : p < pn) (hs : s < 10) (hV : V (9 + 4 * p + 3) = iN s) {f m : Int32} {k11 : Nat → Int32 → Int32 → Int32 → gM Int32} {P : Int32 → g_H → Prop} : ∀ (k o N : Nat) (y : Int32) (iv : gV), o + k = on → k < N → MI x iv u V pn on L → (∀ kv : gV, Sm x iv kv → MI x kv u V pn on L → gW (f_X8_loudest_82 k11 (x + 353) f m (iN p) (ldF V pn L s k o y)) (kv, u) P) → gW (f_X8_loudest_25 k11 N (x + 353) f m (iN p) y (iN o)) (iv, u) P := by
  intro k
  induction k with
  | zero =>
    intro o N y iv h1 h2 hM hP
    obtain ⟨N, rfl⟩ : ∃ N', N = N' + 1 := ⟨N - 1, by omega⟩
    have H := hM.M
    have h6 := hM.o6
    rw [f_X8_loudest_25, gW_B, rMc H, gW_B, w_oneCount H, hM.oN, gW_ift (by rw [iN_le (by omega) (by omega)]; omega)]
    exact hP iv Sm.rf hM
  | succ k ih =>
    intro o N y iv h1 h2 hM hP
    obtain ⟨N, rfl⟩ : ∃ N', N = N' + 1 := ⟨N - 1, by omega⟩
    have H := hM.M
    have h6 := hM.o6
    have h8 := hM.p8
    have ho : o < on := by omega
    have ne : ¬ V (9 + 4 * p + 3) = -1 := by rw [hV]; exact iN_eqm (by omega)
    rw [f_X8_loudest_25, gW_B, rMc H, gW_B, w_oneCount H, hM.oN, gW_iff (by rw [iN_le (by omega) (by omega)]; omega), gW_B, rMc H, gW_B, w_isNailed H (by omega), hM.vE, bI_t ne, gW_iff (by decide), gW_B, rMc H, gW_B, w_waits H (by omega), hM.vE]
    unfold f_X8_loudest_76
    rw [ldF] at hP
    by_cases c : V (41 + 4 * o + 3) = 0
    · rw [if_pos c] at hP
      rw [bI_t c, gW_iff (by decide), gW_B, rMc H, gW_B]
      refine m_lays hM hL ho (fun kv g1 g2 g3 g4 => ?_)
      rw [gW_B, rMr13 H, gW_B, rMc H, gW_B, w_ofProp3 H (by omega), g2.vE, hV, gW_B, rMa13 H hs, show kv (x + 353 + 14) s = iN (atO V pn L o s) from g3 s hs, iNp1]
      exact ih (o + 1) N _ kv (by omega) (by omega) g2 (fun lv q1 q2 => hP lv (g1.tr q1) q2)
    · rw [if_neg c] at hP
      rw [bI_f c, gW_ift rfl, iNp1]
      exact ih (o + 1) N _ iv (by omega) (by omega) hM hP
theorem m_loudest_11 (hL : lS L) {P : Int32 → g_H → Prop} : ∀ (k p N : Nat) (f m : Int32) (iv : gV), p + k = pn → k < N → MI x iv u V pn on L → (∀ kv : gV, Sm x iv kv → MI x kv u V pn on L → P (loA V pn on L k p f m) (kv, u)) → gW (f_X8_loudest_11 N (x + 353) f m (iN p)) (iv, u) P := by
  intro k
  induction k with
  | zero =>
    intro p N f m iv h1 h2 hM hP
    obtain ⟨N, rfl⟩ : ∃ N', N = N' + 1 := ⟨N - 1, by omega⟩
    have H := hM.M
    have h8 := hM.p8
    unfold f_X8_loudest_11 f_X8_loudest_107
    rw [gW_B, rMc H, gW_B, w_props H, hM.pN, gW_ift (by rw [iN_le (by omega) (by omega)]; omega), gW_ret]
    exact hP iv Sm.rf hM
  | succ k ih =>
    intro p N f m iv h1 h2 hM hP
    obtain ⟨N, rfl⟩ : ∃ N', N = N' + 1 := ⟨N - 1, by omega⟩
    have H := hM.M
    have h8 := hM.p8
    have h6 := hM.o6
    have hp : p < pn := by omega
    rw [f_X8_loudest_11, gW_B, rMc H, gW_B, w_props H, hM.pN, gW_iff (by rw [iN_le (by omega) (by omega)]; omega)]
    rw [loA] at hP
    have key : ∀ (y : Int32) (jv : gV), y = loY V pn on L p → Sm x iv jv → MI x jv u V pn on L → gW (f_X8_loudest_82 (f_X8_loudest_11 N) (x + 353) f m (iN p) y) (jv, u) P := by
      intro y jv hy g1 g2
      unfold f_X8_loudest_82 f_X8_loudest_93
      rw [← hy] at hP
      by_cases e : m < y
      · rw [if_pos e] at hP
        rw [gW_iff (Int32.not_le.mpr e), gW_B, w_max, show mX m y = y from if_pos e, iNp1]
        exact ih (p + 1) N _ _ jv (by omega) (by omega) g2 (fun lv q1 q2 => hP lv (g1.tr q1) q2)
      · rw [if_neg e] at hP
        rw [gW_ift (Int32.not_lt.mp e), gW_B, w_max, show mX m y = m from if_neg e, iNp1]
        exact ih (p + 1) N _ _ jv (by omega) (by omega) g2 (fun lv q1 q2 => hP lv (g1.tr q1) q2)
    show gW (f_X8_loudest_25 (f_X8_loudest_11 N) gN (x + 353) f m (iN p) 0 (iN 0)) _ _
    rcases (hM.W.2.1 p hp).1 with c | ⟨s, hs, c⟩
    · obtain ⟨G, hG⟩ : ∃ G, gN = G + 1 := ⟨gN - 1, by rw [gN_eq]⟩
      rw [hG, f_X8_loudest_25, gW_B, rMc H, gW_B, w_oneCount H, hM.oN]
      have k0 := key 0 iv (by unfold loY; rw [if_pos c]) Sm.rf hM
      by_cases c0 : iN on ≤ iN 0
      · rw [gW_ift c0]; exact k0
      · rw [gW_iff c0, gW_B, rMc H, gW_B, w_isNailed H (by omega), hM.vE, bI_f (fun q => q c), gW_ift rfl]; exact k0
    · have ne : ¬ V (9 + 4 * p + 3) = -1 := by rw [c]; exact iN_eqm (by omega)
      refine m_loudest_25 hL hp hs c on 0 gN 0 iv (by omega) (by rw [gN_eq]; omega) hM (fun kv g1 g2 => ?_)
      exact key _ kv (by unfold loY; rw [if_neg ne, c, iN_c (by omega)]) g1 g2
theorem o_loudest : gOp1 x z b n t (f_X1_loudest x) (f_X8_loudest (x + 353)) := by
  intro iv u hR
  obtain ⟨pn, on, rm, L, hC, hM, h1⟩ := hR.get
  have h8 := hC.p8
  unfold f_X1_loudest
  show gW (f_X1_loudest_6 gN x (-1) 0 (iN 0)) _ _
  refine c_loudest_6 pn 0 gN _ _ iv (by omega) (by rw [gN_eq]; omega) hC (fun p hp => h1.1.2.1 p hp 3 (by decide)) (fun kv g1 g2 => ?_)
  refine op_end1 hR g1.S ?_
  unfold f_X8_loudest
  refine m_z (hM.fr g1.S) (fun lv z1 z2 z3 hM2 => ?_)
  show gW (f_X8_loudest_11 gN (x + 353) (-1) 0 (iN 0)) _ _
  exact m_loudest_11 hC.lS pn 0 gN _ _ lv (by omega) (by rw [gN_eq]; omega) hM2 (fun mv m1 m2 => ⟨rfl, rfl, z1.tr m1.S⟩)
end NXT
