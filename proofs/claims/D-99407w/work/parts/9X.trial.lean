/-! OPS: trial, span -/
section TRI
variable {iv jv kv lv : gV} {u v : gU} {x z b n t : Nat} {V : Nat → Int32} {pn on : Nat} {L : gLw}
theorem g_u2_2 (f : gV) (a k : Nat) (y z : Int32) : g_u2 (g_u2 f a k y) a k z = g_u2 f a k z := by
  funext c
  by_cases h : c = a
  · subst h; rw [g_u2_self, g_u2_self, g_u2_self, va_up_up]
  · rw [g_u2_ne _ _ _ h, g_u2_ne _ _ _ h, g_u2_ne _ _ _ h]
theorem Sx.w (h : Sx x iv jv) (y : Int32) : Sx x (g_u2 iv (x + 28) 13 y) (g_u2 jv (x + 28) 13 y) := by
  refine ⟨fun k a b c => ?_, ?_, fun k a => ?_, fun k a => ?_, fun a q => ?_⟩
  · rw [g_u2_ne _ _ _ (by omega), g_u2_ne _ _ _ (by omega)]; exact h.1 k a b c
  · rw [g_u2_ne _ _ _ (by omega), g_u2_ne _ _ _ (by omega)]; exact h.2.1
  · rw [g_u2_ne _ _ _ (by omega), g_u2_ne _ _ _ (by omega)]; exact h.2.2.1 k a
  · rw [g_u2_ne _ _ _ (by omega), g_u2_ne _ _ _ (by omega)]; exact h.2.2.2.1 k a
  · by_cases e : a = x + 28
    · rw [e, g_u2_self, g_u2_self, h.a (by omega)]
    · rw [g_u2_ne _ _ _ e, g_u2_ne _ _ _ e]; exact h.a q
theorem Sm.w (h : Sm x iv jv) (y : Int32) : Sm x (g_u2 iv (x + 353 + 1) 8 y) (g_u2 jv (x + 353 + 1) 8 y) := by
  refine ⟨fun k a => ?_, fun a q => ?_⟩
  · rw [g_u2_ne _ _ _ (by omega), g_u2_ne _ _ _ (by omega)]; exact h.1 k a
  · by_cases e : a = x + 353 + 1
    · rw [e, g_u2_self, g_u2_self, h.a (by omega)]
    · rw [g_u2_ne _ _ _ e, g_u2_ne _ _ _ e]; exact h.a q
theorem WI.sd (hW : WI V pn on) (y : Int32) : WI (va_up V 8 y) pn on := hW.fld (by decide) (fun q => absurd q (by decide)) (fun q => absurd q (by decide)) (fun q => absurd q (by decide)) (fun q => absurd q (by decide))
theorem CI.sdd (hC : CI x iv u V pn on L) (y : Int32) : CI x (g_u2 iv (x + 28) 13 y) u (va_up V 8 y) pn on L := by
  obtain ⟨c1, ⟨s1, s2, s3, s4, s5, sp, so, sl⟩, c3, c4, c5⟩ := hC
  have h8 := c3.1.2.1
  have h6 := c3.1.2.2.2
  refine ⟨c1, ⟨?_, ?_, ?_, ?_, ?_, fun p hp f hf => ?_, fun o ho f hf => ?_, fun s hs => ?_⟩, c3.sd y, c4.fr Ux.rf (fun a _ _ => g_u2_ne _ _ _ (by omega)) (by rw [g_u2_self, va_up_ne _ _ (by decide)]) (by omega), c5⟩
  · rw [g_u2_self, va_up_ne _ _ (by decide)]; exact s1
  · rw [g_u2_self, va_up_ne _ _ (by decide)]; exact s2
  · rw [g_u2_self, va_up_ne _ _ (by decide), va_up_ne _ _ (by decide)]; exact s3
  · rw [g_u2_self, va_up_ne _ _ (by decide), va_up_ne _ _ (by decide)]; exact s4
  · rw [g_u2_self, va_up_self, va_up_self]
  · rw [g_u2_ne _ _ _ (by omega), va_up_ne _ _ (by omega)]; exact sp p hp f hf
  · rw [g_u2_ne _ _ _ (by omega), va_up_ne _ _ (by omega)]; exact so o ho f hf
  · rw [g_u2_ne _ _ _ (by omega), sIn_seed]; exact sl s hs
theorem MI.sdd (hM : MI x iv u V pn on L) (y : Int32) : MI x (g_u2 iv (x + 353 + 1) 8 y) u (va_up V 8 y) pn on L := ⟨hM.1, by rw [g_u2_self, hM.vE], hM.W.sd y, mL_seed hM.lL⟩
/-- seeds are drawn: the component; the model -/
def cDw (x : Nat) (iv : gV) (u : gU) (V : Nat → Int32) (pn on : Nat) (L : gLw) (y : Int32) (jv : gV) : Prop := Sx x (g_u2 iv (x + 28) 13 y) jv ∧ CI x jv u (va_up V 8 y) pn on L
def mDw (x : Nat) (iv : gV) (u : gU) (V : Nat → Int32) (pn on : Nat) (L : gLw) (y : Int32) (jv : gV) : Prop := Sm x (g_u2 iv (x + 353 + 1) 8 y) jv ∧ MI x jv u (va_up V 8 y) pn on L
def trR (V : Nat → Int32) (pn : Nat) (L : gLw) (o : Nat) (y : Int32) : gRz := rO (va_up V 8 y) pn L o true false 0 0
def tr1 (V : Nat → Int32) (pn : Nat) (L : gLw) : Nat → Nat → Int32 × Int32 → Int32 × Int32
  | 0, _, z => z
  | k + 1, o, z => tr1 V pn L k (o + 1) (if V (41 + 4 * o + 3) = 0 then ((trR V pn L o z.1).1.2.2.1, z.2 + (if (trR V pn L o z.1).2.1 = -1 then 0 else 1)) else z)
def trN (V : Nat → Int32) (pn on : Nat) (L : gLw) : Nat → Int32 × Int32 → Int32 × Int32
  | 0, z => z
  | k + 1, z => trN V pn on L k (tr1 V pn L on 0 z)
theorem c_go_12 (h17 : iv x 17 = -1) {nn i : Int32} {k4 : Nat → Int32 → Int32 → Int32 → gM Int32} {P : Int32 → g_H → Prop} : ∀ (k o N : Nat) (z : Int32 × Int32) (jv : gV), o + k = on → k < N → cDw x iv u V pn on L z.1 jv → (∀ kv : gV, cDw x iv u V pn on L (tr1 V pn L k o z).1 kv → gW (k4 x nn (tr1 V pn L k o z).2 (i + 1)) (kv, u) P) → gW (f_X1_goOn_12 k4 N x nn z.2 i (iN o)) (jv, u) P := by
  intro k
  induction k with
  | zero =>
    intro o N z jv h1 h2 hD hP
    obtain ⟨N, rfl⟩ : ∃ N', N = N' + 1 := ⟨N - 1, by omega⟩
    have HX := hD.2.X
    have h6 := hD.2.o6
    unfold f_X1_goOn_12 f_X1_goOn_80
    rw [gW_B, rXr1 HX, gW_B, rSi HX.nw, hD.2.oN, gW_ift (by rw [iN_le (by omega) (by omega)]; omega)]
    exact hP jv hD
  | succ k ih =>
    intro o N z jv h1 h2 hD hP
    obtain ⟨N, rfl⟩ : ∃ N', N = N' + 1 := ⟨N - 1, by omega⟩
    have hC := hD.2
    have HX := hC.X
    have h6 := hC.o6
    have ho : o < on := by omega
    have o3 := hC.o (f := 3) ho (by decide)
    rw [va_up_ne _ _ (by omega)] at o3
    rw [f_X1_goOn_12, gW_B, rXr1 HX, gW_B, rSi HX.nw, hC.oN, gW_iff (by rw [iN_le (by omega) (by omega)]; omega), gW_B, rXr1 HX, gW_B, rSr1 HX.nw, gW_B, rSO HX.nw (by omega), gW_B, rSOi HX.nw (by omega), o3]
    unfold f_X1_goOn_72 f_X1_goOn_74
    rw [tr1] at hP
    by_cases c : V (41 + 4 * o + 3) = 0
    · rw [if_pos c] at hP
      obtain ⟨r, hr⟩ : ∃ r, trR V pn L o z.1 = r := ⟨_, rfl⟩
      rw [hr] at hP
      have e17 : jv x 17 = -1 := by rw [hD.1.1 17 (by decide) (by decide) (by decide), g_u2_ne _ _ _ (by omega)]; exact h17
      rw [gW_ift c, gW_B, rXr1 HX, gW_B, rSr1 HX.nw, gW_B, rSO HX.nw (by omega), gW_B, rXc HX, gW_B]
      have key := c_rides (dr := true) (P := fun _ h1 => gW (gB (gFI x 0 14) fun v111 => gIf (v111 = (-1 : Int32)) (f_X1_goOn_12 k4 N x nn (z.2 + (0 : Int32)) i (iN o + 1)) (f_X1_goOn_12 k4 N x nn (z.2 + (1 : Int32)) i (iN o + 1))) h1 P) hC (Or.inl e17) (hC.sO ho) (fun kv hB => ?_)
      · rw [bI_t rfl] at key
        exact key
      · rw [hC.o ho (by decide), hC.o ho (by decide), hC.o ho (by decide), e17, eSet_m1] at hB
        have hB : cB x jv kv r := by rw [← hr]; exact hB
        clear hr
        obtain ⟨b1, b2, b3, b4, b5, b6⟩ := hB
        have hD2 : cDw x iv u V pn on L r.1.2.2.1 kv := by
          refine ⟨?_, ?_⟩
          · have := (hD.1.w r.1.2.2.1).tr b1
            rw [g_u2_2] at this
            exact this
          · have := (hC.sdd r.1.2.2.1).fr b1
            rw [va_up_up] at this
            exact this
        rw [gW_B, rXi HX, b2]
        by_cases c2 : r.2.1 = -1
        · rw [if_pos c2] at hP
          rw [gW_ift c2, iNp1]
          exact ih (o + 1) N (_, _) kv (by omega) (by omega) hD2 hP
        · rw [if_neg c2] at hP
          rw [gW_iff c2, iNp1]
          exact ih (o + 1) N (_, _) kv (by omega) (by omega) hD2 hP
    · rw [if_neg c] at hP
      rw [gW_iff c, iNp1]
      exact ih (o + 1) N z jv (by omega) (by omega) hD hP
theorem c_go_4 (h17 : iv x 17 = -1) {nn : Nat} (hn : nn < 1000) {P : Int32 → g_H → Prop} : ∀ (k i N : Nat) (z : Int32 × Int32) (jv : gV), i + k = nn → k < N → cDw x iv u V pn on L z.1 jv → (∀ kv : gV, cDw x iv u V pn on L (trN V pn on L k z).1 kv → P (trN V pn on L k z).2 (kv, u)) → gW (f_X1_goOn_4 N x (iN nn) z.2 (iN i)) (jv, u) P := by
  intro k
  induction k with
  | zero =>
    intro i N z jv h1 h2 hD hP
    obtain ⟨N, rfl⟩ : ∃ N', N = N' + 1 := ⟨N - 1, by omega⟩
    unfold f_X1_goOn_4 f_X1_goOn_86
    rw [gW_ift (by rw [iN_le (by omega) (by omega)]; omega), gW_ret]
    exact hP jv hD
  | succ k ih =>
    intro i N z jv h1 h2 hD hP
    obtain ⟨N, rfl⟩ : ∃ N', N = N' + 1 := ⟨N - 1, by omega⟩
    have h6 := hD.2.o6
    rw [f_X1_goOn_4, gW_iff (by rw [iN_le (by omega) (by omega)]; omega)]
    show gW (f_X1_goOn_12 (f_X1_goOn_4 N) gN x (iN nn) z.2 (iN i) (iN 0)) _ _
    refine c_go_12 h17 on 0 gN z jv (by omega) (by rw [gN_eq]; omega) hD (fun kv h3 => ?_)
    rw [iNp1]
    exact ih (i + 1) N _ kv (by omega) (by omega) h3 hP
theorem m_go_12 (h23 : iv (x + 353) 23 = 0) (h24 : iv (x + 353) 24 = 0) {nn i : Int32} {k4 : Nat → Int32 → Int32 → Int32 → gM Int32} {P : Int32 → g_H → Prop} : ∀ (k o N : Nat) (z : Int32 × Int32) (jv : gV), o + k = on → k < N → mDw x iv u V pn on L z.1 jv → (∀ kv : gV, mDw x iv u V pn on L (tr1 V pn L k o z).1 kv → gW (k4 (x + 353) nn (tr1 V pn L k o z).2 (i + 1)) (kv, u) P) → gW (f_X8_screamsBy_12 k4 N (x + 353) nn z.2 i (iN o)) (jv, u) P := by
  intro k
  induction k with
  | zero =>
    intro o N z jv h1 h2 hD hP
    obtain ⟨N, rfl⟩ : ∃ N', N = N' + 1 := ⟨N - 1, by omega⟩
    have H := hD.2.M
    have h6 := hD.2.o6
    unfold f_X8_screamsBy_12 f_X8_screamsBy_63
    rw [gW_B, rMc H, gW_B, w_oneCount H, hD.2.oN, gW_ift (by rw [iN_le (by omega) (by omega)]; omega)]
    exact hP jv hD
  | succ k ih =>
    intro o N z jv h1 h2 hD hP
    obtain ⟨N, rfl⟩ : ∃ N', N = N' + 1 := ⟨N - 1, by omega⟩
    have hM := hD.2
    have H := hM.M
    have h6 := hM.o6
    have ho : o < on := by omega
    rw [f_X8_screamsBy_12, gW_B, rMc H, gW_B, w_oneCount H, hM.oN, gW_iff (by rw [iN_le (by omega) (by omega)]; omega), gW_B, rMc H, gW_B, w_waits H (by omega), hM.vE, va_up_ne _ _ (by omega)]
    unfold f_X8_screamsBy_55 f_X8_screamsBy_57
    rw [tr1] at hP
    by_cases c : V (41 + 4 * o + 3) = 0
    · rw [if_pos c] at hP
      obtain ⟨r, hr⟩ : ∃ r, trR V pn L o z.1 = r := ⟨_, rfl⟩
      rw [hr] at hP
      rw [bI_t c, gW_iff (by decide), gW_B, rMc H, gW_B]
      refine m_looksAt hM ho (fun j1 hS hM2 hk ha e18 e19 e20 => ?_)
      rw [gW_B, rMc H, gW_B]
      have e23 : j1 (x + 353) 23 = 0 := by rw [hk 23 (by decide) (by decide) (by decide), hD.1.1 23 (by omega), g_u2_ne _ _ _ (by omega)]; exact h23
      have e24 : j1 (x + 353) 24 = 0 := by rw [hk 24 (by decide) (by decide) (by decide), hD.1.1 24 (by omega), g_u2_ne _ _ _ (by omega)]; exact h24
      have key := m_rides (dr := true) (te := false) (r := r) (P := fun r104 h1 => gW (gIf (r104 = (-1 : Int32)) (f_X8_screamsBy_12 k4 N (x + 353) nn (z.2 + (0 : Int32)) i (iN o + 1)) (f_X8_screamsBy_12 k4 N (x + 353) nn (z.2 + (1 : Int32)) i (iN o + 1))) h1 P) hM2 e18 e19 e20 e23 e24 hr (fun kv hB hj => ?_)
      · rw [bI_t rfl, bI_f (by decide)] at key
        exact key
      · clear hr hj
        have hD2 : mDw x iv u V pn on L r.1.2.2.1 kv := by
          have hS2 := hD.1.tr hS
          refine ⟨?_, ?_⟩
          · have := (hS2.w r.1.2.2.1).tr hB.1
            rw [g_u2_2] at this
            exact this
          · have := (hM2.sdd r.1.2.2.1).fr hB.1.S
            rw [va_up_up] at this
            exact this
        by_cases c2 : r.2.1 = -1
        · rw [if_pos c2] at hP
          rw [gW_ift c2, iNp1]
          exact ih (o + 1) N (_, _) kv (by omega) (by omega) hD2 hP
        · rw [if_neg c2] at hP
          rw [gW_iff c2, iNp1]
          exact ih (o + 1) N (_, _) kv (by omega) (by omega) hD2 hP
    · rw [if_neg c] at hP
      rw [bI_f c, gW_ift rfl, iNp1]
      exact ih (o + 1) N z jv (by omega) (by omega) hD hP
theorem m_go_4 (h23 : iv (x + 353) 23 = 0) (h24 : iv (x + 353) 24 = 0) {nn : Nat} (hn : nn < 1000) {P : Int32 → g_H → Prop} : ∀ (k i N : Nat) (z : Int32 × Int32) (jv : gV), i + k = nn → k < N → mDw x iv u V pn on L z.1 jv → (∀ kv : gV, mDw x iv u V pn on L (trN V pn on L k z).1 kv → P (trN V pn on L k z).2 (kv, u)) → gW (f_X8_screamsBy_4 N (x + 353) (iN nn) z.2 (iN i)) (jv, u) P := by
  intro k
  induction k with
  | zero =>
    intro i N z jv h1 h2 hD hP
    obtain ⟨N, rfl⟩ : ∃ N', N = N' + 1 := ⟨N - 1, by omega⟩
    unfold f_X8_screamsBy_4 f_X8_screamsBy_69
    rw [gW_ift (by rw [iN_le (by omega) (by omega)]; omega), gW_ret]
    exact hP jv hD
  | succ k ih =>
    intro i N z jv h1 h2 hD hP
    obtain ⟨N, rfl⟩ : ∃ N', N = N' + 1 := ⟨N - 1, by omega⟩
    have h6 := hD.2.o6
    rw [f_X8_screamsBy_4, gW_iff (by rw [iN_le (by omega) (by omega)]; omega)]
    show gW (f_X8_screamsBy_12 (f_X8_screamsBy_4 N) gN (x + 353) (iN nn) z.2 (iN i) (iN 0)) _ _
    refine m_go_12 h23 h24 on 0 gN z jv (by omega) (by rw [gN_eq]; omega) hD (fun kv h3 => ?_)
    rw [iNp1]
    exact ih (i + 1) N _ kv (by omega) (by omega) h3 hP
/-- screams in nn rounds, from a seed -/
def trC (V : Nat → Int32) (pn on : Nat) (L : gLw) (nn : Nat) (y : Int32) : Int32 := (trN V pn on L nn (y, 0)).2
theorem c_goOn (h17 : iv x 17 = -1) {nn : Nat} (hn : nn ≤ 20) {y : Int32} (hD : cDw x iv u V pn on L y jv) {P : Int32 → g_H → Prop} (hP : ∀ (kv : gV) (w : Int32), cDw x iv u V pn on L w kv → P (trC V pn on L nn y) (kv, u)) : gW (f_X1_goOn x (iN nn)) (jv, u) P := by
  unfold f_X1_goOn
  show gW (f_X1_goOn_4 gN x (iN nn) 0 (iN 0)) _ _
  exact c_go_4 h17 (by omega) nn 0 gN (y, 0) jv (by omega) (by rw [gN_eq]; omega) hD (fun kv h => hP kv _ h)
theorem m_goOn (h23 : iv (x + 353) 23 = 0) (h24 : iv (x + 353) 24 = 0) {nn : Nat} (hn : nn ≤ 20) {y : Int32} (hD : mDw x iv u V pn on L y jv) {P : Int32 → g_H → Prop} (hP : ∀ (kv : gV) (w : Int32), mDw x iv u V pn on L w kv → P (trC V pn on L nn y) (kv, u)) : gW (f_X8_screamsBy (x + 353) (iN nn)) (jv, u) P := by
  unfold f_X8_screamsBy
  show gW (f_X8_screamsBy_4 gN (x + 353) (iN nn) 0 (iN 0)) _ _
  exact m_go_4 h23 h24 (by omega) nn 0 gN (y, 0) jv (by omega) (by rw [gN_eq]; omega) hD (fun kv h => hP kv _ h)
theorem cDw.st (hC : CI x iv u V pn on L) : cDw x iv u V pn on L (V 8) iv := by
  refine ⟨?_, ?_⟩
  · rw [g_u2_id _ _ _ hC.sd]; exact Sx.rf
  · rw [va_up_g]; exact hC
theorem mDw.st (hM : MI x iv u V pn on L) : mDw x iv u V pn on L (V 8) iv := by
  refine ⟨?_, ?_⟩
  · rw [g_u2_id _ _ _ (by rw [hM.vE])]; exact Sm.rf
  · rw [va_up_g]; exact hM
theorem cDw.en {w : Int32} (hC : CI x iv u V pn on L) (hD : cDw x iv u V pn on L w jv) : Sx x iv (g_u2 jv (x + 28) 13 (V 8)) := by
  have := hD.1.w (V 8)
  rw [g_u2_2, g_u2_id _ _ _ hC.sd] at this
  exact this
theorem cDw.to {w y : Int32} (hD : cDw x iv u V pn on L w jv) : cDw x iv u V pn on L y (g_u2 jv (x + 28) 13 y) := by
  refine ⟨?_, ?_⟩
  · have := hD.1.w y
    rw [g_u2_2] at this
    exact this
  · have := hD.2.sdd y
    rw [va_up_up] at this
    exact this
theorem mDw.en {w : Int32} (hM : MI x iv u V pn on L) (hD : mDw x iv u V pn on L w jv) : Sm x iv (g_u2 jv (x + 353 + 1) 8 (V 8)) := by
  have := hD.1.w (V 8)
  rw [g_u2_2, g_u2_id _ _ _ (by rw [hM.vE])] at this
  exact this
theorem mDw.to {w y : Int32} (hD : mDw x iv u V pn on L w jv) : mDw x iv u V pn on L y (g_u2 jv (x + 353 + 1) 8 y) := by
  refine ⟨?_, ?_⟩
  · have := hD.1.w y
    rw [g_u2_2] at this
    exact this
  · have := hD.2.sdd y
    rw [va_up_up] at this
    exact this
theorem o_trial {a : Int32} : gOp x z b n t (f_X0_trial x a (x + 369)) (f_X8_trial (x + 353) a) := by
  intro iv u hR
  obtain ⟨pn, on, rm, L, hC, hM, h1⟩ := hR.get
  have HX := hC.X
  have hT := hR.2.1
  unfold f_X0_trial f_X1_trial
  rw [gW_B, rXc HX, gW_B, gW_B, w_isIn, gW_T]
  by_cases ha : 0 ≤ a ∧ a ≤ 20
  · obtain ⟨nn, hn, rfl⟩ := i_get2 (n := 20) (by decide) ha
    rw [w_must_t (bI_t ha)]
    dsimp only
    rw [gW_B, rXr1 HX, gW_B, rSi HX.nw, hC.sd, gW_B, rXc HX, gW_B]
    refine c_goOn hT.2.2.1 hn (cDw.st hC) (fun kv w hD => ?_)
    have HX2 := hD.2.X
    rw [gW_B, rXr1 HX2, gW_B, rSp HX2.nw, gW_ret]
    show gW (gB (gSI (x + 369) 2 (0 : Int32) _) _) _ _
    rw [gW_B]
    simp only [gW_ret]
    refine op_end hR (hD.en hC) (fun kv hS hk => ?_)
    unfold f_X8_trial f_X8_trial_21
    refine m_z (hM.fr hS) (fun lv z1 z2 z3 hM2 => ?_)
    have H := hM2.M
    rw [gW_B, m_in_t ha, gW_iff (by decide), gW_B, rMc H, gW_B, m_thr0, gW_ift rfl, gW_B, rMr0 H, gW_B, rMA0_8 H, hM2.vE, gW_B, rMc H, gW_B]
    have e1 : lv (x + 353) 23 = 0 := by rw [z1.2.2.2.1 23 (by omega), hS.2.2.2.1 23 (by omega)]; exact hT.2.2.2.1
    have e2 : lv (x + 353) 24 = 0 := by rw [z1.2.2.2.1 24 (by omega), hS.2.2.2.1 24 (by omega)]; exact hT.2.2.2.2.1
    refine m_goOn e1 e2 hn (mDw.st hM2) (fun mv w hD2 => ?_)
    have H2 := hD2.2.M
    rw [gW_B, rMr0 H2, gW_B]
    show gW (gSI (x + 353 + 1) 0 (iN 8) _) _ _
    rw [rMs0 H2 (by omega), gW_ret]
    exact m_end z1 z2 z3 (hD2.en hM2) rfl
  · refine w_must_f (bI_f ha) (fun a' jv v hT => ?_)
    show gW (gIf ((17 : Nat) = 17) (gRet 1) gFail) (jv, v) _
    rw [gW_ift rfl, gW_ret]
    refine op_thr hR hT (by decide) ?_
    unfold f_X8_trial f_X8_trial_21
    refine m_z (hM.th hR.nx hT) (fun lv z1 z2 z3 hM2 => ?_)
    have H := hM2.M
    rw [gW_B, m_in_f ha, gW_ift rfl, gW_B, rMc H, gW_B, m_thr1 H, gW_iff (by decide), gW_ret]
    exact m_te z1
/-! span -/
theorem tr1_n : ∀ (k o : Nat) (z : Int32 × Int32) (m : Nat), z.2 = iN m → ∃ m' : Nat, m' ≤ m + k ∧ (tr1 V pn L k o z).2 = iN m' := by
  intro k
  induction k with
  | zero => exact fun o z m h => ⟨m, by omega, h⟩
  | succ k ih =>
    intro o z m h
    rw [tr1]
    by_cases c : V (41 + 4 * o + 3) = 0
    · rw [if_pos c]
      by_cases c2 : (trR V pn L o z.1).2.1 = -1
      · rw [if_pos c2]
        obtain ⟨m', h1, h2⟩ := ih (o + 1) ((trR V pn L o z.1).1.2.2.1, z.2 + 0) m (by show z.2 + 0 = _; rw [h]; exact iN_add m 0)
        exact ⟨m', by omega, h2⟩
      · rw [if_neg c2]
        obtain ⟨m', h1, h2⟩ := ih (o + 1) ((trR V pn L o z.1).1.2.2.1, z.2 + 1) (m + 1) (by show z.2 + 1 = _; rw [h]; exact iN_add m 1)
        exact ⟨m', by omega, h2⟩
    · rw [if_neg c]
      obtain ⟨m', h1, h2⟩ := ih (o + 1) z m h
      exact ⟨m', by omega, h2⟩
theorem trN_n : ∀ (k : Nat) (z : Int32 × Int32) (m : Nat), z.2 = iN m → ∃ m' : Nat, m' ≤ m + k * on ∧ (trN V pn on L k z).2 = iN m' := by
  intro k
  induction k with
  | zero => exact fun z m h => ⟨m, by omega, h⟩
  | succ k ih =>
    intro z m h
    rw [trN]
    obtain ⟨m1, h1, h2⟩ := tr1_n (V := V) (pn := pn) (L := L) on 0 z m h
    obtain ⟨m2, h3, h4⟩ := ih _ m1 h2
    exact ⟨m2, by rw [Nat.succ_mul]; omega, h4⟩
theorem trC_n (h6 : on ≤ 6) {nn : Nat} (hn : nn ≤ 20) {y : Int32} : ∃ m : Nat, m ≤ 120 ∧ trC V pn on L nn y = iN m := by
  obtain ⟨m, h1, h2⟩ := trN_n (V := V) (pn := pn) (on := on) (L := L) nn (y, 0) 0 rfl
  have := Nat.mul_le_mul hn h6
  exact ⟨m, by omega, h2⟩
def spF (c : Nat → Int32) (a : Int32) : Nat → Nat → Int32 → Int32
  | 0, _, f => f
  | k + 1, s, f => spF c a k (s + 1) (if a = 0 then mN f (c s) else mX f (c s))
theorem c_span_34 {y0 : Int32} (hy : y0 = V 8) (h17 : iv x 17 = -1) {nn : Nat} (hn : nn ≤ 20) {a : Int32} {P : Int32 ⊕ gE → g_H → Prop} : ∀ (k s N : Nat) (f : Int32) (w : Int32) (jv : gV), s + k = 7 → k < N → cDw x iv u V pn on L w jv → (∀ (kv : gV) (w : Int32), cDw x iv u V pn on L w kv → P (.inl (spF (fun s => trC V pn on L nn (iN s)) a k s f)) (g_u2 kv (x + 28) 13 (V 8), u)) → gW (f_X1_span_34 N x (iN nn) a y0 f (iN s)) (jv, u) P := by
  intro k
  induction k with
  | zero =>
    intro s N f w jv h1 h2 hD hP
    obtain ⟨N, rfl⟩ : ∃ N', N = N' + 1 := ⟨N - 1, by omega⟩
    have HX := hD.2.X
    have : s = 7 := by omega
    subst this
    unfold f_X1_span_34 f_X1_span_86
    rw [gW_ift (by decide), gW_B, rXr1 HX, gW_B, rSp HX.nw, gW_ret, hy]
    exact hP jv w hD
  | succ k ih =>
    intro s N f w jv h1 h2 hD hP
    obtain ⟨N, rfl⟩ : ∃ N', N = N' + 1 := ⟨N - 1, by omega⟩
    have HX := hD.2.X
    rw [f_X1_span_34, gW_iff (by rw [show (6 : Int32) = iN 6 from rfl, iN_lt (by omega) (by omega)]; omega), gW_B, rXr1 HX, gW_B, rSp HX.nw, gW_B, rXc HX, gW_B]
    refine c_goOn h17 hn (hD.to (y := iN s)) (fun kv w2 hD2 => ?_)
    unfold f_X1_span_78
    rw [spF] at hP
    by_cases c : a = 0
    · rw [if_pos c] at hP
      rw [gW_ift c, gW_B, w_min, iNp1]
      exact ih (s + 1) N _ w2 kv (by omega) (by omega) hD2 hP
    · rw [if_neg c] at hP
      rw [gW_iff c, gW_B, w_max, iNp1]
      exact ih (s + 1) N _ w2 kv (by omega) (by omega) hD2 hP
theorem m_span_44 {y0 : Int32} (hy : y0 = V 8) (h6 : on ≤ 6) (h23 : iv (x + 353) 23 = 0) (h24 : iv (x + 353) 24 = 0) {nn : Nat} (hn : nn ≤ 20) {a : Int32} {P : Int32 → g_H → Prop} : ∀ (k s N : Nat) (f : Nat) (w : Int32) (jv : gV), f ≤ 120 → s + k = 7 → k < N → mDw x iv u V pn on L w jv → (∀ (kv : gV) (w : Int32), mDw x iv u V pn on L w kv → P (spF (fun s => trC V pn on L nn (iN s)) a k s (iN f)) (g_u2 kv (x + 353 + 1) 8 (V 8), u)) → gW (f_X8_span_44 N (x + 353) (iN nn) a y0 (iN f) (iN s)) (jv, u) P := by
  intro k
  induction k with
  | zero =>
    intro s N f w jv hf h1 h2 hD hP
    obtain ⟨N, rfl⟩ : ∃ N', N = N' + 1 := ⟨N - 1, by omega⟩
    have H := hD.2.M
    have : s = 7 := by omega
    subst this
    unfold f_X8_span_44 f_X8_span_106
    rw [gW_ift (by decide), gW_B, rMr0 H, gW_B]
    show gW (gSI (x + 353 + 1) 0 (iN 8) _) _ _
    rw [rMs0 H (by omega), gW_ret, hy]
    exact hP jv w hD
  | succ k ih =>
    intro s N f w jv hf h1 h2 hD hP
    obtain ⟨N, rfl⟩ : ∃ N', N = N' + 1 := ⟨N - 1, by omega⟩
    have H := hD.2.M
    rw [f_X8_span_44, gW_iff (by rw [show (6 : Int32) = iN 6 from rfl, iN_lt (by omega) (by omega)]; omega), gW_B, rMr0 H, gW_B]
    show gW (gSI (x + 353 + 1) 0 (iN 8) _) _ _
    rw [rMs0 H (by omega), gW_B, rMc H, gW_B]
    refine m_goOn h23 h24 hn (hD.to (y := iN s)) (fun kv w2 hD2 => ?_)
    unfold f_X8_span_98
    rw [spF] at hP
    obtain ⟨m, m1, m2⟩ := trC_n (V := V) (pn := pn) (L := L) h6 hn (y := iN s)
    rw [gW_ift (by rw [show (0 : Int32) = iN 0 from rfl, iN_le (by omega) (by omega)]; omega), m2]
    rw [m2] at hP
    by_cases c : a = 0
    · rw [if_pos c] at hP
      rw [gW_ift c, gW_B, w_min, iNp1]
      have : ∃ g : Nat, g ≤ 120 ∧ mN (iN f) (iN m) = iN g := by
        unfold mN
        split
        · exact ⟨m, m1, rfl⟩
        · exact ⟨f, hf, rfl⟩
      obtain ⟨g, g1, g2⟩ := this
      rw [g2] at hP ⊢
      exact ih (s + 1) N g w2 kv g1 (by omega) (by omega) hD2 hP
    · rw [if_neg c] at hP
      rw [gW_iff c, gW_B, w_max, iNp1]
      have : ∃ g : Nat, g ≤ 120 ∧ mX (iN f) (iN m) = iN g := by
        unfold mX
        split
        · exact ⟨m, m1, rfl⟩
        · exact ⟨f, hf, rfl⟩
      obtain ⟨g, g1, g2⟩ := this
      rw [g2] at hP ⊢
      exact ih (s + 1) N g w2 kv g1 (by omega) (by omega) hD2 hP
theorem o_span {a c : Int32} : gOp x z b n t (f_X0_span x a c (x + 369)) (f_X8_span (x + 353) a c) := by
  intro iv u hR
  obtain ⟨pn, on, rm, L, hC, hM, h1⟩ := hR.get
  have HX := hC.X
  have hT := hR.2.1
  have h6 := hC.o6
  unfold f_X0_span f_X1_span
  rw [gW_B, rXc HX, gW_B, gW_B, w_isIn, gW_T]
  by_cases ha : 0 ≤ a ∧ a ≤ 20
  · obtain ⟨nn, hn, rfl⟩ := i_get2 (n := 20) (by decide) ha
    rw [w_must_t (bI_t ha)]
    dsimp only
    rw [gW_B, rXr1 HX, gW_B, rSi HX.nw, hC.sd]
    obtain ⟨m, m1, m2⟩ := trC_n (V := iv (x + 354)) (pn := pn) (L := L) h6 hn (y := iN 1)
    have main : ∀ f : Int32, (if c = 0 then mN f (iN m) else mX f (iN m)) = iN m → gW (f_X1_span_29 x (iN nn) c (iv (x + 354) 8) f) (iv, u) (fun r9 h1 => gW (match r9 with
        | .inl r1 => (gB (gSI (x + 369) 2 (0 : Int32) (r1)) fun _ => (gRet (0 : Int32)))
        | .inr x9 => (gIf (x9.1 = 17) ((gRet (1 : Int32))) (gFail))) h1 (fun k h1 => gW (f_X8_span (x + 353) (iN nn) c) h1 (fun c h2 => h2.1 (x + 353) 0 = k ∧ oE k (h2.1 (x + 369) 0) c ∧ RR x z b n (t + 1) h2.1 h2.2))) := by
      intro f hf
      unfold f_X1_span_29
      show gW (f_X1_span_34 gN x (iN nn) c _ f (iN 1)) _ _
      refine c_span_34 rfl hT.2.2.1 hn 6 1 gN f _ iv (by omega) (by rw [gN_eq]; omega) (cDw.st hC) (fun kv w hD => ?_)
      show gW (gB (gSI (x + 369) 2 (0 : Int32) _) _) _ _
      rw [gW_B]
      simp only [gW_ret]
      refine op_end hR (hD.en hC) (fun kv hS hk => ?_)
      unfold f_X8_span f_X8_span_21
      refine m_z (hM.fr hS) (fun lv z1 z2 z3 hM2 => ?_)
      have H := hM2.M
      rw [gW_B, m_in_t ha, gW_iff (by decide), gW_B, rMc H, gW_B, m_thr0, gW_ift rfl, gW_B, rMr0 H, gW_B, rMA0_8 H, hM2.vE]
      have e1 : lv (x + 353) 23 = 0 := by rw [z1.2.2.2.1 23 (by omega), hS.2.2.2.1 23 (by omega)]; exact hT.2.2.2.1
      have e2 : lv (x + 353) 24 = 0 := by rw [z1.2.2.2.1 24 (by omega), hS.2.2.2.1 24 (by omega)]; exact hT.2.2.2.2.1
      obtain ⟨G, hG⟩ : ∃ G, gN = G + 1 := ⟨gN - 1, by rw [gN_eq]⟩
      rw [hG, f_X8_span_44, gW_iff (by decide), gW_B, rMr0 H, gW_B]
      show gW (gSI (x + 353 + 1) 0 (iN 8) (iN 1)) _ _
      rw [rMs0 H (by omega), gW_B, rMc H, gW_B]
      refine m_goOn e1 e2 hn ((mDw.st hM2).to (y := iN 1)) (fun mv w2 hD2 => ?_)
      unfold f_X8_span_98
      rw [m2, gW_iff (by decide)]
      show gW (f_X8_span_44 G (x + 353) (iN nn) c (iv (x + 354) 8) (iN m) (iN 2)) _ _
      refine m_span_44 rfl h6 e1 e2 hn 5 2 G m _ mv m1 (by omega) (by have := gN_eq; omega) hD2 (fun mw w3 hD3 => ?_)
      refine m_end z1 z2 z3 (hD3.en hM2) ?_
      refine Eq.symm ?_
      rw [spF, m2, hf]
    by_cases c0 : c = 0
    · rw [gW_ift c0]
      refine main _ ?_
      rw [if_pos c0]
      unfold mN
      exact if_pos (by rw [show (100000000 : Int32) = iN 100000000 from rfl, iN_lt (by omega) (by omega)]; omega)
    · rw [gW_iff c0]
      refine main _ ?_
      rw [if_neg c0]
      unfold mX
      by_cases m0 : m = 0
      · rw [m0, if_neg (by decide)]; rfl
      · exact if_pos (by rw [show (0 : Int32) = iN 0 from rfl, iN_lt (by omega) (by omega)]; omega)
  · refine w_must_f (bI_f ha) (fun a' jv v hT => ?_)
    show gW (gIf ((17 : Nat) = 17) (gRet 1) gFail) (jv, v) _
    rw [gW_ift rfl, gW_ret]
    refine op_thr hR hT (by decide) ?_
    unfold f_X8_span f_X8_span_21
    refine m_z (hM.th hR.nx hT) (fun lv z1 z2 z3 hM2 => ?_)
    have H := hM2.M
    rw [gW_B, m_in_f ha, gW_ift rfl, gW_B, rMc H, gW_B, m_thr1 H, gW_iff (by decide), gW_ret]
    exact m_te z1
end TRI
