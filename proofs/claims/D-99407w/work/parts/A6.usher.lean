/-! OPS: usher -/
section USH
variable {iv jv kv lv : gV} {u v : gU} {x z b n t : Nat} {V : Nat → Int32} {pn on : Nat} {L : gLw}
def anyF (Q : Nat → Bool) : Nat → Nat → Bool
  | 0, _ => false
  | k + 1, i => Q i || anyF Q k (i + 1)
theorem mu_sum {F : Nat → Nat} (h8 : pn ≤ 8) (h : ∀ k : Nat, pn ≤ k → k < 8 → F k = 0) : nS (fun c => F (mu8 pn c)) (pn + 1) 0 = nS F 9 0 := by
  have h0 := h 0
  have h1 := h 1
  have h2 := h 2
  have h3 := h 3
  have h4 := h 4
  have h5 := h 5
  have h6 := h 6
  have h7 := h 7
  clear h
  have : pn = 0 ∨ pn = 1 ∨ pn = 2 ∨ pn = 3 ∨ pn = 4 ∨ pn = 5 ∨ pn = 6 ∨ pn = 7 ∨ pn = 8 := by omega
  rcases this with rfl | rfl | rfl | rfl | rfl | rfl | rfl | rfl | rfl <;> simp only [nS, mu8, Nat.reduceAdd, Nat.reduceEqDiff, if_true, if_false, reduceIte] <;> omega
theorem mu_any {Q : Nat → Bool} (h8 : pn ≤ 8) (h : ∀ k : Nat, pn ≤ k → k < 8 → Q k = false) : anyF (fun c => Q (mu8 pn c)) (pn + 1) 0 = anyF Q 9 0 := by
  have : pn = 0 ∨ pn = 1 ∨ pn = 2 ∨ pn = 3 ∨ pn = 4 ∨ pn = 5 ∨ pn = 6 ∨ pn = 7 ∨ pn = 8 := by omega
  rcases this with rfl | rfl | rfl | rfl | rfl | rfl | rfl | rfl | rfl
  · simp [anyF, mu8, h 0 (by decide) (by decide), h 1 (by decide) (by decide), h 2 (by decide) (by decide), h 3 (by decide) (by decide), h 4 (by decide) (by decide), h 5 (by decide) (by decide), h 6 (by decide) (by decide), h 7 (by decide) (by decide)]
  · simp [anyF, mu8, h 1 (by decide) (by decide), h 2 (by decide) (by decide), h 3 (by decide) (by decide), h 4 (by decide) (by decide), h 5 (by decide) (by decide), h 6 (by decide) (by decide), h 7 (by decide) (by decide)]
  · simp [anyF, mu8, h 2 (by decide) (by decide), h 3 (by decide) (by decide), h 4 (by decide) (by decide), h 5 (by decide) (by decide), h 6 (by decide) (by decide), h 7 (by decide) (by decide)]
  · simp [anyF, mu8, h 3 (by decide) (by decide), h 4 (by decide) (by decide), h 5 (by decide) (by decide), h 6 (by decide) (by decide), h 7 (by decide) (by decide)]
  · simp [anyF, mu8, h 4 (by decide) (by decide), h 5 (by decide) (by decide), h 6 (by decide) (by decide), h 7 (by decide) (by decide)]
  · simp [anyF, mu8, h 5 (by decide) (by decide), h 6 (by decide) (by decide), h 7 (by decide) (by decide)]
  · simp [anyF, mu8, h 6 (by decide) (by decide), h 7 (by decide) (by decide)]
  · simp [anyF, mu8, h 7 (by decide) (by decide)]
  · simp [anyF, mu8]
theorem mu_le {c : Nat} (h8 : pn ≤ 8) (hc : c ≤ pn) : mu8 pn c ≤ 8 := by
  unfold mu8
  split <;> omega
/-- whether one turns, by k -/
def usT (V : Nat → Int32) (pn : Nat) (L : gLw) (o a e k : Nat) : Bool := usC V pn k && (if usW V pn L o a e = true then !usW V pn L o a k else usW V pn L o k e)
def usQ (V : Nat → Int32) (pn : Nat) (L : gLw) (o a e : Nat) : Bool := (usC V pn a && usC V pn e) && !anyF (usT V pn L o a e) 9 0
def usN (V : Nat → Int32) (pn : Nat) (L : gLw) (o a e : Nat) : Nat := if usQ V pn L o a e = true then 1 else 0
theorem usC_f {k : Nat} (h1 : pn ≤ k) (h2 : k < 8) : usC V pn k = false := decide_eq_false (fun q => by omega)
theorem c_choice (hC : CI x iv u V pn on L) (h3 : cP3 x iv V pn) {c : Nat} (hc : c ≤ pn) {P : Int32 → g_H → Prop} : gW (f_X1_isChoice x (iN c)) (iv, u) P ↔ P (bI (usC V pn (mu8 pn c) = true)) (iv, u) := by
  have HX := hC.X
  have h8 := hC.p8
  unfold f_X1_isChoice f_X1_isChoice_27 f_X1_isChoice_32
  rw [gW_B, rXr1 HX, gW_B, rSi HX.nw, hC.pN]
  by_cases e : c = pn
  · have : usC V pn (mu8 pn c) = true := decide_eq_true (Or.inl (by unfold mu8; rw [if_pos e]))
    rw [gW_ift (by rw [e]), gW_gd1 (Or.inr rfl), bI_t this]
  · rw [gW_iff (by rw [iN_eq (by omega) (by omega)]; exact e), gW_B, rXr1 HX, gW_B, rSr0 HX.nw, gW_B, rSP HX.nw (by omega), gW_B, rSPi HX.nw (by omega), h3 c (by omega)]
    have em : mu8 pn c = c := by unfold mu8; rw [if_neg e]
    rw [em]
    by_cases q : V (9 + 4 * c + 3) = -1
    · have : ¬ usC V pn c = true := fun h => (of_decide_eq_true h).elim (fun q2 => by omega) (fun q2 => q2.2 q)
      rw [gW_ift q, gW_gd1 (Or.inl rfl), bI_f this]
    · have : usC V pn c = true := decide_eq_true (Or.inr ⟨by omega, q⟩)
      rw [gW_iff q, gW_gd1 (Or.inr rfl), bI_t this]
theorem m_canBe (hM : MI x iv u V pn on L) {c : Nat} (hc : c ≤ 8) {P : Int32 → g_H → Prop} : gW (f_X8_canBe (x + 353) (iN c)) (iv, u) P ↔ P (bI (usC V pn c = true)) (iv, u) := by
  have H := hM.M
  have h8 := hM.p8
  unfold f_X8_canBe f_X8_canBe_22 f_X8_canBe_26 f_X8_canBe_27
  by_cases e : c = 8
  · have : usC V pn c = true := decide_eq_true (Or.inl e)
    rw [gW_ift (by rw [e]; rfl), gW_gd1 (Or.inr rfl), bI_t this]
  · rw [gW_iff (by rw [show (8 : Int32) = iN 8 from rfl, iN_eq (by omega) (by omega)]; exact e), gW_B, rMc H, gW_B, w_props H, hM.pN]
    by_cases e2 : pn ≤ c
    · have : ¬ usC V pn c = true := fun h => (of_decide_eq_true h).elim (fun q2 => by omega) (fun q2 => by omega)
      rw [gW_ift (by rw [iN_le (by omega) (by omega)]; exact e2), gW_gd1 (Or.inl rfl), bI_f this]
    · rw [gW_iff (by rw [iN_le (by omega) (by omega)]; exact e2), gW_B, rMc H, gW_B, w_isNailed H (by omega), hM.vE]
      by_cases q : V (9 + 4 * c + 3) = -1
      · have : ¬ usC V pn c = true := fun h => (of_decide_eq_true h).elim (fun q2 => by omega) (fun q2 => q2.2 q)
        rw [bI_f (fun h => h q), gW_ift rfl, gW_gd1 (Or.inl rfl), bI_f this]
      · have : usC V pn c = true := decide_eq_true (Or.inr ⟨by omega, q⟩)
        rw [bI_t q, gW_iff (by decide), gW_gd1 (Or.inr rfl), bI_t this]
theorem c_usher_76 (h8 : pn ≤ 8) (h17 : iv x 17 = -1) {o d e : Nat} {m : Int32} (ho : o < on) (hd : d ≤ pn) (he : e ≤ pn) (hdC : usC V pn (mu8 pn d) = true) {k26 : Nat → Nat → Int32 → Int32 → Int32 → gM (Int32 ⊕ gE)} {P : Int32 ⊕ gE → g_H → Prop} : ∀ (r c N : Nat) (q : Bool) (jv : gV), c + r = pn + 1 → r < N → Sx x iv jv → CI x jv u V pn on L → cP3 x jv V pn → (∀ kv : gV, Sx x iv kv → CI x kv u V pn on L → cP3 x kv V pn → gW (f_X1_usher_147 k26 x (x + 28 + 15 + o) m (iN d) (iN e) (bI ((q || anyF (fun c => usT V pn L o (mu8 pn d) (mu8 pn e) (mu8 pn c)) r c) = true))) (kv, u) P) → gW (f_X1_usher_76 k26 N x (x + 28 + 15 + o) m (iN d) (iN e) (bI (usW V pn L o (mu8 pn d) (mu8 pn e) = true)) (bI (q = true)) (iN c)) (jv, u) P := by
  intro r
  induction r with
  | zero =>
    intro c N q jv h1 h2 hS hC h3 hP
    obtain ⟨N, rfl⟩ : ∃ N', N = N' + 1 := ⟨N - 1, by omega⟩
    have HX := hC.X
    rw [f_X1_usher_76, gW_B, rXr1 HX, gW_B, rSi HX.nw, hC.pN, gW_ift (by rw [iN_lt (by omega) (by omega)]; omega)]
    have := hP jv hS hC h3
    rw [anyF, Bool.or_false] at this
    exact this
  | succ r ih =>
    intro c N q jv h1 h2 hS hC h3 hP
    obtain ⟨N, rfl⟩ : ∃ N', N = N' + 1 := ⟨N - 1, by omega⟩
    have HX := hC.X
    rw [f_X1_usher_76, gW_B, rXr1 HX, gW_B, rSi HX.nw, hC.pN, gW_iff (by rw [iN_lt (by omega) (by omega)]; omega)]
    cases q with
    | true =>
      rw [bI_t (show true = true from rfl), gW_iff (by decide)]
      have := hP jv hS hC h3
      rw [Bool.true_or, bI_t rfl] at this
      exact this
    | false =>
      rw [bI_f (show ¬ false = true by decide), gW_ift rfl, gW_B, rXc HX, gW_B, c_choice hC h3 (show c ≤ pn by omega)]
      rw [anyF, Bool.false_or] at hP
      have h17j : jv x 17 = -1 := by rw [hS.1 17 (by decide) (by decide) (by decide)]; exact h17
      unfold f_X1_usher_138 f_X1_usher_134 f_X1_usher_139
      have go : ∀ (q2 : Bool) (kv : gV), q2 = usT V pn L o (mu8 pn d) (mu8 pn e) (mu8 pn c) → Sx x iv kv → CI x kv u V pn on L → cP3 x kv V pn → gW (f_X1_usher_76 k26 N x (x + 28 + 15 + o) m (iN d) (iN e) (bI (usW V pn L o (mu8 pn d) (mu8 pn e) = true)) (bI (q2 = true)) (iN c + 1)) (kv, u) P := by
        intro q2 kv hq g1 g2 g3
        rw [iNp1]
        rw [← hq] at hP
        exact ih (c + 1) N q2 kv (by omega) (by omega) g1 g2 g3 hP
      have go0 : ∀ kv : gV, usT V pn L o (mu8 pn d) (mu8 pn e) (mu8 pn c) = false → Sx x iv kv → CI x kv u V pn on L → cP3 x kv V pn → gW (f_X1_usher_76 k26 N x (x + 28 + 15 + o) m (iN d) (iN e) (bI (usW V pn L o (mu8 pn d) (mu8 pn e) = true)) 0 (iN c + 1)) (kv, u) P := fun kv hq g1 g2 g3 => by
        have := go false kv hq.symm g1 g2 g3
        rw [bI_f (show ¬ false = true by decide)] at this
        exact this
      have go1 : ∀ kv : gV, usT V pn L o (mu8 pn d) (mu8 pn e) (mu8 pn c) = true → Sx x iv kv → CI x kv u V pn on L → cP3 x kv V pn → gW (f_X1_usher_76 k26 N x (x + 28 + 15 + o) m (iN d) (iN e) (bI (usW V pn L o (mu8 pn d) (mu8 pn e) = true)) 1 (iN c + 1)) (kv, u) P := fun kv hq g1 g2 g3 => by
        have := go true kv hq.symm g1 g2 g3
        rw [bI_t (show true = true from rfl)] at this
        exact this
      by_cases cc : usC V pn (mu8 pn c) = true
      · rw [bI_t cc, gW_iff (by decide)]
        by_cases cw : usW V pn L o (mu8 pn d) (mu8 pn e) = true
        · rw [gW_iff (by rw [bI_t cw]; decide), gW_B, rXc HX, gW_B]
          refine c_screamsBy hC h3 h17j ho hd hdC (show c ≤ pn by omega) (fun kv g1 g2 g3 => ?_)
          by_cases c2 : usW V pn L o (mu8 pn d) (mu8 pn c) = true
          · rw [bI_t c2, gW_iff (by decide)]
            exact go0 kv (by unfold usT; rw [if_pos cw, c2, Bool.not_true, Bool.and_false]) (hS.tr g1) g2 g3
          · rw [bI_f c2, gW_ift rfl]
            exact go1 kv (by unfold usT; rw [if_pos cw, cc, Bool.eq_false_iff.mpr c2]; rfl) (hS.tr g1) g2 g3
        · rw [gW_ift (bI_f cw), gW_B, rXc HX, gW_B]
          refine c_screamsBy hC h3 h17j ho (show c ≤ pn by omega) cc he (fun kv g1 g2 g3 => ?_)
          by_cases c2 : usW V pn L o (mu8 pn c) (mu8 pn e) = true
          · rw [bI_t c2, gW_iff (by decide)]
            exact go1 kv (by unfold usT; rw [if_neg cw, cc, c2]; rfl) (hS.tr g1) g2 g3
          · rw [bI_f c2, gW_ift rfl]
            exact go0 kv (by unfold usT; rw [if_neg cw, Bool.eq_false_iff.mpr c2, Bool.and_false]) (hS.tr g1) g2 g3
      · rw [bI_f cc, gW_ift rfl]
        exact go0 jv (by unfold usT; rw [Bool.eq_false_iff.mpr cc, Bool.false_and]) hS hC h3
theorem c_usher_26 (h8 : pn ≤ 8) (h17 : iv x 17 = -1) {o d : Nat} (ho : o < on) (hd : d ≤ pn) {k11 : Nat → Nat → Int32 → Int32 → gM (Int32 ⊕ gE)} {P : Int32 ⊕ gE → g_H → Prop} : ∀ (r e N m : Nat) (jv : gV), e + r = pn + 1 → r < N → Sx x iv jv → CI x jv u V pn on L → cP3 x jv V pn → (∀ kv : gV, Sx x iv kv → CI x kv u V pn on L → cP3 x kv V pn → gW (k11 x (x + 28 + 15 + o) (iN (m + nS (fun e => usN V pn L o (mu8 pn d) (mu8 pn e)) r e)) (iN (d + 1))) (kv, u) P) → gW (f_X1_usher_26 k11 N x (x + 28 + 15 + o) (iN m) (iN d) (iN e)) (jv, u) P := by
  intro r
  induction r with
  | zero =>
    intro e N m jv h1 h2 hS hC h3 hP
    obtain ⟨N, rfl⟩ : ∃ N', N = N' + 1 := ⟨N - 1, by omega⟩
    have HX := hC.X
    unfold f_X1_usher_26 f_X1_usher_166
    rw [gW_B, rXr1 HX, gW_B, rSi HX.nw, hC.pN, gW_ift (by rw [iN_lt (by omega) (by omega)]; omega), iNp1]
    exact hP jv hS hC h3
  | succ r ih =>
    intro e N m jv h1 h2 hS hC h3 hP
    obtain ⟨N, rfl⟩ : ∃ N', N = N' + 1 := ⟨N - 1, by omega⟩
    have HX := hC.X
    have he : e ≤ pn := by omega
    have go : ∀ (w : Nat) (kv : gV), w = usN V pn L o (mu8 pn d) (mu8 pn e) → Sx x iv kv → CI x kv u V pn on L → cP3 x kv V pn → gW (f_X1_usher_26 k11 N x (x + 28 + 15 + o) (iN (m + w)) (iN d) (iN (e + 1))) (kv, u) P := by
      intro w kv hw g1 g2 g3
      refine ih (e + 1) N _ kv (by omega) (by omega) g1 g2 g3 ?_
      rw [nS, ← hw, ← Nat.add_assoc] at hP
      exact hP
    rw [f_X1_usher_26, gW_B, rXr1 HX, gW_B, rSi HX.nw, hC.pN, gW_iff (by rw [iN_lt (by omega) (by omega)]; omega), gW_B, rXc HX, gW_B, c_choice hC h3 hd]
    by_cases cd : usC V pn (mu8 pn d) = true
    · rw [bI_t cd, gW_iff (by decide), gW_B, rXc HX, gW_B, c_choice hC h3 he]
      by_cases ce : usC V pn (mu8 pn e) = true
      · rw [bI_t ce, gW_iff (by decide), gW_B, rXc HX, gW_B]
        refine c_screamsBy hC h3 (by rw [hS.1 17 (by decide) (by decide) (by decide)]; exact h17) ho hd cd he (fun k1 g1 g2 g3 => ?_)
        have key := c_usher_76 (iv := iv) (q := false) (m := iN m) (k26 := f_X1_usher_26 k11 N) (P := P) h8 h17 ho hd he cd (pn + 1) 0 gN k1 (by omega) (by rw [gN_eq]; omega) (hS.tr g1) g2 g3 (fun k2 q1 q2 q3 => ?_)
        · rw [bI_f (show ¬ false = true by decide)] at key
          exact key
        · rw [Bool.false_or, mu_any (Q := usT V pn L o (mu8 pn d) (mu8 pn e)) h8 (fun k hk1 hk2 => by unfold usT; rw [usC_f hk1 hk2, Bool.false_and])]
          unfold f_X1_usher_147 f_X1_usher_158 f_X1_usher_160
          by_cases ca : anyF (usT V pn L o (mu8 pn d) (mu8 pn e)) 9 0 = true
          · rw [bI_t ca, gW_iff (by decide), show iN m + 0 = iN (m + 0) from iN_add m 0, iNp1]
            exact go 0 k2 (by unfold usN usQ; rw [ca, Bool.not_true, Bool.and_false]; rfl) q1 q2 q3
          · rw [bI_f ca, gW_ift rfl, iNp1, iNp1]
            exact go 1 k2 (by unfold usN usQ; rw [Bool.eq_false_iff.mpr ca, cd, ce]; rfl) q1 q2 q3
      · unfold f_X1_usher_160
        rw [bI_f ce, gW_ift rfl, iNp1]
        exact go 0 jv (by unfold usN usQ; rw [Bool.eq_false_iff.mpr ce, Bool.and_false, Bool.false_and]; rfl) hS hC h3
    · unfold f_X1_usher_160
      rw [bI_f cd, gW_ift rfl, iNp1]
      exact go 0 jv (by unfold usN usQ; rw [Bool.eq_false_iff.mpr cd, Bool.false_and, Bool.false_and]; rfl) hS hC h3
theorem c_usher_11 (h8 : pn ≤ 8) (h17 : iv x 17 = -1) {o : Nat} (ho : o < on) {P : Int32 ⊕ gE → g_H → Prop} : ∀ (r d N m : Nat) (jv : gV), d + r = pn + 1 → r < N → Sx x iv jv → CI x jv u V pn on L → cP3 x jv V pn → (∀ kv : gV, Sx x iv kv → P (.inl (iN (m + nS (fun d => nS (fun e => usN V pn L o (mu8 pn d) (mu8 pn e)) (pn + 1) 0) r d))) (kv, u)) → gW (f_X1_usher_11 N x (x + 28 + 15 + o) (iN m) (iN d)) (jv, u) P := by
  intro r
  induction r with
  | zero =>
    intro d N m jv h1 h2 hS hC h3 hP
    obtain ⟨N, rfl⟩ : ∃ N', N = N' + 1 := ⟨N - 1, by omega⟩
    have HX := hC.X
    unfold f_X1_usher_11 f_X1_usher_172
    rw [gW_B, rXr1 HX, gW_B, rSi HX.nw, hC.pN, gW_ift (by rw [iN_lt (by omega) (by omega)]; omega), gW_ret]
    exact hP jv hS
  | succ r ih =>
    intro d N m jv h1 h2 hS hC h3 hP
    obtain ⟨N, rfl⟩ : ∃ N', N = N' + 1 := ⟨N - 1, by omega⟩
    have HX := hC.X
    rw [f_X1_usher_11, gW_B, rXr1 HX, gW_B, rSi HX.nw, hC.pN, gW_iff (by rw [iN_lt (by omega) (by omega)]; omega)]
    show gW (f_X1_usher_26 (f_X1_usher_11 N) gN x (x + 28 + 15 + o) (iN m) (iN d) (iN 0)) _ _
    refine c_usher_26 (iv := iv) h8 h17 ho (show d ≤ pn by omega) (pn + 1) 0 gN m jv (by omega) (by rw [gN_eq]; omega) hS hC h3 (fun k2 q1 q2 q3 => ?_)
    refine ih (d + 1) N _ k2 (by omega) (by omega) q1 q2 q3 ?_
    rw [nS, ← Nat.add_assoc] at hP
    exact hP
theorem m_rests_48 (h23 : iv (x + 353) 23 = 0) (h24 : iv (x + 353) 24 = 0) {o a e : Nat} (ho : o < on) (ha : a ≤ 8) (he : e ≤ 8) {P : Int32 → g_H → Prop} : ∀ (r c N : Nat) (q : Bool) (jv : gV), c + r = 9 → r < N → Sm x iv jv → MI x jv u V pn on L → (∀ kv : gV, Sm x iv kv → MI x kv u V pn on L → P (bI ((q && !anyF (usT V pn L o a e) r c) = true)) (kv, u)) → gW (f_X8_rests_48 N (x + 353) (iN o) (iN a) (iN e) (bI (q = true)) (bI (usW V pn L o a e = true)) (iN c)) (jv, u) P := by
  intro r
  induction r with
  | zero =>
    intro c N q jv h1 h2 hS hM hP
    obtain ⟨N, rfl⟩ : ∃ N', N = N' + 1 := ⟨N - 1, by omega⟩
    have : c = 9 := by omega
    subst this
    unfold f_X8_rests_48 f_X8_rests_112
    rw [gW_ift (by decide), gW_gd1 bI_o]
    have := hP jv hS hM
    rw [anyF, Bool.not_false, Bool.and_true] at this
    exact this
  | succ r ih =>
    intro c N q jv h1 h2 hS hM hP
    obtain ⟨N, rfl⟩ : ∃ N', N = N' + 1 := ⟨N - 1, by omega⟩
    have H := hM.M
    unfold f_X8_rests_48 f_X8_rests_112
    rw [gW_iff (by rw [show (8 : Int32) = iN 8 from rfl, iN_lt (by omega) (by omega)]; omega)]
    cases q with
    | false =>
      rw [bI_f (show ¬ false = true by decide), gW_ift rfl, gW_gd1 (Or.inl rfl)]
      have := hP jv hS hM
      rw [Bool.false_and, bI_f (by decide)] at this
      exact this
    | true =>
      rw [bI_t (show true = true from rfl), gW_iff (by decide), gW_B, rMc H, gW_B, m_canBe hM (show c ≤ 8 by omega)]
      rw [anyF, Bool.true_and, Bool.not_or] at hP
      have h23j : jv (x + 353) 23 = 0 := by rw [hS.1 23 (by omega)]; exact h23
      have h24j : jv (x + 353) 24 = 0 := by rw [hS.1 24 (by omega)]; exact h24
      unfold f_X8_rests_99 f_X8_rests_103 f_X8_rests_104
      have go : ∀ (q2 : Bool) (kv : gV), q2 = !usT V pn L o a e c → Sm x iv kv → MI x kv u V pn on L → gW (f_X8_rests_48 N (x + 353) (iN o) (iN a) (iN e) (bI (q2 = true)) (bI (usW V pn L o a e = true)) (iN c + 1)) (kv, u) P := by
        intro q2 kv hq g1 g2
        rw [iNp1]
        rw [← hq] at hP
        exact ih (c + 1) N q2 kv (by omega) (by omega) g1 g2 hP
      have go0 : ∀ kv : gV, usT V pn L o a e c = true → Sm x iv kv → MI x kv u V pn on L → gW (f_X8_rests_48 N (x + 353) (iN o) (iN a) (iN e) 0 (bI (usW V pn L o a e = true)) (iN c + 1)) (kv, u) P := fun kv hq g1 g2 => by
        have := go false kv (by rw [hq]; rfl) g1 g2
        rw [bI_f (show ¬ false = true by decide)] at this
        exact this
      have go1 : ∀ kv : gV, usT V pn L o a e c = false → Sm x iv kv → MI x kv u V pn on L → gW (f_X8_rests_48 N (x + 353) (iN o) (iN a) (iN e) 1 (bI (usW V pn L o a e = true)) (iN c + 1)) (kv, u) P := fun kv hq g1 g2 => by
        have := go true kv (by rw [hq]; rfl) g1 g2
        rw [bI_t (show true = true from rfl)] at this
        exact this
      by_cases cc : usC V pn c = true
      · rw [bI_t cc, gW_iff (by decide)]
        by_cases cw : usW V pn L o a e = true
        · rw [gW_iff (by rw [bI_t cw]; decide), gW_B, rMc H, gW_B]
          refine m_isHeard hM h23j h24j ho ha (show c ≤ 8 by omega) (fun kv g1 g2 => ?_)
          by_cases c2 : usW V pn L o a c = true
          · rw [bI_t c2, gW_iff (by decide)]
            exact go1 kv (by unfold usT; rw [if_pos cw, c2, Bool.not_true, Bool.and_false]) (hS.tr g1) g2
          · rw [bI_f c2, gW_ift rfl]
            exact go0 kv (by unfold usT; rw [if_pos cw, cc, Bool.eq_false_iff.mpr c2]; rfl) (hS.tr g1) g2
        · rw [gW_ift (bI_f cw), gW_B, rMc H, gW_B]
          refine m_isHeard hM h23j h24j ho (show c ≤ 8 by omega) he (fun kv g1 g2 => ?_)
          by_cases c2 : usW V pn L o c e = true
          · rw [bI_t c2, gW_iff (by decide)]
            exact go0 kv (by unfold usT; rw [if_neg cw, cc, c2]; rfl) (hS.tr g1) g2
          · rw [bI_f c2, gW_ift rfl]
            exact go1 kv (by unfold usT; rw [if_neg cw, Bool.eq_false_iff.mpr c2, Bool.and_false]) (hS.tr g1) g2
      · rw [bI_f cc, gW_ift rfl]
        exact go1 jv (by unfold usT; rw [Bool.eq_false_iff.mpr cc, Bool.false_and]) hS hM
theorem m_rests (hM : MI x iv u V pn on L) (h23 : iv (x + 353) 23 = 0) (h24 : iv (x + 353) 24 = 0) {o a e : Nat} (ho : o < on) (ha : a ≤ 8) (he : e ≤ 8) {P : Int32 → g_H → Prop} (hP : ∀ kv : gV, Sm x iv kv → MI x kv u V pn on L → P (bI (usQ V pn L o a e = true)) (kv, u)) : gW (f_X8_rests (x + 353) (iN o) (iN a) (iN e)) (iv, u) P := by
  have H := hM.M
  have no : (usC V pn a && usC V pn e) = false → gW (f_X8_rests_20 (x + 353) (iN o) (iN a) (iN e)) (iv, u) P := by
    intro hq
    unfold f_X8_rests_20 f_X8_rests_21 f_X8_rests_42 f_X8_rests_43
    obtain ⟨G, hG⟩ : ∃ G, gN = G + 1 := ⟨gN - 1, by rw [gN_eq]⟩
    unfold f_X8_rests_48 f_X8_rests_112
    rw [hG]
    dsimp only
    rw [gW_ift rfl, gW_iff (by decide), gW_ift rfl, gW_gd1 (Or.inl rfl)]
    have := hP iv Sm.rf hM
    unfold usQ at this
    rw [hq, Bool.false_and, bI_f (by decide)] at this
    exact this
  unfold f_X8_rests
  rw [gW_B, rMc H, gW_B, m_canBe hM ha]
  by_cases ca : usC V pn a = true
  · rw [bI_t ca, gW_iff (by decide), gW_B, rMc H, gW_B, m_canBe hM he]
    by_cases ce : usC V pn e = true
    · rw [bI_t ce, gW_iff (by decide)]
      unfold f_X8_rests_21 f_X8_rests_42 f_X8_rests_43
      rw [gW_iff (by decide), gW_B, rMc H, gW_B]
      refine m_isHeard hM h23 h24 ho ha he (fun kv g1 g2 => ?_)
      have key := m_rests_48 (iv := iv) (P := P) h23 h24 ho ha he 9 0 gN true kv (by omega) (by rw [gN_eq]; omega) g1 g2 (fun lv q1 q2 => by
        have := hP lv q1 q2
        unfold usQ at this
        rw [ca, ce] at this
        exact this)
      rw [bI_t (show true = true from rfl)] at key
      by_cases cw : usW V pn L o a e = true
      · rw [bI_t cw] at key
        rw [bI_t cw, gW_iff (by decide)]
        exact key
      · rw [bI_f cw] at key
        rw [bI_f cw, gW_ift rfl]
        exact key
    · rw [bI_f ce, gW_ift rfl]
      exact no (by rw [Bool.eq_false_iff.mpr ce, Bool.and_false])
  · rw [bI_f ca, gW_ift rfl]
    exact no (by rw [Bool.eq_false_iff.mpr ca, Bool.false_and])
theorem m_usher_33 (h23 : iv (x + 353) 23 = 0) (h24 : iv (x + 353) 24 = 0) {o a : Nat} (ho : o < on) (ha : a ≤ 8) {k24 : Nat → Int32 → Int32 → Int32 → gM Int32} {P : Int32 → g_H → Prop} : ∀ (r e N m : Nat) (jv : gV), e + r = 9 → r < N → Sm x iv jv → MI x jv u V pn on L → (∀ kv : gV, Sm x iv kv → MI x kv u V pn on L → gW (k24 (x + 353) (iN o) (iN (m + nS (usN V pn L o a) r e)) (iN (a + 1))) (kv, u) P) → gW (f_X8_usher_33 k24 N (x + 353) (iN o) (iN m) (iN a) (iN e)) (jv, u) P := by
  intro r
  induction r with
  | zero =>
    intro e N m jv h1 h2 hS hM hP
    obtain ⟨N, rfl⟩ : ∃ N', N = N' + 1 := ⟨N - 1, by omega⟩
    have : e = 9 := by omega
    subst this
    unfold f_X8_usher_33 f_X8_usher_65
    rw [gW_ift (by decide), iNp1]
    exact hP jv hS hM
  | succ r ih =>
    intro e N m jv h1 h2 hS hM hP
    obtain ⟨N, rfl⟩ : ∃ N', N = N' + 1 := ⟨N - 1, by omega⟩
    have H := hM.M
    rw [f_X8_usher_33, gW_iff (by rw [show (8 : Int32) = iN 8 from rfl, iN_lt (by omega) (by omega)]; omega), gW_B, rMc H, gW_B]
    refine m_rests hM (by rw [hS.1 23 (by omega)]; exact h23) (by rw [hS.1 24 (by omega)]; exact h24) ho ha (show e ≤ 8 by omega) (fun kv g1 g2 => ?_)
    unfold f_X8_usher_57
    rw [nS, ← Nat.add_assoc] at hP
    by_cases c : usQ V pn L o a e = true
    · have w : usN V pn L o a e = 1 := if_pos c
      rw [w] at hP
      rw [bI_t c, gW_iff (by decide), iNp1, iNp1]
      exact ih (e + 1) N _ kv (by omega) (by omega) (hS.tr g1) g2 hP
    · have w : usN V pn L o a e = 0 := if_neg c
      rw [w] at hP
      rw [bI_f c, gW_ift rfl, show iN m + 0 = iN (m + 0) from iN_add m 0, iNp1]
      exact ih (e + 1) N _ kv (by omega) (by omega) (hS.tr g1) g2 hP
theorem m_usher_24 (h23 : iv (x + 353) 23 = 0) (h24 : iv (x + 353) 24 = 0) {o : Nat} (ho : o < on) {P : Int32 → g_H → Prop} : ∀ (r a N m : Nat) (jv : gV), a + r = 9 → r < N → Sm x iv jv → MI x jv u V pn on L → (∀ kv : gV, Sm x iv kv → P (iN (m + nS (fun a => nS (usN V pn L o a) 9 0) r a)) (kv, u)) → gW (f_X8_usher_24 N (x + 353) (iN o) (iN m) (iN a)) (jv, u) P := by
  intro r
  induction r with
  | zero =>
    intro a N m jv h1 h2 hS hM hP
    obtain ⟨N, rfl⟩ : ∃ N', N = N' + 1 := ⟨N - 1, by omega⟩
    have : a = 9 := by omega
    subst this
    unfold f_X8_usher_24 f_X8_usher_71
    rw [gW_ift (by decide), gW_ret]
    exact hP jv hS
  | succ r ih =>
    intro a N m jv h1 h2 hS hM hP
    obtain ⟨N, rfl⟩ : ∃ N', N = N' + 1 := ⟨N - 1, by omega⟩
    rw [f_X8_usher_24, gW_iff (by rw [show (8 : Int32) = iN 8 from rfl, iN_lt (by omega) (by omega)]; omega)]
    show gW (f_X8_usher_33 (f_X8_usher_24 N) gN (x + 353) (iN o) (iN m) (iN a) (iN 0)) _ _
    refine m_usher_33 (iv := iv) h23 h24 ho (show a ≤ 8 by omega) 9 0 gN m jv (by omega) (by rw [gN_eq]; omega) hS hM (fun kv g1 g2 => ?_)
    refine ih (a + 1) N _ kv (by omega) (by omega) g1 g2 ?_
    rw [nS, ← Nat.add_assoc] at hP
    exact hP
theorem us_sum (h8 : pn ≤ 8) {o : Nat} : nS (fun d => nS (fun e => usN V pn L o (mu8 pn d) (mu8 pn e)) (pn + 1) 0) (pn + 1) 0 = nS (fun a => nS (usN V pn L o a) 9 0) 9 0 := by
  have inner : ∀ a : Nat, nS (fun e => usN V pn L o a (mu8 pn e)) (pn + 1) 0 = nS (usN V pn L o a) 9 0 := fun a => mu_sum (F := usN V pn L o a) h8 (fun k h1 h2 => by
    unfold usN usQ
    rw [usC_f h1 h2, Bool.and_false, Bool.false_and]
    rfl)
  have : (fun d => nS (fun e => usN V pn L o (mu8 pn d) (mu8 pn e)) (pn + 1) 0) = (fun d => (fun a => nS (usN V pn L o a) 9 0) (mu8 pn d)) := funext (fun d => inner (mu8 pn d))
  rw [this]
  refine mu_sum (F := fun a => nS (usN V pn L o a) 9 0) h8 (fun k h1 h2 => ?_)
  have z : ∀ j i : Nat, nS (usN V pn L o k) j i = 0 := by
    intro j
    induction j with
    | zero => exact fun _ => rfl
    | succ j ih =>
      intro i
      rw [nS, ih]
      unfold usN usQ
      rw [usC_f h1 h2, Bool.false_and, Bool.false_and]
      rfl
  exact z 9 0
theorem o_usher {a : Int32} : gOp x z b n t (f_X0_usher x a (x + 369)) (f_X8_usher (x + 353) a) := by
  intro iv u hR
  obtain ⟨pn, on, rm, L, hC, hM, h1⟩ := hR.get
  have HX := hC.X
  have h6 := hC.o6
  have h8 := hC.p8
  have hT := hR.2.1
  unfold f_X0_usher f_X1_usher
  rw [gW_B, rXc HX, gW_B, gW_B, rXc HX, gW_T]
  by_cases ha : 0 ≤ a ∧ a ≤ iN on - 1
  · obtain ⟨o, ho, rfl⟩ := i_get (by omega) ha
    rw [w_oneAt_t hC ho]
    dsimp only
    show gW (f_X1_usher_11 gN x (x + 28 + 15 + o) (iN 0) (iN 0)) _ _
    refine c_usher_11 (iv := iv) h8 hT.2.2.1 ho (pn + 1) 0 gN 0 iv (by omega) (by rw [gN_eq]; omega) Sx.rf hC (fun p hp => h1.1.2.1 p hp 3 (by decide)) (fun kv hS => ?_)
    rw [us_sum h8]
    generalize hq : nS (fun a => nS (usN (iv (x + 354)) pn L o a) 9 0) 9 0 = q
    show gW (gB (gSI (x + 369) 2 (0 : Int32) _) _) _ _
    rw [gW_B]
    simp only [gW_ret]
    refine op_end hR hS (fun kv hS hk => ?_)
    unfold f_X8_usher
    refine m_z (hM.fr hS) (fun lv z1 z2 z3 hM2 => ?_)
    have H := hM2.M
    have e1 : lv (x + 353) 23 = 0 := by rw [z1.2.2.2.1 23 (by omega), hS.2.2.2.1 23 (by omega)]; exact hT.2.2.2.1
    have e2 : lv (x + 353) 24 = 0 := by rw [z1.2.2.2.1 24 (by omega), hS.2.2.2.1 24 (by omega)]; exact hT.2.2.2.2.1
    rw [gW_B, rMc H, gW_B, m_noOne_t hM2 ho, gW_B, rMc H, gW_B, m_thr0, gW_ift rfl]
    show gW (f_X8_usher_24 gN (x + 353) (iN o) (iN 0) (iN 0)) _ _
    refine m_usher_24 (iv := lv) e1 e2 ho 9 0 gN 0 lv (by omega) (by rw [gN_eq]; omega) Sm.rf hM2 (fun mv m1 => ?_)
    rw [hq]
    exact m_end z1 z2 z3 m1 rfl
  · refine w_oneAt_f hC ha (fun a' jv v hT => ?_)
    simp only [gW_tr, gW_fa, gW_ret, cN1, cN2, cN3, cN4]
    refine op_thr hR hT (by decide) ?_
    unfold f_X8_usher
    refine m_z (hM.th hR.nx hT) (fun lv z1 z2 z3 hM2 => ?_)
    have H := hM2.M
    rw [gW_B, rMc H, gW_B, m_noOne_f hM2 ha, gW_B, rMc H, gW_B, m_thr1 H, gW_iff (by decide), gW_ret]
    exact m_te z1
end USH
