/-! WHAT SOMEBODY DID: what is told, who fits, of both -/
section HRS
variable {iv jv kv lv : gV} {u v : gU} {x z b n t : Nat} {V : Nat → Int32} {pn on : Nat} {L : gLw}
theorem RR.tz (hR : RR x z b n t iv u) : RR x z b n t (g_u2 (g_u2 iv (x + 1) 6 0) (x + 353) 9 0) u := by
  have e1 : ∀ a : Nat, a ≠ x + 1 → a ≠ x + 353 → g_u2 (g_u2 iv (x + 1) 6 0) (x + 353) 9 0 a = iv a := fun a h1 h2 => by rw [g_u2_ne _ _ _ h2, g_u2_ne _ _ _ h1]
  have e2 : g_u2 (g_u2 iv (x + 1) 6 0) (x + 353) 9 0 (x + 1) 6 = 0 := by rw [g_u2_ne _ _ _ (by omega), g_u2_self, va_up_self]
  have e3 : ∀ k : Nat, k ≠ 9 → g_u2 (g_u2 iv (x + 1) 6 0) (x + 353) 9 0 (x + 353) k = iv (x + 353) k := fun k hk => by rw [g_u2_self, va_up_ne _ _ hk, g_u2_ne _ _ _ (by omega)]
  have e4 : g_u2 (g_u2 iv (x + 1) 6 0) (x + 353) 9 0 (x + 353) 9 = 0 := by rw [g_u2_self, va_up_self]
  generalize g_u2 (g_u2 iv (x + 1) 6 0) (x + 353) 9 0 = jv at e1 e2 e3 e4 ⊢
  obtain ⟨hB, hT, hI, pn, on, rm, L, h1, h2, h3⟩ := hR
  have hx := hB.2.2.2.2.2.1
  obtain ⟨-, t2, t3, t4, t5, t6⟩ := hT
  refine ⟨hB.fr Ux.rf (Nat.le_refl _) (fun a _ => e1 a (by omega) (by omega)) (by omega) (by omega), ⟨⟨0, by omega, e2, e4, fun k hk => absurd hk (Nat.not_lt_zero k)⟩, ?_, ?_, ?_, ?_, ?_⟩, hI.fr hx Ux.rf (Nat.le_refl _) (by rw [e1 x (by omega) (by omega)]) (e3 6 (by decide)) (e1 _ (by omega) (by omega)) (fun a _ _ => e1 a (by omega) (by omega)) (fun a _ _ => e1 a (by omega) (by omega)), pn, on, rm, L, ?_, ?_, ?_⟩
  · rw [e1 x (by omega) (by omega), e3 14 (by decide)]; exact t2
  · rw [e1 x (by omega) (by omega)]; exact t3
  · rw [e3 23 (by decide)]; exact t4
  · rw [e3 24 (by decide)]; exact t5
  · rw [e1 (x + 96) (by omega) (by omega)]; exact t6
  · rw [e1 (x + 354) (by omega) (by omega)]
    exact h1.fr Ux.rf (Nat.le_refl _) (by omega) (e1 _ (by omega) (by omega)) (fun a _ _ _ => e1 a (by omega) (by omega)) (fun a _ _ => e1 a (by omega) (by omega))
  · rw [e1 (x + 354) (by omega) (by omega)]; exact h2
  · exact h3.fr hx Ux.rf (Nat.le_refl _) (by rw [e1 x (by omega) (by omega)]) (by rw [e1 x (by omega) (by omega)]) (e3 7 (by decide)) (e1 _ (by omega) (by omega)) (by rw [e1 (x + 354) (by omega) (by omega)]) (fun a _ _ => e1 a (by omega) (by omega)) (fun a _ _ => e1 a (by omega) (by omega))
theorem Sx.u9 (h : Sx x iv jv) : Sx x (g_u2 iv (x + 353) 9 0) (g_u2 jv (x + 353) 9 0) := by
  refine ⟨fun k a b c => ?_, ?_, fun k a => ?_, fun k a => ?_, fun a q => ?_⟩
  · rw [g_u2_ne _ _ _ (by omega), g_u2_ne _ _ _ (by omega)]; exact h.1 k a b c
  · rw [g_u2_ne _ _ _ (by omega), g_u2_ne _ _ _ (by omega)]; exact h.2.1
  · rw [g_u2_ne _ _ _ (by omega), g_u2_ne _ _ _ (by omega)]; exact h.2.2.1 k a
  · rw [g_u2_self, g_u2_self]
    by_cases e : k = 9
    · rw [e, va_up_self, va_up_self]
    · rw [va_up_ne _ _ e, va_up_ne _ _ e]; exact h.2.2.2.1 k a
  · rw [g_u2_ne _ _ _ (by omega), g_u2_ne _ _ _ (by omega)]; exact h.a q
theorem Th.u9 (h : Th iv u jv v) : Th (g_u2 iv (x + 353) 9 0) u (g_u2 jv (x + 353) 9 0) v := by
  refine ⟨h.1, fun a ha => ?_, h.2.2⟩
  by_cases e : a = x + 353
  · rw [e, g_u2_self, g_u2_self, h.2.1 _ (by omega)]
  · rw [g_u2_ne _ _ _ e, g_u2_ne _ _ _ e]; exact h.2.1 a ha
/-- an op that uses the tape up ends; throws -/
theorem op_endT (hR : RR x z b n t iv u) {y : Int32} {f8 : gM Int32} (hS : Sx x (g_u2 iv (x + 1) 6 0) jv) (hP : ∀ kv : gV, Sx x (g_u2 iv (x + 1) 6 0) kv → (∀ a : Nat, a ≠ x + 369 → kv a = jv a) → gW f8 (kv, u) (fun c h2 => c = y ∧ h2.1 (x + 353) 0 = 0 ∧ h2.1 (x + 369) = kv (x + 369) ∧ oU h2 u ∧ Sx x (g_u2 kv (x + 353) 9 0) h2.1)) : gW (gSI (x + 369) 2 (0 : Int32) y) (jv, u) (fun _ h1 => gW f8 h1 (fun c h2 => h2.1 (x + 353) 0 = 0 ∧ oE 0 (h2.1 (x + 369) 0) c ∧ RR x z b n (t + 1) h2.1 h2.2)) := by
  rw [w_outS hR.out]
  have hS2 : Sx x (g_u2 iv (x + 1) 6 0) (g_u2 jv (x + 369) 0 y) := hS.tr (Sx.u2 (by omega))
  refine gW_mono (hP _ hS2 (fun a ha => g_u2_ne _ _ _ ha)) (fun c h2 ⟨q1, q2, q3, q4, q5⟩ => ⟨q2, fun _ => by rw [q3, q1, g_u2_self, va_up_self], ?_⟩)
  rw [show h2.2 = u from q4]
  exact hR.tz.fr (by omega) (hS2.u9.tr q5)
theorem op_thrT (hR : RR x z b n t iv u) (hT : Th (g_u2 iv (x + 1) 6 0) u jv v) {y : Int32} (hy : y ≠ 0) {f8 : gM Int32} (hP : gW f8 (jv, v) (fun _ h2 => h2.1 (x + 353) 0 = y ∧ oU h2 v ∧ Sx x (g_u2 jv (x + 353) 9 0) h2.1)) : gW f8 (jv, v) (fun c h2 => h2.1 (x + 353) 0 = y ∧ oE y (h2.1 (x + 369) 0) c ∧ RR x z b n (t + 1) h2.1 h2.2) := by
  refine gW_mono hP (fun c h2 ⟨q1, q2, q3⟩ => ⟨q1, fun h => (hy h).elim, ?_⟩)
  rw [show h2.2 = v from q2]
  exact (hR.tz.th (Th.u9 hT)).fr (Nat.le_refl _) q3
theorem CI.t0 (hC : CI x iv u V pn on L) : CI x (g_u2 iv (x + 1) 6 0) u V pn on L := by
  have e1 : ∀ a : Nat, a ≠ x + 1 → g_u2 iv (x + 1) 6 0 a = iv a := fun a h => g_u2_ne _ _ _ h
  exact ⟨hC.1, hC.2.1.fr hC.p8 hC.o6 (fun k _ => by rw [e1 _ (by omega)]) (fun a _ _ _ _ => e1 a (by omega)), hC.2.2.1, hC.2.2.2.1.fr Ux.rf (fun a _ _ => e1 a (by omega)) (by rw [e1 _ (by omega)]) (by have := hC.2.2.2.2; omega), hC.2.2.2.2⟩
/-! what is told -/
/-- a byte -/
def byO (y : Int32) : Prop := ∃ c : Nat, c < 256 ∧ y = Int32.ofInt ((c : Int) - 128)
theorem by_slot : ∀ c : Nat, c < 256 → ((10 : Int32) ≤ (Int32.ofInt ((c : Int) - 128) &&& 255) ↔ ¬ (0 ≤ Int32.ofInt ((c : Int) - 128) ∧ Int32.ofInt ((c : Int) - 128) ≤ 9)) := by decide +kernel
theorem mod2 : ∀ k : Nat, k < 401 → (iN k - iN k / 2 * 2 = 0 ↔ k % 2 = 0) := by decide +kernel
def tdF (T : Nat → Int32) : Nat → Nat → Bool
  | 0, _ => true
  | k + 1, j => decide (0 ≤ T (2 * j) ∧ T (2 * j) ≤ 9) && tdF T k (j + 1)
theorem tdF_at {T : Nat → Int32} : ∀ (k j : Nat), tdF T k j = true → ∀ i : Nat, j ≤ i → i < j + k → 0 ≤ T (2 * i) ∧ T (2 * i) ≤ 9 := by
  intro k
  induction k with
  | zero => intro j _ i h1 h2; omega
  | succ k ih =>
    intro j h i h1 h2
    rw [tdF, Bool.and_eq_true, decide_eq_true_eq] at h
    by_cases e : i = j
    · rw [e]; exact h.1
    · exact ih (j + 1) h.2 i (by omega) (by omega)
/-- whether all is told well: size, nerve, tape -/
def tdO (T : Nat → Int32) (m : Nat) (a : Int32) : Bool := decide (m % 2 = 0 ∧ m ≤ 40 ∧ 1 ≤ a ∧ a ≤ 60) && tdF T (m / 2) 0
theorem c_hears_36 (HX : XS u x) {a : Int32} {m : Nat} {T : Nat → Int32} (hm : m ≤ 40) (h2 : m % 2 = 0) (hT : ∀ k : Nat, k < m → iv (x + 2) k = T k ∧ byO (T k)) {P : Int32 ⊕ gE → g_H → Prop} : ∀ (r j N : Nat), j + r = m / 2 → r < N → gW (f_X1_hears_77 x a (iN m) (bI (tdF T r j = true))) (iv, u) P → gW (f_X1_hears_36 N x a (iN m) 1 (iN (2 * j))) (iv, u) P := by
  intro r
  induction r with
  | zero =>
    intro j N h1 h3 hP
    obtain ⟨N, rfl⟩ : ∃ N', N = N' + 1 := ⟨N - 1, by omega⟩
    rw [f_X1_hears_36, gW_ift (by rw [iN_le (by omega) (by omega)]; omega)]
    exact hP
  | succ r ih =>
    intro j N h1 h3 hP
    obtain ⟨N, rfl⟩ : ∃ N', N = N' + 1 := ⟨N - 1, by omega⟩
    obtain ⟨e1, c, c1, c2⟩ := hT (2 * j) (by omega)
    rw [f_X1_hears_36, gW_iff (by rw [iN_le (by omega) (by omega)]; omega), gW_iff (by decide), gW_B, rXr0 HX, gW_B, rQt HX, gW_B, rQa HX (by omega), e1]
    unfold f_X1_hears_70
    have hb := by_slot c c1
    rw [← c2] at hb
    rw [tdF] at hP
    by_cases d : (10 : Int32) ≤ (T (2 * j) &&& 255)
    · rw [gW_ift d]
      rw [bI_f (fun q => by rw [Bool.and_eq_true, decide_eq_true_eq] at q; exact hb.mp d q.1)] at hP
      -- nothing more is looked at
      cases N with
      | zero => omega
      | succ N =>
        rw [f_X1_hears_36]
        by_cases c0 : iN m ≤ iN (2 * j) + 2
        · rw [gW_ift c0]; exact hP
        · rw [gW_iff c0, gW_ift rfl]; exact hP
    · have hq : decide (0 ≤ T (2 * j) ∧ T (2 * j) ≤ 9) = true := decide_eq_true (by
        by_cases q : 0 ≤ T (2 * j) ∧ T (2 * j) ≤ 9
        · exact q
        · exact absurd (hb.mpr q) d)
      rw [hq, Bool.true_and] at hP
      rw [gW_iff d, iNp2, show 2 * j + 2 = 2 * (j + 1) by omega]
      exact ih (j + 1) N (by omega) (by omega) hP
theorem m_isTold_36 (H : MS u (x + 353)) {m : Nat} {T : Nat → Int32} (hm : m ≤ 40) (h2 : m % 2 = 0) (e11 : iv (x + 353) 11 = iN m) (hT : ∀ k : Nat, k < m → iv (x + 359) k = T k ∧ byO (T k)) {P : Int32 → g_H → Prop} : ∀ (r j N : Nat), j + r = m / 2 → r + 1 < N → P (bI (tdF T r j = true)) (iv, u) → gW (f_X8_isTold_36 N (x + 353) 1 (iN (2 * j))) (iv, u) P := by
  intro r
  induction r with
  | zero =>
    intro j N h1 h3 hP
    obtain ⟨N, rfl⟩ : ∃ N', N = N' + 1 := ⟨N - 1, by omega⟩
    unfold f_X8_isTold_36 f_X8_isTold_72
    rw [gW_B, rMi H, e11, gW_ift (by rw [iN_le (by omega) (by omega)]; omega), gW_gd1 (Or.inr rfl)]
    exact hP
  | succ r ih =>
    intro j N h1 h3 hP
    obtain ⟨N, rfl⟩ : ∃ N', N = N' + 1 := ⟨N - 1, by omega⟩
    obtain ⟨e1, c, c1, c2⟩ := hT (2 * j) (by omega)
    rw [f_X8_isTold_36, gW_B, rMi H, e11, gW_iff (by rw [iN_le (by omega) (by omega)]; omega), gW_iff (by decide), gW_B, rMr5 H, gW_B, rMa5 H (by omega), show iv (x + 353 + 6) (2 * j) = T (2 * j) from e1, gW_B, w_noSlot]
    unfold f_X8_isTold_65
    rw [tdF] at hP
    by_cases d : 0 ≤ T (2 * j) ∧ T (2 * j) ≤ 9
    · rw [decide_eq_true d, Bool.true_and] at hP
      rw [bI_f (fun q => q d), gW_ift rfl, iNp2, show 2 * j + 2 = 2 * (j + 1) by omega]
      exact ih (j + 1) N (by omega) (by omega) hP
    · rw [bI_t d, gW_iff (by decide)]
      rw [bI_f (fun q => by rw [Bool.and_eq_true, decide_eq_true_eq] at q; exact d q.1)] at hP
      cases N with
      | zero => omega
      | succ N =>
        unfold f_X8_isTold_36 f_X8_isTold_72
        rw [gW_B, rMi H, e11]
        by_cases c0 : iN m ≤ iN (2 * j) + 2
        · rw [gW_ift c0, gW_gd1 (Or.inl rfl)]; exact hP
        · rw [gW_iff c0, gW_ift rfl, gW_gd1 (Or.inl rfl)]; exact hP
/-- all that the component looks at ahead -/
theorem c_hears_a (HX : XS u x) {a : Int32} {m : Nat} {T : Nat → Int32} (hm : m ≤ 400) (e6 : iv (x + 1) 6 = iN m) (hT : ∀ k : Nat, k < m → iv (x + 2) k = T k ∧ byO (T k)) {P : Int32 ⊕ gE → g_H → Prop} (hP : gW (f_X1_hears_77 x a (iN m) (bI (tdO T m a = true))) (g_u2 iv (x + 1) 6 0, u) P) : gW (f_X1_hears x a) (iv, u) P := by
  unfold f_X1_hears
  rw [gW_B, rXc HX, gW_B, w_took HX, e6]
  have hT2 : ∀ k : Nat, k < m → g_u2 iv (x + 1) 6 0 (x + 2) k = T k ∧ byO (T k) := fun k hk => by rw [g_u2_ne _ _ _ (by omega)]; exact hT k hk
  have no : ¬ (m % 2 = 0 ∧ m ≤ 40 ∧ 1 ≤ a ∧ a ≤ 60) → gW (f_X1_hears_31 x a (iN m)) (g_u2 iv (x + 1) 6 0, u) P := by
    intro hn
    unfold f_X1_hears_31 f_X1_hears_32
    obtain ⟨G, hG⟩ : ∃ G, gN = G + 1 := ⟨gN - 1, by rw [gN_eq]⟩
    have hf : ¬ tdO T m a = true := fun q => by
      unfold tdO at q
      rw [Bool.and_eq_true, decide_eq_true_eq] at q
      exact hn q.1
    rw [bI_f hf] at hP
    rw [hG, f_X1_hears_36]
    by_cases c0 : iN m ≤ 0
    · rw [gW_ift c0]; exact hP
    · rw [gW_iff c0, gW_ift rfl]; exact hP
  have h2 := mod2 m (by omega)
  by_cases c1 : m % 2 = 0
  · rw [gW_ift (h2.mpr c1)]
    by_cases c2 : m ≤ 40
    · rw [gW_iff (by rw [show (40 : Int32) = iN 40 from rfl, iN_lt (by omega) (by omega)]; omega), gW_B, w_isIn]
      by_cases c3 : 1 ≤ a ∧ a ≤ 60
      · rw [bI_t c3, gW_iff (by decide)]
        unfold f_X1_hears_32
        show gW (f_X1_hears_36 gN x a (iN m) 1 (iN (2 * 0))) _ _
        refine c_hears_36 HX c2 c1 hT2 (m / 2) 0 gN (by omega) (by rw [gN_eq]; omega) ?_
        have : tdO T m a = tdF T (m / 2) 0 := by unfold tdO; rw [decide_eq_true ⟨c1, c2, c3⟩, Bool.true_and]
        rw [this] at hP
        exact hP
      · rw [bI_f c3, gW_ift rfl]
        exact no (fun q => c3 q.2.2)
    · rw [gW_ift (by rw [show (40 : Int32) = iN 40 from rfl, iN_lt (by omega) (by omega)]; omega)]
      exact no (fun q => c2 q.2.1)
  · rw [gW_iff (fun q => c1 (h2.mp q))]
    exact no (fun q => c1 q.1)
theorem m_isTold (H : MS u (x + 353)) {a : Int32} {m : Nat} {T : Nat → Int32} (hm : m ≤ 400) (e11 : iv (x + 353) 11 = iN m) (hT : ∀ k : Nat, k < m → iv (x + 359) k = T k ∧ byO (T k)) {P : Int32 → g_H → Prop} (hP : P (bI (tdO T m a = true)) (iv, u)) : gW (f_X8_isTold (x + 353) a) (iv, u) P := by
  unfold f_X8_isTold
  rw [gW_B, rMi H, e11]
  have no : ¬ (m % 2 = 0 ∧ m ≤ 40 ∧ 1 ≤ a ∧ a ≤ 60) → gW (f_X8_isTold_32 (x + 353)) (iv, u) P := by
    intro hn
    unfold f_X8_isTold_32 f_X8_isTold_33
    obtain ⟨G, hG⟩ : ∃ G, gN = G + 1 := ⟨gN - 1, by rw [gN_eq]⟩
    have hf : ¬ tdO T m a = true := fun q => by
      unfold tdO at q
      rw [Bool.and_eq_true, decide_eq_true_eq] at q
      exact hn q.1
    rw [bI_f hf] at hP
    rw [hG]
    unfold f_X8_isTold_36 f_X8_isTold_72
    rw [gW_B, rMi H, e11]
    by_cases c0 : iN m ≤ 0
    · rw [gW_ift c0, gW_gd1 (Or.inl rfl)]; exact hP
    · rw [gW_iff c0, gW_ift rfl, gW_gd1 (Or.inl rfl)]; exact hP
  have h2 := mod2 m (by omega)
  by_cases c1 : m % 2 = 0
  · rw [gW_ift (h2.mpr c1), gW_B, rMi H, e11]
    by_cases c2 : m ≤ 40
    · rw [gW_iff (by rw [show (40 : Int32) = iN 40 from rfl, iN_lt (by omega) (by omega)]; omega), gW_B, w_in]
      by_cases c3 : 1 ≤ a ∧ a ≤ 60
      · rw [bI_t c3, gW_iff (by decide)]
        unfold f_X8_isTold_33
        show gW (f_X8_isTold_36 gN (x + 353) 1 (iN (2 * 0))) _ _
        refine m_isTold_36 H c2 c1 e11 hT (m / 2) 0 gN (by omega) (by rw [gN_eq]; omega) ?_
        have : tdO T m a = tdF T (m / 2) 0 := by unfold tdO; rw [decide_eq_true ⟨c1, c2, c3⟩, Bool.true_and]
        rw [this] at hP
        exact hP
      · rw [bI_f c3, gW_ift rfl]
        exact no (fun q => c3 q.2.2)
    · rw [gW_ift (by rw [show (40 : Int32) = iN 40 from rfl, iN_lt (by omega) (by omega)]; omega)]
      exact no (fun q => c2 q.2.1)
  · rw [gW_iff (fun q => c1 (h2.mp q))]
    exact no (fun q => c1 q.1)
/-! who fits -/
/-- how one with a set of deeds is frighted in a slot -/
def heG (V : Nat → Int32) (pn : Nat) (L : gLw) (a : Int32) (e s : Nat) : Int32 := fS V pn L (iN e) a 0 s (tS V pn L (iN e) a 0 s)
def fiF (g T : Nat → Int32) : Nat → Nat → Bool
  | 0, _ => true
  | k + 1, j => decide (g (T (2 * j)).toNatClampNeg = (T (2 * j + 1) &&& 255)) && fiF g T k (j + 1)
def fiO (V : Nat → Int32) (pn : Nat) (L : gLw) (a : Int32) (T : Nat → Int32) (m e : Nat) : Bool := fiF (heG V pn L a e) T (m / 2) 0
theorem slot_get {y : Int32} (h : 0 ≤ y ∧ y ≤ 9) : y.toNatClampNeg < 10 ∧ y = iN y.toNatClampNeg := by
  obtain ⟨k, hk, rfl⟩ := i_get2 (n := 9) (by decide) h
  rw [iN_c (by omega)]
  exact ⟨by omega, rfl⟩
theorem m_fits_27 (H : MS u (x + 353)) {g T : Nat → Int32} {m : Nat} (hm : m ≤ 40) (h2 : m % 2 = 0) (e11 : iv (x + 353) 11 = iN m) (hT : ∀ k : Nat, k < m → iv (x + 359) k = T k) (hg : ∀ s : Nat, s < 10 → iv (x + 363) s = g s) (hs : ∀ i : Nat, i < m / 2 → 0 ≤ T (2 * i) ∧ T (2 * i) ≤ 9) {P : Int32 → g_H → Prop} : ∀ (r j N : Nat) (q : Bool), j + r = m / 2 → r < N → (gW (f_X8_fits_27 N (x + 353) (bI (q = true)) (iN (2 * j))) (iv, u) P ↔ P (bI ((q && fiF g T r j) = true)) (iv, u)) := by
  intro r
  induction r with
  | zero =>
    intro j N q h1 h3
    obtain ⟨N, rfl⟩ : ∃ N', N = N' + 1 := ⟨N - 1, by omega⟩
    unfold f_X8_fits_27 f_X8_fits_80
    rw [gW_B, rMi H, e11, gW_ift (by rw [iN_le (by omega) (by omega)]; omega), gW_gd1 bI_o, fiF, Bool.and_true]
  | succ r ih =>
    intro j N q h1 h3
    obtain ⟨N, rfl⟩ : ∃ N', N = N' + 1 := ⟨N - 1, by omega⟩
    rw [f_X8_fits_27, gW_B, rMi H, e11, gW_iff (by rw [iN_le (by omega) (by omega)]; omega), fiF]
    unfold f_X8_fits_72 f_X8_fits_73
    have nxt : ∀ q2 : Bool, gW (f_X8_fits_27 N (x + 353) (bI (q2 = true)) (iN (2 * j) + 2)) (iv, u) P ↔ P (bI ((q2 && fiF g T r (j + 1)) = true)) (iv, u) := fun q2 => by
      rw [iNp2, show 2 * j + 2 = 2 * (j + 1) by omega]
      exact ih (j + 1) N q2 (by omega) (by omega)
    have n0 := nxt false
    have n1 := nxt true
    rw [bI_f (show ¬ false = true by decide)] at n0
    rw [bI_t (show true = true from rfl)] at n1
    cases q with
    | false =>
      rw [bI_f (show ¬ false = true by decide), gW_ift rfl, n0, Bool.false_and, Bool.false_and]
    | true =>
      obtain ⟨s1, s2⟩ := slot_get (hs j (by omega))
      rw [bI_t (show true = true from rfl), gW_iff (by decide), gW_B, rMr9 H, gW_B, rMr5 H, gW_B, rMa5 H (by omega), show iv (x + 353 + 6) (2 * j) = T (2 * j) from hT _ (by omega), gW_B, s2, rMa9 H s1, ← s2, show iv (x + 353 + 10) (T (2 * j)).toNatClampNeg = g (T (2 * j)).toNatClampNeg from hg _ s1, gW_B, rMr5 H, gW_B, iNp1, rMa5 H (by omega), show iv (x + 353 + 6) (2 * j + 1) = T (2 * j + 1) from hT _ (by omega), Bool.true_and]
      by_cases c : g (T (2 * j)).toNatClampNeg = (T (2 * j + 1) &&& 255)
      · rw [gW_ift c, n1, decide_eq_true c]
      · rw [gW_iff c, n0, decide_eq_false c]
theorem m_fits (hM : MI x iv u V pn on L) {a : Int32} {T : Nat → Int32} {m e : Nat} (hm : m ≤ 40) (h2 : m % 2 = 0) (e11 : iv (x + 353) 11 = iN m) (h23 : iv (x + 353) 23 = 0) (h24 : iv (x + 353) 24 = 0) (hT : ∀ k : Nat, k < m → iv (x + 359) k = T k) (hs : ∀ i : Nat, i < m / 2 → 0 ≤ T (2 * i) ∧ T (2 * i) ≤ 9) {P : Int32 → g_H → Prop} (hP : ∀ kv : gV, Sm x iv kv → MI x kv u V pn on L → (∀ s : Nat, s < 10 → kv (x + 363) s = heG V pn L a e s) → kv (x + 368) = iv (x + 368) → P (bI (fiO V pn L a T m e = true)) (kv, u)) : gW (f_X8_fits (x + 353) (iN e) a) (iv, u) P := by
  have H := hM.M
  unfold f_X8_fits
  rw [gW_B, rMp H, gW_B, rMp H, gW_B, rMp H, gW_B, rMc H, gW_B]
  have S1 : Sm x iv (g_u2 (g_u2 (g_u2 iv (x + 353) 18 (iN e)) (x + 353) 19 a) (x + 353) 20 0) := ((Sm.um (by omega)).tr (Sm.um (by omega))).tr (Sm.um (by omega))
  have f18 : g_u2 (g_u2 (g_u2 iv (x + 353) 18 (iN e)) (x + 353) 19 a) (x + 353) 20 0 (x + 353) 18 = iN e := by simp [g_u2, va_up]
  have f19 : g_u2 (g_u2 (g_u2 iv (x + 353) 18 (iN e)) (x + 353) 19 a) (x + 353) 20 0 (x + 353) 19 = a := by simp [g_u2, va_up]
  have f20 : g_u2 (g_u2 (g_u2 iv (x + 353) 18 (iN e)) (x + 353) 19 a) (x + 353) 20 0 (x + 353) 20 = 0 := by simp [g_u2, va_up]
  have fa : ∀ c : Nat, c ≠ x + 353 → g_u2 (g_u2 (g_u2 iv (x + 353) 18 (iN e)) (x + 353) 19 a) (x + 353) 20 0 c = iv c := fun c hc => by rw [g_u2_ne _ _ _ hc, g_u2_ne _ _ _ hc, g_u2_ne _ _ _ hc]
  generalize g_u2 (g_u2 (g_u2 iv (x + 353) 18 (iN e)) (x + 353) 19 a) (x + 353) 20 0 = j1 at S1 f18 f19 f20 fa ⊢
  have M1 := hM.fr S1.S
  obtain ⟨r, hr⟩ : ∃ r, rW V pn L (iN e) a 0 false true 0 0 = r := ⟨_, rfl⟩
  have key := m_rides (dr := false) (te := true) (r := r) (P := fun _ h1 => gW (f_X8_fits_27 gN (x + 353) (1 : Int32) (0 : Int32)) h1 P) M1 f18 f19 f20 (by rw [S1.1 23 (by omega)]; exact h23) (by rw [S1.1 24 (by omega)]; exact h24) hr (fun kv hB hj => ?_)
  · rw [bI_f (by decide), bI_t rfl] at key
    exact key
  · have S2 := mB.S hr hB M1
    have hj := hj rfl rfl rfl
    have hg : ∀ s : Nat, s < 10 → kv (x + 363) s = heG V pn L a e s := fun s hs => by
      have := (hj s hs).2
      rw [if_pos (Or.inl rfl)] at this
      exact this
    have S3 := S1.tr S2
    have M3 := hM.fr S3.S
    have k27 := m_fits_27 (P := P) (u := u) (T := T) (g := heG V pn L a e) M3.M hm h2 (by rw [S3.1 11 (by omega)]; exact e11) (fun k hk => by rw [S3.a (by omega)]; exact hT k hk) hg hs (m / 2) 0 gN true (by omega) (by rw [gN_eq]; omega)
    rw [bI_t rfl, Bool.true_and] at k27
    exact k27.mpr (hP kv S3 M3 hg (by rw [hB.2.2.2.2.2.2 _ (by omega) (by omega) (by omega) (by omega) (by omega) (by omega), fa _ (by omega)]))
end HRS
