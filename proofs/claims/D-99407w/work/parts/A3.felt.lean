/-! WHO FITS, in the component; found -/
section FLT
variable {iv jv kv lv : gV} {u v : gU} {x z b n t : Nat} {V : Nat → Int32} {pn on : Nat} {L : gLw}
theorem narB : vp_nar .boolean (1 : Int32) = 1 ∧ vp_nar .boolean (0 : Int32) = 0 := by decide
/-- what is felt by those below i, and who of them fits -/
def feI (x i : Nat) (fit : Nat → Bool) (g : Nat → Nat → Int32) (iv : gV) : Prop := ∀ e : Nat, e < i → iv (x + 100) e = bI (fit e = true) ∧ ∀ s : Nat, s < 10 → iv (x + 99) (10 * e + s) = g e s
theorem c_felt_117 {a : Int32} {m e : Nat} {y : Int32} (he : e < 64) {k95 : Nat → Int32 → Int32 → Int32 → gM (Int32 ⊕ gE)} {P : Int32 ⊕ gE → g_H → Prop} : ∀ (k s N : Nat) (jv : gV), s + k = 10 → k < N → CI x jv u V pn on L → jv (x + 96) 0 = iN e → jv (x + 96) 1 = a → jv (x + 96) 2 = 0 → (∀ i : Nat, i < s → jv (x + 99) (10 * e + i) = heG V pn L a e i) → (∀ kv : gV, (∀ c : Nat, c ≠ x + 33 → c ≠ x + 99 → kv c = jv c) → (∀ i : Nat, (i < 10 * e ∨ 10 * e + 10 ≤ i) → kv (x + 99) i = jv (x + 99) i) → CI x kv u V pn on L → (∀ i : Nat, i < 10 → kv (x + 99) (10 * e + i) = heG V pn L a e i) → gW (f_X1_hears_176 k95 x (iN m) y (iN e)) (kv, u) P) → gW (f_X1_hears_117 k95 N x (iN m) y (iN e) (tS V pn L (iN e) a 0 s) (iN s)) (jv, u) P := by
  intro k
  induction k with
  | zero =>
    intro s N jv h1 h2 hC e0 e1 e2 hf hP
    obtain ⟨N, rfl⟩ : ∃ N', N = N' + 1 := ⟨N - 1, by omega⟩
    have : s = 10 := by omega
    subst this
    rw [f_X1_hears_117, gW_ift (by decide)]
    exact hP jv (fun _ _ _ => rfl) (fun _ _ => rfl) hC hf
  | succ k ih =>
    intro s N jv h1 h2 hC e0 e1 e2 hf hP
    obtain ⟨N, rfl⟩ : ∃ N', N = N' + 1 := ⟨N - 1, by omega⟩
    have HX := hC.X
    have hst : u.1 (x + 96) = some (.inr 4) := HX.1.2.2.2.2
    rw [f_X1_hears_117, gW_iff (by rw [show (10 : Int32) = iN 10 from rfl, iN_le (by omega) (by omega)]; omega), gW_B, rXr9 HX, gW_B, rXr1 HX, gW_B, rXr6 HX, gW_B, rSc HX.nw, gW_B]
    refine c_frights hC hst (by omega) (fun f => ?_)
    rw [e0, e1, e2]
    have em : (10 : Int32) * iN e + iN s = iN (10 * e + s) := by rw [show (10 : Int32) = iN 10 from rfl, iN_mul, iN_add]
    rw [em, gW_B, rXs99 HX (by omega)]
    have S2 : Sx x jv (g_u2 (va_up jv (x + 33) f) (x + 99) (10 * e + s) (fS V pn L (iN e) a 0 s (tS V pn L (iN e) a 0 s))) := (Sx.up (by omega)).tr (Sx.u2 (by omega))
    have a2 : ∀ c : Nat, c ≠ x + 33 → c ≠ x + 99 → g_u2 (va_up jv (x + 33) f) (x + 99) (10 * e + s) (fS V pn L (iN e) a 0 s (tS V pn L (iN e) a 0 s)) c = jv c := fun c c1 c2 => by rw [g_u2_ne _ _ _ c2, va_up_ne _ _ c1]
    have a3 : g_u2 (va_up jv (x + 33) f) (x + 99) (10 * e + s) (fS V pn L (iN e) a 0 s (tS V pn L (iN e) a 0 s)) (x + 99) = va_up (jv (x + 99)) (10 * e + s) (heG V pn L a e s) := by rw [g_u2_self, va_up_ne _ _ (by omega)]; rfl
    generalize g_u2 (va_up jv (x + 33) f) (x + 99) (10 * e + s) (fS V pn L (iN e) a 0 s (tS V pn L (iN e) a 0 s)) = j2 at S2 a2 a3 ⊢
    have C2 := hC.fr S2
    have H2 := C2.X
    rw [gW_B, rXr1 H2, gW_B, rXr6 H2, gW_B, rSc H2.nw, gW_B]
    refine c_behind C2 hst (by omega) (fun f2 => ?_)
    rw [a2 (x + 96) (by omega) (by omega), e0, e1, e2, iNp1]
    have S3 : Sx x j2 (va_up j2 (x + 33) f2) := Sx.up (by omega)
    have b2 : ∀ c : Nat, c ≠ x + 33 → va_up j2 (x + 33) f2 c = j2 c := fun c hc => va_up_ne _ _ hc
    refine ih (s + 1) N _ (by omega) (by omega) (C2.fr S3) (by rw [b2 _ (by omega), a2 _ (by omega) (by omega)]; exact e0) (by rw [b2 _ (by omega), a2 _ (by omega) (by omega)]; exact e1) (by rw [b2 _ (by omega), a2 _ (by omega) (by omega)]; exact e2) (fun i hi => ?_) (fun kv g1 g2 g3 g4 => hP kv (fun c c1 c2 => by rw [g1 c c1 c2, b2 c c1, a2 c c1 c2]) (fun i hi => by rw [g2 i hi, b2 _ (by omega), a3, va_up_ne _ _ (by omega)]) g3 g4)
    rw [b2 _ (by omega), a3]
    by_cases ei : i = s
    · rw [ei, va_up_self]
    · rw [va_up_ne _ _ (by omega)]; exact hf i (by omega)
theorem c_felt_187 (HX : XS u x) {g T : Nat → Int32} {m e : Nat} {y : Int32} (he : e < 64) (hm : m ≤ 40) (h2 : m % 2 = 0) (hs : ∀ i : Nat, i < m / 2 → 0 ≤ T (2 * i) ∧ T (2 * i) ≤ 9) {k95 : Nat → Int32 → Int32 → Int32 → gM (Int32 ⊕ gE)} {P : Int32 ⊕ gE → g_H → Prop} : ∀ (r j N : Nat) (jv : gV), j + r = m / 2 → r < N → (∀ k : Nat, k < m → jv (x + 2) k = T k) → (∀ i : Nat, i < 10 → jv (x + 99) (10 * e + i) = g i) → jv (x + 100) e = 1 → (∀ kv : gV, (∀ c : Nat, c ≠ x + 100 → kv c = jv c) → (∀ i : Nat, i ≠ e → kv (x + 100) i = jv (x + 100) i) → kv (x + 100) e = bI (fiF g T r j = true) → gW (f_X1_hears_261 k95 x (iN m) y (iN e)) (kv, u) P) → gW (f_X1_hears_187 k95 N x (iN m) y (iN e) (iN (2 * j))) (jv, u) P := by
  intro r
  induction r with
  | zero =>
    intro j N jv h1 h3 hT hg h100 hP
    obtain ⟨N, rfl⟩ : ∃ N', N = N' + 1 := ⟨N - 1, by omega⟩
    rw [f_X1_hears_187, gW_ift (by rw [iN_le (by omega) (by omega)]; omega)]
    exact hP jv (fun _ _ => rfl) (fun _ _ => rfl) (by rw [h100]; rfl)
  | succ r ih =>
    intro j N jv h1 h3 hT hg h100 hP
    obtain ⟨N, rfl⟩ : ∃ N', N = N' + 1 := ⟨N - 1, by omega⟩
    obtain ⟨s1, s2⟩ := slot_get (hs j (by omega))
    have em : (10 : Int32) * iN e + iN (T (2 * j)).toNatClampNeg = iN (10 * e + (T (2 * j)).toNatClampNeg) := by rw [show (10 : Int32) = iN 10 from rfl, iN_mul, iN_add]
    rw [f_X1_hears_187, gW_iff (by rw [iN_le (by omega) (by omega)]; omega), gW_B, rXr10 HX, gW_B, rXa100 HX he, h100, gW_iff (by decide), gW_B, rXr10 HX, gW_B, rXr9 HX, gW_B, rXr0 HX, gW_B, rQt HX, gW_B, rQa HX (by omega), hT _ (by omega), gW_B, s2, em, rXa99 HX (by omega), hg _ s1, gW_B, rXr0 HX, gW_B, rQt HX, gW_B, iNp1, rQa HX (by omega), hT _ (by omega)]
    unfold f_X1_hears_254
    rw [fiF] at hP
    by_cases c : g (T (2 * j)).toNatClampNeg = (T (2 * j + 1) &&& 255)
    · rw [decide_eq_true c, Bool.true_and] at hP
      rw [gW_ift c, gW_B, narB.1, rXs100 HX he, iNp2, show 2 * j + 2 = 2 * (j + 1) by omega, g_u2_id _ _ _ h100]
      exact ih (j + 1) N jv (by omega) (by omega) hT hg h100 hP
    · rw [decide_eq_false c, Bool.false_and] at hP
      rw [gW_iff c, gW_B, narB.2, rXs100 HX he]
      cases N with
      | zero => omega
      | succ N =>
        have fin := hP (g_u2 jv (x + 100) e 0) (fun c hc => g_u2_ne _ _ _ hc) (fun i hi => by rw [g_u2_self, va_up_ne _ _ hi]) (by rw [g_u2_self, va_up_self]; rfl)
        rw [f_X1_hears_187]
        by_cases c0 : iN m ≤ iN (2 * j) + 2
        · rw [gW_ift c0]; exact fin
        · rw [gW_iff c0, gW_B, rXr10 HX, gW_B, rXa100 HX he, g_u2_self, va_up_self, gW_ift rfl]; exact fin
/-- how many of those below i fit -/
def fiN (fit : Nat → Bool) (i : Nat) : Nat := nS (fun e => if fit e = true then 1 else 0) i 0
theorem fiN_s (fit : Nat → Bool) (i : Nat) : fiN fit (i + 1) = fiN fit i + (if fit i = true then 1 else 0) := by
  unfold fiN
  rw [nS_snoc, Nat.zero_add]
theorem fiN_le (fit : Nat → Bool) : ∀ i : Nat, fiN fit i ≤ i := by
  intro i
  induction i with
  | zero => exact Nat.le_refl _
  | succ i ih => rw [fiN_s]; split <;> omega
/-- jv: all sets were tried -/
def feD (x : Nat) (u : gU) (V : Nat → Int32) (pn on : Nat) (L : gLw) (a : Int32) (T : Nat → Int32) (m : Nat) (iv jv : gV) : Prop := Sx x iv jv ∧ CI x jv u V pn on L ∧ feI x 64 (fiO V pn L a T m) (heG V pn L a) jv
theorem c_felt_95 {a : Int32} {T : Nat → Int32} {m : Nat} (hm : m ≤ 40) (h2 : m % 2 = 0) (hs : ∀ i : Nat, i < m / 2 → 0 ≤ T (2 * i) ∧ T (2 * i) ≤ 9) {P : Int32 ⊕ gE → g_H → Prop} : ∀ (k e N : Nat) (jv : gV), e + k = 64 → k < N → Sx x iv jv → CI x jv u V pn on L → jv (x + 96) 1 = a → jv (x + 96) 2 = 0 → (∀ k : Nat, k < m → jv (x + 2) k = T k) → feI x e (fiO V pn L a T m) (heG V pn L a) jv → (∀ kv : gV, feD x u V pn on L a T m iv kv → P (.inl (iN (fiN (fiO V pn L a T m) 64))) (kv, u)) → gW (f_X1_hears_95 N x (iN m) (iN (fiN (fiO V pn L a T m) e)) (iN e)) (jv, u) P := by
  intro k
  induction k with
  | zero =>
    intro e N jv h1 h3 hS hC e1 e2 hT hf hP
    obtain ⟨N, rfl⟩ : ∃ N', N = N' + 1 := ⟨N - 1, by omega⟩
    have : e = 64 := by omega
    subst this
    unfold f_X1_hears_95 f_X1_hears_287
    rw [gW_ift (by decide), gW_ret]
    exact hP jv ⟨hS, hC, hf⟩
  | succ k ih =>
    intro e N jv h1 h3 hS hC e1 e2 hT hf hP
    obtain ⟨N, rfl⟩ : ∃ N', N = N' + 1 := ⟨N - 1, by omega⟩
    have HX := hC.X
    have he : e < 64 := by omega
    rw [f_X1_hears_95, gW_iff (by rw [show (64 : Int32) = iN 64 from rfl, iN_le (by omega) (by omega)]; omega), gW_B, rXr6 HX, gW_B, rXsp HX]
    have S1 : Sx x jv (g_u2 jv (x + 96) 0 (iN e)) := Sx.us (Or.inl rfl)
    have a1 : ∀ c : Nat, c ≠ x + 96 → g_u2 jv (x + 96) 0 (iN e) c = jv c := fun c hc => g_u2_ne _ _ _ hc
    have a2 : g_u2 jv (x + 96) 0 (iN e) (x + 96) = va_up (jv (x + 96)) 0 (iN e) := g_u2_self _ _ _ _
    generalize g_u2 jv (x + 96) 0 (iN e) = j1 at S1 a1 a2 ⊢
    show gW (f_X1_hears_117 (f_X1_hears_95 N) gN x (iN m) _ (iN e) (tS V pn L (iN e) a 0 0) (iN 0)) _ _
    refine c_felt_117 he 10 0 gN j1 (by omega) (by rw [gN_eq]; omega) (hC.fr S1) (by rw [a2, va_up_self]) (by rw [a2, va_up_ne _ _ (by decide)]; exact e1) (by rw [a2, va_up_ne _ _ (by decide)]; exact e2) (fun i hi => absurd hi (Nat.not_lt_zero i)) (fun j2 b1 b2 C2 b4 => ?_)
    unfold f_X1_hears_176
    have H2 := C2.X
    rw [gW_B, rXr10 H2, gW_B, narB.1, rXs100 H2 he]
    have c1 : ∀ c : Nat, c ≠ x + 100 → g_u2 j2 (x + 100) e 1 c = j2 c := fun c hc => g_u2_ne _ _ _ hc
    have c2 : g_u2 j2 (x + 100) e 1 (x + 100) = va_up (j2 (x + 100)) e 1 := g_u2_self _ _ _ _
    generalize g_u2 j2 (x + 100) e 1 = j3 at c1 c2 ⊢
    show gW (f_X1_hears_187 (f_X1_hears_95 N) gN x (iN m) _ (iN e) (iN (2 * 0))) _ _
    refine c_felt_187 H2 (g := heG V pn L a e) (T := T) he hm h2 hs (m / 2) 0 gN j3 (by omega) (by rw [gN_eq]; omega) (fun k hk => by rw [c1 _ (by omega), b1 _ (by omega) (by omega), a1 _ (by omega)]; exact hT k hk) (fun i hi => by rw [c1 _ (by omega)]; exact b4 i hi) (by rw [c2, va_up_self]) (fun j4 d1 d2 d3 => ?_)
    -- the end of a set
    have f1 : ∀ c : Nat, c ≠ x + 33 → c ≠ x + 96 → c ≠ x + 99 → c ≠ x + 100 → j4 c = jv c := fun c q1 q2 q3 q4 => by rw [d1 c q4, c1 c q4, b1 c q1 q3, a1 c q2]
    have f96 : j4 (x + 96) = va_up (jv (x + 96)) 0 (iN e) := by rw [d1 _ (by omega), c1 _ (by omega), b1 _ (by omega) (by omega), a2]
    have S4 : Sx x jv j4 := ⟨fun k _ _ _ => by rw [f1 x (by omega) (by omega) (by omega) (by omega)], by rw [f1 (x + 1) (by omega) (by omega) (by omega) (by omega)], fun k hk => by rw [f96, va_up_ne _ _ (by omega)], fun k _ => by rw [f1 (x + 353) (by omega) (by omega) (by omega) (by omega)], fun c hc => f1 c (by omega) (by omega) (by omega) (by omega)⟩
    have C4 := hC.fr S4
    have H4 := C4.X
    have hf4 : feI x (e + 1) (fiO V pn L a T m) (heG V pn L a) j4 := fun e' he' => by
      by_cases ee : e' = e
      · subst ee
        refine ⟨d3, fun s hs => ?_⟩
        rw [d1 _ (by omega), c1 _ (by omega)]
        exact b4 s hs
      · obtain ⟨g1, g2⟩ := hf e' (by omega)
        refine ⟨?_, fun s hs => ?_⟩
        · rw [d2 e' ee, c2, va_up_ne _ _ ee, b1 _ (by omega) (by omega), a1 _ (by omega)]; exact g1
        · rw [d1 _ (by omega), c1 _ (by omega), b2 _ (by omega), a1 _ (by omega)]; exact g2 s hs
    have go : ∀ y : Nat, y = (if fiO V pn L a T m e = true then 1 else 0) → gW (f_X1_hears_95 N x (iN m) (iN (fiN (fiO V pn L a T m) e) + iN y) (iN e + 1)) (j4, u) P := by
      intro y hy
      rw [iN_add, iNp1, hy, ← fiN_s]
      exact ih (e + 1) N j4 (by omega) (by omega) (hS.tr S4) C4 (by rw [f96, va_up_ne _ _ (by decide)]; exact e1) (by rw [f96, va_up_ne _ _ (by decide)]; exact e2) (fun k hk => by rw [f1 _ (by omega) (by omega) (by omega) (by omega)]; exact hT k hk) hf4 hP
    unfold f_X1_hears_261 f_X1_hears_278
    have d3 : j4 (x + 100) e = bI (fiO V pn L a T m e = true) := d3
    rw [gW_B, rXr10 H4, gW_B, rXa100 H4 he, d3]
    by_cases c : fiO V pn L a T m e = true
    · rw [bI_t c, gW_iff (by decide)]
      exact go 1 (by rw [if_pos c])
    · rw [bI_f c, gW_ift rfl]
      exact go 0 (by rw [if_neg c])
/-- the component hears -/
theorem c_hears (hC : CI x iv u V pn on L) (h96 : iv (x + 96) 2 = 0) {a : Int32} {m : Nat} {T : Nat → Int32} (hm : m ≤ 400) (e6 : iv (x + 1) 6 = iN m) (hT : ∀ k : Nat, k < m → iv (x + 2) k = T k ∧ byO (T k)) (ok : tdO T m a = true) {P : Int32 ⊕ gE → g_H → Prop} (hP : ∀ kv : gV, feD x u V pn on L a T m (g_u2 iv (x + 1) 6 0) kv → P (.inl (iN (fiN (fiO V pn L a T m) 64))) (kv, u)) : gW (f_X1_hears x a) (iv, u) P := by
  have HX := hC.X
  refine c_hears_a HX hm e6 hT ?_
  unfold tdO at ok
  rw [Bool.and_eq_true, decide_eq_true_eq] at ok
  obtain ⟨⟨o1, o2, o3⟩, o4⟩ := ok
  have okk : tdO T m a = true := by unfold tdO; rw [Bool.and_eq_true, decide_eq_true_eq]; exact ⟨⟨o1, o2, o3⟩, o4⟩
  unfold f_X1_hears_77
  rw [gW_T, w_must_t (bI_t okk)]
  dsimp only
  rw [gW_B, rXr6 HX, gW_B, rXsp HX]
  have S1 : Sx x (g_u2 iv (x + 1) 6 0) (g_u2 (g_u2 iv (x + 1) 6 0) (x + 96) 1 a) := Sx.us (Or.inr rfl)
  show gW (f_X1_hears_95 gN x (iN m) (iN (fiN (fiO V pn L a T m) 0)) (iN 0)) _ _
  refine c_felt_95 o2 o1 (fun i hi => tdF_at _ 0 o4 i (by omega) (by omega)) 64 0 gN _ (by omega) (by rw [gN_eq]; omega) S1 (hC.t0.fr S1) (by rw [g_u2_self, va_up_self]) (by rw [g_u2_self, va_up_ne _ _ (by decide), g_u2_ne _ _ _ (by omega)]; exact h96) (fun k hk => by rw [g_u2_ne _ _ _ (by omega), g_u2_ne _ _ _ (by omega)]; exact (hT k hk).1) (fun e he => absurd he (Nat.not_lt_zero e)) hP
theorem c_hears_f (hC : CI x iv u V pn on L) {a : Int32} {m : Nat} {T : Nat → Int32} (hm : m ≤ 400) (e6 : iv (x + 1) 6 = iN m) (hT : ∀ k : Nat, k < m → iv (x + 2) k = T k ∧ byO (T k)) (ok : ¬ tdO T m a = true) {P : Int32 ⊕ gE → g_H → Prop} (hP : ∀ (a : Nat) (jv : gV) (v : gU), Th (g_u2 iv (x + 1) 6 0) u jv v → P (.inr (17, a)) (jv, v)) : gW (f_X1_hears x a) (iv, u) P := by
  refine c_hears_a hC.X hm e6 hT ?_
  unfold f_X1_hears_77
  rw [gW_T]
  exact w_must_f (bI_f ok) hP
/-! found -/
def foF (fit : Nat → Bool) : Nat → Nat → Int32 → Int32
  | 0, _, y => y
  | k + 1, e, y => foF fit k (e + 1) (if fit e = true then y &&& iN e else y)
theorem foF_0 (fit : Nat → Bool) : ∀ (k e : Nat) (y : Int32), nS (fun e => if fit e = true then 1 else 0) k e = 0 → foF fit k e y = y := by
  intro k
  induction k with
  | zero => exact fun _ _ _ => rfl
  | succ k ih =>
    intro e y h
    rw [nS] at h
    have hf : ¬ fit e = true := fun q => by rw [if_pos q] at h; omega
    rw [foF, if_neg hf]
    exact ih (e + 1) y (by omega)
theorem c_found_27 (HX : XS u x) {fit : Nat → Bool} {g : Nat → Nat → Int32} (hf : feI x 64 fit g iv) {P : Int32 ⊕ gE → g_H → Prop} : ∀ (k e N : Nat) (y : Int32), e + k = 64 → k < N → (gW (f_X1_found_27 N x y (iN e)) (iv, u) P ↔ P (.inl (foF fit k e y)) (iv, u)) := by
  intro k
  induction k with
  | zero =>
    intro e N y h1 h2
    obtain ⟨N, rfl⟩ : ∃ N', N = N' + 1 := ⟨N - 1, by omega⟩
    have : e = 64 := by omega
    subst this
    unfold f_X1_found_27 f_X1_found_62
    rw [gW_ift (by decide), gW_ret]
    rfl
  | succ k ih =>
    intro e N y h1 h2
    obtain ⟨N, rfl⟩ : ∃ N', N = N' + 1 := ⟨N - 1, by omega⟩
    rw [f_X1_found_27, gW_iff (by rw [show (64 : Int32) = iN 64 from rfl, iN_le (by omega) (by omega)]; omega), gW_B, rXr10 HX, gW_B, rXa100 HX (by omega), (hf e (by omega)).1, foF]
    unfold f_X1_found_53
    by_cases c : fit e = true
    · rw [bI_t c, gW_iff (by decide), if_pos c, iNp1]
      exact ih (e + 1) N _ (by omega) (by omega)
    · rw [bI_f c, gW_ift rfl, if_neg c, iNp1, Int32.and_self]
      exact ih (e + 1) N _ (by omega) (by omega)
theorem m_found_36 {a c : Int32} {T : Nat → Int32} {m : Nat} (hm : m ≤ 40) (h2 : m % 2 = 0) (hs : ∀ i : Nat, i < m / 2 → 0 ≤ T (2 * i) ∧ T (2 * i) ≤ 9) {P : Int32 → g_H → Prop} : ∀ (k e N : Nat) (y : Int32) (jv : gV), e + k = 64 → k < N → MI x jv u V pn on L → jv (x + 353) 11 = iN m → jv (x + 353) 23 = 0 → jv (x + 353) 24 = 0 → (∀ k : Nat, k < m → jv (x + 359) k = T k) → (∀ kv : gV, Sm x jv kv → gW (f_X8_found_72 c (iN (fiN (fiO V pn L a T m) 64)) (foF (fiO V pn L a T m) k e y)) (kv, u) P) → gW (f_X8_found_36 N (x + 353) a c (iN (fiN (fiO V pn L a T m) e)) y (iN e)) (jv, u) P := by
  intro k
  induction k with
  | zero =>
    intro e N y jv h1 h3 hM e11 h23 h24 hT hP
    obtain ⟨N, rfl⟩ : ∃ N', N = N' + 1 := ⟨N - 1, by omega⟩
    have : e = 64 := by omega
    subst this
    rw [f_X8_found_36, gW_ift (by decide)]
    exact hP jv Sm.rf
  | succ k ih =>
    intro e N y jv h1 h3 hM e11 h23 h24 hT hP
    obtain ⟨N, rfl⟩ : ∃ N', N = N' + 1 := ⟨N - 1, by omega⟩
    have H := hM.M
    rw [f_X8_found_36, gW_iff (by rw [show (64 : Int32) = iN 64 from rfl, iN_le (by omega) (by omega)]; omega), gW_B, rMc H, gW_B]
    refine m_fits hM hm h2 e11 h23 h24 hT hs (fun kv g1 g2 g3 g4 => ?_)
    unfold f_X8_found_66
    rw [foF] at hP
    have nx : ∀ y' : Int32, gW (f_X8_found_36 N (x + 353) a c (iN (fiN (fiO V pn L a T m) (e + 1))) y' (iN (e + 1))) (kv, u) P ↔ gW (f_X8_found_36 N (x + 353) a c (iN (fiN (fiO V pn L a T m) (e + 1))) y' (iN (e + 1))) (kv, u) P := fun _ => Iff.rfl
    by_cases cc : fiO V pn L a T m e = true
    · rw [if_pos cc] at hP
      have fs : fiN (fiO V pn L a T m) (e + 1) = fiN (fiO V pn L a T m) e + 1 := by rw [fiN_s, if_pos cc]
      rw [bI_t cc, gW_iff (by decide), iNp1, iNp1, ← fs]
      exact ih (e + 1) N _ kv (by omega) (by omega) g2 (by rw [g1.1 11 (by omega)]; exact e11) (by rw [g1.1 23 (by omega)]; exact h23) (by rw [g1.1 24 (by omega)]; exact h24) (fun k hk => by rw [g1.a (by omega)]; exact hT k hk) (fun lv q => hP lv (g1.tr q))
    · rw [if_neg cc] at hP
      have fs : fiN (fiO V pn L a T m) (e + 1) = fiN (fiO V pn L a T m) e := by rw [fiN_s, if_neg cc, Nat.add_zero]
      rw [bI_f cc, gW_ift rfl, iNp1, ← fs]
      exact ih (e + 1) N _ kv (by omega) (by omega) g2 (by rw [g1.1 11 (by omega)]; exact e11) (by rw [g1.1 23 (by omega)]; exact h23) (by rw [g1.1 24 (by omega)]; exact h24) (fun k hk => by rw [g1.a (by omega)]; exact hT k hk) (fun lv q => hP lv (g1.tr q))
/-- the model's tape is used up -/
theorem m_use (hM : MI x iv u V pn on L) {α : Type} {k : Unit → gM α} {P : α → g_H → Prop} (hk : ∀ jv : gV, Sx x (g_u2 iv (x + 353) 9 0) jv → jv (x + 353) 0 = 0 → jv (x + 353) 11 = iv (x + 353) 9 → (∀ c : Nat, c ≠ x + 353 → jv c = iv c) → MI x jv u V pn on L → gW (k ()) (jv, u) P) : gW (gB (gCk (x + 353) 7) fun _ => gB (f_X8_uses (x + 353)) k) (iv, u) P := by
  have H := hM.M
  rw [gW_B, rMc H, gW_B]
  refine w_uses H (fun j1 u0 u9 u10 u11 uk ua => ?_)
  refine hk j1 ⟨fun k a b c => by rw [ua _ (by omega), g_u2_ne _ _ _ (by omega)], by rw [ua _ (by omega), g_u2_ne _ _ _ (by omega)], fun k _ => by rw [ua _ (by omega), g_u2_ne _ _ _ (by omega)], fun k hk => ?_, fun c hc => by rw [ua c (by omega), g_u2_ne _ _ _ (by omega)]⟩ u0 u11 ua ⟨hM.1, by rw [ua _ (by omega)]; exact hM.vE, hM.2.2⟩
  by_cases e : k = 9
  · rw [e, u9, g_u2_self, va_up_self]
  · rw [uk k (by omega) e (by omega) (by omega), g_u2_self, va_up_ne _ _ e]
theorem m_endT {mv : gV} (z1 : Sx x (g_u2 kv (x + 353) 9 0) jv) (z2 : jv (x + 353) 0 = 0) (z3 : ∀ a : Nat, a ≠ x + 353 → jv a = kv a) (m1 : Sm x jv mv) (e369 : mv (x + 369) = jv (x + 369)) {c y : Int32} (hc : c = y) : c = y ∧ mv (x + 353) 0 = 0 ∧ mv (x + 369) = kv (x + 369) ∧ oU (mv, u) u ∧ Sx x (g_u2 kv (x + 353) 9 0) mv := ⟨hc, by rw [m1.1 0 (by omega)]; exact z2, by rw [e369, z3 _ (by omega)], rfl, z1.tr m1.S⟩
theorem o_found {a c : Int32} : gOp x z b n t (f_X0_found x a c (x + 369)) (f_X8_found (x + 353) a c) := by
  intro iv u hR
  obtain ⟨pn, on, rm, L, hC, hM, h1⟩ := hR.get
  have HX := hC.X
  have hT := hR.2.1
  obtain ⟨⟨m, t1, t2, t3, t4⟩, -, t5, t6, t7, t8⟩ := hT
  have hT0 : ∀ k : Nat, k < m → iv (x + 2) k = iv (x + 359) k ∧ byO (iv (x + 359) k) := t4
  unfold f_X0_found f_X1_found
  rw [gW_B, rXc HX, gW_B, gW_B, rXc HX, gW_T]
  by_cases ok : tdO (iv (x + 359)) m a = true
  · have ok' := ok
    unfold tdO at ok'
    rw [Bool.and_eq_true, decide_eq_true_eq] at ok'
    obtain ⟨⟨o1, o2, o3⟩, o4⟩ := ok'
    refine c_hears hC t8 t1 t2 hT0 ok (fun kv hF => ?_)
    dsimp only
    obtain ⟨hS, hC2, hf⟩ := hF
    generalize hfit : fiO (iv (x + 354)) pn L a (iv (x + 359)) m = fit at hf ⊢
    have mod : ∀ {lv : gV} {y : Int32}, Sx x (g_u2 iv (x + 1) 6 0) lv → y = (if c = 0 then iN (fiN fit 64) else if fiN fit 64 = 0 then 0 else foF fit 64 0 63) → gW (f_X8_found (x + 353) a c) (lv, u) (fun c h2 => c = y ∧ h2.1 (x + 353) 0 = 0 ∧ h2.1 (x + 369) = lv (x + 369) ∧ oU h2 u ∧ Sx x (g_u2 lv (x + 353) 9 0) h2.1) := by
      intro lv y hL hy
      unfold f_X8_found f_X8_found_18
      have hMl : MI x lv u (iv (x + 354)) pn on L := ⟨hM.1, by rw [hL.a (by omega), g_u2_ne _ _ _ (by omega)], hM.2.2⟩
      refine m_use hMl (fun j1 z1 z2 z11 z3 hM2 => ?_)
      have H := hM2.M
      have l359 : ∀ k : Nat, j1 (x + 359) k = iv (x + 359) k := fun k => by rw [z3 _ (by omega), hL.a (by omega), g_u2_ne _ _ _ (by omega)]
      have e11 : j1 (x + 353) 11 = iN m := by rw [z11, hL.2.2.2.1 9 (by omega), g_u2_ne _ _ _ (by omega)]; exact t3
      have e23 : j1 (x + 353) 23 = 0 := by rw [z1.2.2.2.1 23 (by omega), g_u2_self, va_up_ne _ _ (by decide), hL.2.2.2.1 23 (by omega), g_u2_ne _ _ _ (by omega)]; exact t6
      have e24 : j1 (x + 353) 24 = 0 := by rw [z1.2.2.2.1 24 (by omega), g_u2_self, va_up_ne _ _ (by decide), hL.2.2.2.1 24 (by omega), g_u2_ne _ _ _ (by omega)]; exact t7
      rw [gW_B, rMc H, gW_B]
      refine m_isTold H t1 e11 (T := iv (x + 359)) (fun k hk => ⟨l359 k, (hT0 k hk).2⟩) ?_
      rw [bI_t ok, gW_iff (by decide), gW_B, rMc H, gW_B, m_thr0, gW_ift rfl]
      show gW (f_X8_found_36 gN (x + 353) a c (iN (fiN (fiO (iv (x + 354)) pn L a (iv (x + 359)) m) 0)) 63 (iN 0)) _ _
      refine m_found_36 o2 o1 (fun i hi => tdF_at _ 0 o4 i (by omega) (by omega)) 64 0 gN 63 j1 (by omega) (by rw [gN_eq]; omega) hM2 e11 e23 e24 (fun k _ => l359 k) (fun mv m1 => ?_)
      rw [hfit]
      unfold f_X8_found_72 f_X8_found_90
      have hle := fiN_le fit 64
      by_cases c0 : c = 0
      · rw [if_pos c0] at hy
        rw [gW_ift c0, gW_ret]
        exact m_endT z1 z2 z3 m1 (m1.a (by omega)) hy.symm
      · rw [if_neg c0] at hy
        rw [gW_iff c0]
        by_cases n0 : fiN fit 64 = 0
        · rw [if_pos n0] at hy
          rw [gW_ift (by rw [n0]; rfl), gW_ret]
          exact m_endT z1 z2 z3 m1 (m1.a (by omega)) hy.symm
        · rw [if_neg n0] at hy
          rw [gW_iff (by rw [show (0 : Int32) = iN 0 from rfl, iN_eq (by omega) (by omega)]; exact n0), gW_ret]
          exact m_endT z1 z2 z3 m1 (m1.a (by omega)) hy.symm
    have fin : ∀ y : Int32, y = (if c = 0 then iN (fiN fit 64) else if fiN fit 64 = 0 then 0 else foF fit 64 0 63) → gW (gSI (x + 369) 2 (0 : Int32) y) (kv, u) (fun _ h1 => gW (f_X8_found (x + 353) a c) h1 (fun c h2 => h2.1 (x + 353) 0 = 0 ∧ oE 0 (h2.1 (x + 369) 0) c ∧ RR x z b n (t + 1) h2.1 h2.2)) := fun y hy => op_endT hR hS (fun lv hL _ => mod hL hy)
    have hle := fiN_le fit 64
    by_cases c0 : c = 0
    · rw [gW_ift c0, gW_ret]
      show gW (gB (gSI (x + 369) 2 (0 : Int32) _) _) _ _
      rw [gW_B]
      simp only [gW_ret]
      exact fin _ (by rw [if_pos c0])
    · rw [gW_iff c0]
      unfold f_X1_found_22
      by_cases n0 : fiN fit 64 = 0
      · rw [gW_ift (by rw [n0]; rfl)]
        show gW (f_X1_found_27 gN x 0 (iN 0)) _ _
        rw [c_found_27 hC2.X hf 64 0 gN 0 (by omega) (by rw [gN_eq]; omega)]
        show gW (gB (gSI (x + 369) 2 (0 : Int32) _) _) _ _
        rw [gW_B]
        simp only [gW_ret]
        exact fin _ (by rw [if_neg c0, if_pos n0, foF_0 fit 64 0 0 n0])
      · rw [gW_iff (by rw [show (0 : Int32) = iN 0 from rfl, iN_eq (by omega) (by omega)]; exact n0)]
        show gW (f_X1_found_27 gN x 63 (iN 0)) _ _
        rw [c_found_27 hC2.X hf 64 0 gN 63 (by omega) (by rw [gN_eq]; omega)]
        show gW (gB (gSI (x + 369) 2 (0 : Int32) _) _) _ _
        rw [gW_B]
        simp only [gW_ret]
        exact fin _ (by rw [if_neg c0, if_neg n0])
  · refine c_hears_f hC t1 t2 hT0 ok (fun a' jv v hTh => ?_)
    show gW (gIf ((17 : Nat) = 17) (gRet 1) gFail) (jv, v) _
    rw [gW_ift rfl, gW_ret]
    refine op_thrT hR hTh (by decide) ?_
    have hx := hR.nx
    have jc : ∀ c : Nat, c < x + 370 → c ≠ x + 1 → jv c = iv c := fun c h1 h2 => by rw [hTh.2.1 c (by omega), g_u2_ne _ _ _ h2]
    unfold f_X8_found f_X8_found_18
    have hMl : MI x jv v (iv (x + 354)) pn on L := ⟨hM.1.fr hTh.1 (by omega), jc _ (by omega) (by omega), hM.2.2⟩
    refine m_use hMl (fun j1 z1 z2 z11 z3 hM2 => ?_)
    have H := hM2.M
    have e11 : j1 (x + 353) 11 = iN m := by rw [z11, jc _ (by omega) (by omega)]; exact t3
    rw [gW_B, rMc H, gW_B]
    refine m_isTold H t1 e11 (T := iv (x + 359)) (fun k hk => ⟨by rw [z3 _ (by omega), jc _ (by omega) (by omega)], (hT0 k hk).2⟩) ?_
    rw [bI_f ok, gW_ift rfl, gW_B, rMc H, gW_B, m_thr1 H, gW_iff (by decide), gW_ret]
    exact m_te z1
end FLT
