/-! THE MODEL READS A LAW -/
section MW
variable {iv jv kv lv : gV} {u v w y : gU} {x : Nat} {h : g_H} {B : Nat → Int32} {e : Nat} {D D' : Nat → Int32}
/-- the table of lines, and their steps -/
def RMD (D : Nat → Int32) (L : gLw) (st : Nat) : Prop := ∀ n : Nat, n < L.1 → D (306 + 4 * n) = L.2.1 n ∧ D (306 + 4 * n + 1) = L.2.2.1 n ∧ ∃ b f : Nat, D (306 + 4 * n + 2) = iN b ∧ D (306 + 4 * n + 3) = iN f ∧ b ≤ f ∧ f ≤ st ∧ ∀ (F s : Nat → Int32), okF F → sRok D F (f - b) b (0, s) ∧ (((sRun D F (f - b) b (0, s)).1 = 0 ∨ (sRun D F (f - b) b (0, s)).2 0 = 1) ↔ L.2.2.2 n F = true)
theorem RMD.c {L : gLw} {st st' : Nat} (h : RMD D L st) (hst : st ≤ st') (hL : L.1 ≤ 12) (hD : ∀ j : Nat, (306 ≤ j ∧ j < 306 + 4 * L.1) ∨ (354 ≤ j ∧ j < 354 + 2 * st) → D j = D' j) : RMD D' L st' := by
  intro n hn
  obtain ⟨h1, h2, b, f, h3, h4, h5, h6, h7⟩ := h n hn
  refine ⟨by rw [← hD _ (by omega)]; exact h1, by rw [← hD _ (by omega)]; exact h2, b, f, by rw [← hD _ (by omega)]; exact h3, by rw [← hD _ (by omega)]; exact h4, h5, by omega, fun F s hF => ?_⟩
  obtain ⟨c1, c2⟩ := sRun_c (D := D) (D' := D') (F := F) (f - b) b (0, s) (fun j a1 a2 => hD j (by omega))
  rw [← c1, ← c2]
  exact h7 F s hF
theorem RMD.add {L : gLw} {st' : Nat} (h : RMD D' L st') {kd vv : Int32} {C : sCs} {b : Nat} (h1 : D' (306 + 4 * L.1) = kd) (h2 : D' (306 + 4 * L.1 + 1) = vv) (h3 : D' (306 + 4 * L.1 + 2) = iN b) (h4 : D' (306 + 4 * L.1 + 3) = iN st') (hb : b ≤ st') (hs : st' ≤ 400) (hC : (b = st' ∧ C = fun _ => true) ∨ mD D' b st' (fun F => bI (C F = true))) : RMD D' (L.1 + 1, va_up L.2.1 L.1 kd, va_up L.2.2.1 L.1 vv, va_up L.2.2.2 L.1 C) st' := by
  intro n hn
  by_cases e' : n = L.1
  · subst e'
    rw [show (L.1 + 1, va_up L.2.1 L.1 kd, va_up L.2.2.1 L.1 vv, va_up L.2.2.2 L.1 C).2.1 L.1 = kd from va_up_self _ _ _, show (L.1 + 1, va_up L.2.1 L.1 kd, va_up L.2.2.1 L.1 vv, va_up L.2.2.2 L.1 C).2.2.1 L.1 = vv from va_up_self _ _ _, show (L.1 + 1, va_up L.2.1 L.1 kd, va_up L.2.2.1 L.1 vv, va_up L.2.2.2 L.1 C).2.2.2 L.1 = C from va_up_self _ _ _]
    refine ⟨h1, h2, b, st', h3, h4, hb, Nat.le_refl _, fun F s hF => ?_⟩
    rcases hC with ⟨rfl, rfl⟩ | hC
    · rw [Nat.sub_self, sRun, sRok]
      exact ⟨trivial, fun _ => rfl, fun _ => Or.inl rfl⟩
    · obtain ⟨m1, m2, m3, m4⟩ := hC.2 F hF (0, s) (by show 0 + _ ≤ 400; omega)
      refine ⟨m1, ?_⟩
      rw [show (sRun D' F (st' - b) b (0, s)).2 0 = bI (C F = true) from m4, m2]
      constructor
      · rintro (q | q)
        · exact (Nat.succ_ne_zero _ q).elim
        · exact bI_1.mp q
      · exact fun q => Or.inr (bI_t q)
  · have hk : n < L.1 := by
      have : n < L.1 + 1 := hn
      omega
    rw [show (L.1 + 1, va_up L.2.1 L.1 kd, va_up L.2.2.1 L.1 vv, va_up L.2.2.2 L.1 C).2.1 n = L.2.1 n from va_up_ne _ _ e', show (L.1 + 1, va_up L.2.1 L.1 kd, va_up L.2.2.1 L.1 vv, va_up L.2.2.2 L.1 C).2.2.1 n = L.2.2.1 n from va_up_ne _ _ e', show (L.1 + 1, va_up L.2.1 L.1 kd, va_up L.2.2.1 L.1 vv, va_up L.2.2.2 L.1 C).2.2.2 n = L.2.2.2 n from va_up_ne _ _ e']
    exact h n hk
/-- what reading a law keeps in the model -/
def QL (x : Nat) (iv jv : gV) : Prop := (∀ k : Nat, k ≠ 10 → k ≠ 12 → k ≠ 13 → k ≠ 16 → jv (x + 353) k = iv (x + 353) k) ∧ (∀ a : Nat, a ≠ x + 353 → a ≠ x + 353 + 1 → jv a = iv a) ∧ ∀ k : Nat, k < 1154 → jv (x + 353 + 1) k = iv (x + 353 + 1) k
theorem QL.rf : QL x iv iv := ⟨fun _ _ _ _ _ => rfl, fun _ _ _ => rfl, fun _ _ => rfl⟩
theorem QL.tr (h : QL x iv jv) (g : QL x jv kv) : QL x iv kv := ⟨fun k a b c d => (g.1 k a b c d).trans (h.1 k a b c d), fun k a b => (g.2.1 k a b).trans (h.2.1 k a b), fun k a => (g.2.2 k a).trans (h.2.2 k a)⟩
theorem QM.ql {a b : Nat} (h : QM x iv jv a b) : QL x iv jv := ⟨fun k k1 k2 _ k4 => h.1 k k1 k2 k4, h.2.2.1, fun k hk => h.2.2.2 k (by omega)⟩
theorem QN.ql {a b : Nat} (h : QN x iv jv a b) : QL x iv jv := ⟨h.1, h.2.2.1, fun k hk => h.2.2.2 k (by omega)⟩
theorem QL.mt {b p : Nat} : QL x iv (mT x iv b p) := ⟨fun k k1 k2 _ _ => mT_k k1 k2, fun a a1 _ => mT_a a1, fun k _ => by rw [mT_1]⟩
theorem QL.dd {k : Nat} : QL x iv (d13 x iv k) := ⟨fun j _ _ k3 _ => d13_k k3, fun a a1 _ => d13_a a1, fun j _ => by rw [d13_a (by omega)]⟩
theorem QL.wd {k : Nat} {z : Int32} (hk : 1154 ≤ k) : QL x iv (g_u2 iv (x + 353 + 1) k z) := ⟨fun j _ _ _ _ => by rw [g_u2_ne _ _ _ (by omega)], fun a _ a2 => g_u2_ne _ _ _ a2, fun j hj => by rw [g_u2_self, va_up_ne _ _ (by omega)]⟩
theorem PM.ql (h : PM x iv u B e) (q : QL x iv jv) : PM x jv u B e := h.fr (q.1 11 (by decide) (by decide) (by decide) (by decide)) (q.2.1 _ (by omega) (by omega)) (fun a ha => q.2.1 a (by omega) (by omega))
theorem mT_w {a k b p : Nat} {z : Int32} (ha : a ≠ x + 353) : g_u2 (mT x iv b p) a k z = mT x (g_u2 iv a k z) b p := by
  unfold mT
  have cm : ∀ (f : gV) (k' : Nat) (z' : Int32), g_u2 (g_u2 f (x + 353) k' z') a k z = g_u2 (g_u2 f a k z) (x + 353) k' z' := by
    intro f k' z'
    funext c
    by_cases h1 : c = a
    · subst h1
      rw [g_u2_ne _ _ _ ha, g_u2_self, g_u2_self, g_u2_ne _ _ _ ha]
    · by_cases h2 : c = x + 353
      · subst h2
        rw [g_u2_self, g_u2_ne _ _ _ h1, g_u2_ne _ _ _ h1, g_u2_self]
      · rw [g_u2_ne _ _ _ h1, g_u2_ne _ _ _ h2, g_u2_ne _ _ _ h2, g_u2_ne _ _ _ h1]
  rw [cm, cm]
theorem Dw_u {k j : Nat} {z : Int32} (hk : k = j + 849) : Dw x (g_u2 iv (x + 353 + 1) k z) = va_up (Dw x iv) j z := by
  funext i
  unfold Dw
  rw [g_u2_self]
  by_cases h : i = j
  · rw [h, hk, va_up_self, va_up_self]
  · rw [va_up_ne _ _ (by omega), va_up_ne _ _ h]
theorem d13_mT0 {b p : Nat} : g_u2 (mT x iv b p) (x + 353) 13 0 = mT x (d13 x iv 0) b p := d13_mT (k := 0)
theorem pLine_kB {p : Nat} (hp : p ≤ e) {kd : Int32} : pLine B e (kB B e p) kd = pLine B e p kd := by
  unfold pLine
  rw [kWB hp]
theorem pLaL_kB {p : Nat} (hp : p ≤ e) : pLaL B e (kB B e p) = pLaL B e p := by
  unfold pLaL
  rw [tk_kB hp, tk_kB hp, tk_kB hp, pLine_kB hp, pLine_kB hp, pLine_kB hp, kBB hp]
/-- behind the word of its kind -/
theorem w_mline (h : PM x iv u B e) {L : gLw} {b0 p st : Nat} (hc : L.1 < 12) (hp : p ≤ e) (hst : st + 4 ≤ kW B e p) (h16 : iv (x + 353) 16 = iN st) (hR : RMD (Dw x iv) L st) {kd : Int32} (hkd : 0 ≤ kd) {P : Int32 → g_H → Prop}
    (h1 : ∀ (z : Int32 × Int32 × sCs) (r : Nat), pLine B e p kd = .inl (z, r) → ∀ (jv : gV) (c st' : Nat), QL x iv jv → jv (x + 353) 16 = iN st' → st' ≤ st + (r - kW B e p) → RMD (Dw x jv) (L.1 + 1, va_up L.2.1 L.1 z.1, va_up L.2.2.1 L.1 z.2.1, va_up L.2.2.2 L.1 z.2.2) st' → P 1 (mT x jv c r, u))
    (h2 : ∀ f, pLine B e p kd = .inr f → ∀ jv : gV, QL x iv jv → jv (x + 353) 12 = iN f → P 0 (jv, u)) : gW (f_X8_readLawLine_53 (x + 353) (iN (1155 + 4 * L.1)) (x + 353 + 1) (iN (1155 + 4 * L.1)) kd) (mT x iv b0 (kW B e p), u) P := by
  have H := h.M
  have h4 := h.e4
  have bw := kW_b (B := B) hp
  unfold f_X8_readLawLine_53
  unfold pLine at h1 h2
  have e11 : ∀ (f : gV) (k : Nat) (z : Int32), g_u2 f (x + 353 + 1) k z (x + 353 + 1) k = z := fun f k z => by rw [g_u2_self, va_up_self]
  rw [gW_B, rMs0 H (by omega), gW_B, rMr0 H, gW_B, rMa0 H (by omega), e11, gW_ift hkd, gW_B, rMr0 H, gW_B, rMc H, gW_B, mT_w (by omega)]
  have d1 : Dw x (g_u2 iv (x + 353 + 1) (1155 + 4 * L.1) kd) = va_up (Dw x iv) (306 + 4 * L.1) kd := Dw_u (by omega)
  have q1 : QL x iv (g_u2 iv (x + 353 + 1) (1155 + 4 * L.1) kd) := QL.wd (by omega)
  have g16 : g_u2 iv (x + 353 + 1) (1155 + 4 * L.1) kd (x + 353) 16 = iN st := by rw [g_u2_ne _ _ _ (by omega)]; exact h16
  generalize g_u2 iv (x + 353 + 1) (1155 + 4 * L.1) kd = j1 at d1 q1 g16 ⊢
  have hp1 := h.ql q1
  refine w_mnum hp1 bw.2 (fun vv q2 hn => ?_) (fun f hn q2 hq2 => ?_)
  · rw [hn] at h1 h2
    dsimp only at h1 h2
    obtain ⟨n1, n2, n3, n4, vn, n5, n6⟩ := pNum_n bw.2 hn
    have bq2 := kB_b (B := B) n2
    have bw2 := kW_b (B := B) n2
    rw [iNp1, gW_B, rMs0 H (by omega), gW_B, rMr0 H, gW_B, rMa0 H (by omega), e11, gW_ift n3, mT_w (by omega)]
    have d2 : Dw x (g_u2 j1 (x + 353 + 1) (1155 + 4 * L.1 + 1) vv) = va_up (Dw x j1) (306 + 4 * L.1 + 1) vv := Dw_u (by omega)
    have q2' : QL x iv (g_u2 j1 (x + 353 + 1) (1155 + 4 * L.1 + 1) vv) := q1.tr (QL.wd (by omega))
    have g16' : g_u2 j1 (x + 353 + 1) (1155 + 4 * L.1 + 1) vv (x + 353) 16 = iN st := by rw [g_u2_ne _ _ _ (by omega)]; exact g16
    generalize g_u2 j1 (x + 353 + 1) (1155 + 4 * L.1 + 1) vv = j2 at d2 q2' g16' ⊢
    rw [gW_B, rMr0 H, gW_B, rMi H, mT_16, g16', iNp2, gW_B, rMs0 H (by omega), mT_w (by omega)]
    have d3 : Dw x (g_u2 j2 (x + 353 + 1) (1155 + 4 * L.1 + 2) (iN st)) = va_up (Dw x j2) (306 + 4 * L.1 + 2) (iN st) := Dw_u (by omega)
    have q3' : QL x iv (g_u2 j2 (x + 353 + 1) (1155 + 4 * L.1 + 2) (iN st)) := q2'.tr (QL.wd (by omega))
    have g16'' : g_u2 j2 (x + 353 + 1) (1155 + 4 * L.1 + 2) (iN st) (x + 353) 16 = iN st := by rw [g_u2_ne _ _ _ (by omega)]; exact g16'
    generalize g_u2 j2 (x + 353 + 1) (1155 + 4 * L.1 + 2) (iN st) = j3 at d3 q3' g16'' ⊢
    rw [gW_B, rMp H, d13_mT0]
    have q4 : QL x iv (d13 x j3 0) := q3'.tr QL.dd
    have hp4 := h.ql q4
    have dD : Dw x (d13 x j3 0) = va_up (va_up (va_up (Dw x iv) (306 + 4 * L.1) kd) (306 + 4 * L.1 + 1) vv) (306 + 4 * L.1 + 2) (iN st) := by rw [Dw_d13, d3, d2, d1]
    have hRD : ∀ (D' : Nat → Int32) (st' : Nat), st ≤ st' → (∀ j : Nat, j < 354 + 2 * st → j ≠ 306 + 4 * L.1 + 3 → D' j = Dw x (d13 x j3 0) j) → RMD D' L st' := by
      intro D' st' hs hD
      refine hR.c hs (by omega) (fun j hj => ?_)
      rw [hD j (by omega) (by omega), dD, va_up_ne _ _ (by omega), va_up_ne _ _ (by omega), va_up_ne _ _ (by omega)]
    have tb : ∀ (D' : Nat → Int32), (∀ j : Nat, j < 354 + 2 * st → j ≠ 306 + 4 * L.1 + 3 → D' j = Dw x (d13 x j3 0) j) → D' (306 + 4 * L.1) = kd ∧ D' (306 + 4 * L.1 + 1) = vv ∧ D' (306 + 4 * L.1 + 2) = iN st := by
      intro D' hD
      refine ⟨?_, ?_, ?_⟩
      · rw [hD _ (by omega) (by omega), dD, va_up_ne _ _ (by omega), va_up_ne _ _ (by omega), va_up_self]
      · rw [hD _ (by omega) (by omega), dD, va_up_ne _ _ (by omega), va_up_self]
      · rw [hD _ (by omega) (by omega), dD, va_up_self]
    rw [gW_B, gW_Tx, gW_B, rMc H, gW_B, w_passes hp4 (i := 35) (by decide) n2, show g_byt.getD 35 [] = g_byt.getD 17 [] from rfl]
    have g16d : d13 x j3 0 (x + 353) 16 = iN st := by rw [d13_k (by decide)]; exact g16''
    have g13 : d13 x j3 0 (x + 353) 13 = iN (6 - 6) := d13_s
    generalize d13 x j3 0 = j4 at q4 hp4 dD hRD tb g16d g13 ⊢
    have t128 : ∀ (j5 : gV) (c r st' : Nat) (C : sCs), QL x j4 j5 → j5 (x + 353) 16 = iN st' → st ≤ st' → st' ≤ 400 → (∀ j : Nat, j < 354 + 2 * st → Dw x j5 j = Dw x j4 j) → ((st = st' ∧ C = fun _ => true) ∨ mD (Dw x j5) st st' (fun F => bI (C F = true))) → (∀ (jv : gV), QL x iv jv → jv (x + 353) 16 = iN st' → RMD (Dw x jv) (L.1 + 1, va_up L.2.1 L.1 kd, va_up L.2.2.1 L.1 vv, va_up L.2.2.2 L.1 C) st' → P 1 (mT x jv c r, u)) → gW (f_X8_readLawLine_128 (x + 353) (iN (1155 + 4 * L.1))) (mT x j5 c r, u) P := by
      intro j5 c r st' C s1 s2 s3 s3' s4 s5 hh
      unfold f_X8_readLawLine_128
      rw [gW_B, rMr0 H, gW_B, rMi H, mT_16, s2, show (3 : Int32) = iN 3 from rfl, iN_add, gW_B, rMs0 H (by omega), mT_w (by omega), gW_ret]
      have d5 : Dw x (g_u2 j5 (x + 353 + 1) (1155 + 4 * L.1 + 3) (iN st')) = va_up (Dw x j5) (306 + 4 * L.1 + 3) (iN st') := Dw_u (by omega)
      have agree : ∀ j : Nat, j < 354 + 2 * st → j ≠ 306 + 4 * L.1 + 3 → Dw x (g_u2 j5 (x + 353 + 1) (1155 + 4 * L.1 + 3) (iN st')) j = Dw x j4 j := fun j j1 j2 => by rw [d5, va_up_ne _ _ j2]; exact s4 j j1
      obtain ⟨t1, t2, t3⟩ := tb _ agree
      refine hh _ (q4.tr (s1.tr (QL.wd (by omega)))) (by rw [g_u2_ne _ _ _ (by omega)]; exact s2) ((hRD _ st' s3 agree).add t1 t2 t3 (by rw [d5, va_up_self]) s3 s3' ?_)
      rcases s5 with q | q
      · exact Or.inl q
      · exact Or.inr (q.c (fun j j1 j2 => by rw [d5, va_up_ne _ _ (by omega)]))
    by_cases t17 : tk B e (g_byt.getD 17 []) q2 = true
    · rw [if_pos t17] at h1 h2
      have l17 := tk_b n2 (by decide) t17
      rw [bI_t t17, kT_t t17, gW_iff (by decide), gW_B, rMc H, gW_B]
      have hrec := (w_mrec (x := x) (B := B) (e := e) 6 (by decide)).2 24 (by decide)
      refine hrec j4 u _ (kW B e q2) st hp4 bw2.2 (by omega) g16d g13 _ (fun C r hr j5 c st' s1 s2 s3 => ?_) (fun f hr j5 s1 => ?_)
      · rw [hr] at h1
        have hr' := ((okA.atm 6).row (al := true)).row (al := false) _ _ _ bw2.2 hr
        have l1 := s3.1
        rw [gW_iff (by decide)]
        exact t128 j5 c r st' C s1.ql s1.2.1 (by omega) (by omega) (fun j hj => (Dw_lo s1 hj).symm) (Or.inr s3) (fun jv t1 t2 t3 => h1 _ _ rfl jv _ st' t1 t2 (by omega) t3)
      · rw [hr] at h2
        rw [gW_ift rfl, gW_ret]
        exact h2 f rfl j5 (q4.tr s1.ql) s1.2.1
    · rw [if_neg t17] at h1
      rw [bI_f t17, kT_f t17, gW_ift rfl]
      exact t128 j4 _ _ st (fun _ => true) QL.rf g16d (Nat.le_refl _) (by omega) (fun _ _ => rfl) (Or.inl ⟨rfl, rfl⟩) (fun jv s1 s2 s3 => h1 _ _ rfl jv _ st s1 s2 (by omega) s3)
  · rw [hn] at h2
    rw [iNp1, gW_B, rMs0 H (by omega), gW_B, rMr0 H, gW_B, rMa0 H (by omega), e11, gW_iff (by decide), gW_ret, mT_w (by omega)]
    exact h2 f rfl _ (q1.tr ((QL.wd (by omega)).tr QL.mt)) mT_12
theorem w_mlawline (h : PM x iv u B e) {L : gLw} {p st : Nat} (hc : L.1 < 12) (hp : p ≤ e) (hst : st ≤ p) (h16 : iv (x + 353) 16 = iN st) (hR : RMD (Dw x iv) L st) {P : Int32 → g_H → Prop}
    (h1 : ∀ (z : Int32 × Int32 × sCs) (r : Nat), pLaL B e p = .inl (z, r) → ∀ (jv : gV) (c st' : Nat), QL x iv jv → jv (x + 353) 16 = iN st' → st' ≤ r → RMD (Dw x jv) (L.1 + 1, va_up L.2.1 L.1 z.1, va_up L.2.2.1 L.1 z.2.1, va_up L.2.2.2 L.1 z.2.2) st' → P 1 (mT x jv c r, u))
    (h2 : ∀ f, pLaL B e p = .inr f → ∀ jv : gV, QL x iv jv → jv (x + 353) 12 = iN f → P 0 (jv, u)) : gW (f_X8_readLawLine (x + 353) (iN L.1)) (mT x iv (kB B e p) (kW B e p), u) P := by
  have H := h.M
  have h4 := h.e4
  have b1 := kB_b (B := B) hp
  have bw := kW_b (B := B) hp
  unfold f_X8_readLawLine
  unfold pLaL at h1 h2
  rw [gW_B, gW_ret, iNm4, iNl1155, gW_B, rMr0 H, gW_B, gW_Tx, gW_B, rMc H, gW_B, w_isWordP h (i := 32) (by decide) hp, show g_byt.getD 32 [] = g_byt.getD 14 [] from rfl]
  have fin : ∀ kd : Int32, 0 ≤ kd → kB B e p + 4 ≤ kW B e p → (∀ (z : Int32 × Int32 × sCs) (r : Nat), pLine B e p kd = .inl (z, r) → ∀ (jv : gV) (c st' : Nat), QL x iv jv → jv (x + 353) 16 = iN st' → st' ≤ r → RMD (Dw x jv) (L.1 + 1, va_up L.2.1 L.1 z.1, va_up L.2.2.1 L.1 z.2.1, va_up L.2.2.2 L.1 z.2.2) st' → P 1 (mT x jv c r, u)) → (∀ f, pLine B e p kd = .inr f → ∀ jv : gV, QL x iv jv → jv (x + 353) 12 = iN f → P 0 (jv, u)) → gW (f_X8_readLawLine_53 (x + 353) (iN (1155 + 4 * L.1)) (x + 353 + 1) (iN (1155 + 4 * L.1)) kd) (mT x iv (kB B e p) (kW B e p), u) P := by
    intro kd hkd hw g1 g2
    refine w_mline h hc hp (by omega) h16 hR hkd (fun z r hr jv c st' s1 s2 s3 s4 => ?_) g2
    have hr' := pLine_n hp hr
    exact g1 z r hr jv c st' s1 s2 (by
      have : kW B e p ≤ r := by
        unfold pLine at hr
        cases hn : pNum B e (kW B e p) 0 30 with
        | inr f => rw [hn] at hr; cases hr
        | inl y =>
          obtain ⟨v, q⟩ := y
          rw [hn] at hr
          dsimp only at hr
          have n1 := pNum_n bw.2 hn
          have bq := kB_b (B := B) n1.2.1
          have bq2 := kW_b (B := B) n1.2.1
          by_cases t : tk B e (g_byt.getD 17 []) q = true
          · rw [if_pos t] at hr
            cases hc : pCnd B e (pAtm B e 6) (kW B e q) with
            | inr f => rw [hc] at hr; cases hr
            | inl y =>
              obtain ⟨C, r'⟩ := y
              rw [hc] at hr
              have hr2 := ((okA.atm 6).row (al := true)).row (al := false) _ _ _ bq2.2 hc
              injection hr with hr
              injection hr with e1 e2
              omega
          · rw [if_neg t] at hr
            injection hr with hr
            injection hr with e1 e2
            omega
      omega) s4
  by_cases t14 : tk B e (g_byt.getD 14 []) p = true
  · have l := tk_l t14
    have hl : (g_byt.getD 14 []).length = 6 := by decide
    rw [if_pos t14] at h1 h2
    rw [bI_t t14, gW_iff (by decide)]
    exact fin 0 (by decide) (by omega) h1 h2
  rw [if_neg t14] at h1 h2
  rw [bI_f t14, gW_ift rfl, gW_B, gW_Tx, gW_B, rMc H, gW_B, w_isWordP h (i := 33) (by decide) hp, show g_byt.getD 33 [] = g_byt.getD 15 [] from rfl]
  by_cases t15 : tk B e (g_byt.getD 15 []) p = true
  · have l := tk_l t15
    have hl : (g_byt.getD 15 []).length = 4 := by decide
    rw [if_pos t15] at h1 h2
    rw [bI_t t15, gW_iff (by decide)]
    exact fin 1 (by decide) (by omega) h1 h2
  rw [if_neg t15] at h1 h2
  rw [bI_f t15, gW_ift rfl, gW_B, gW_Tx, gW_B, rMc H, gW_B, w_isWordP h (i := 34) (by decide) hp, show g_byt.getD 34 [] = g_byt.getD 16 [] from rfl]
  by_cases t16 : tk B e (g_byt.getD 16 []) p = true
  · have l := tk_l t16
    have hl : (g_byt.getD 16 []).length = 4 := by decide
    rw [if_pos t16] at h1 h2
    rw [bI_t t16, gW_iff (by decide)]
    exact fin 2 (by decide) (by omega) h1 h2
  rw [if_neg t16] at h2
  rw [bI_f t16, gW_ift rfl]
  unfold f_X8_readLawLine_53
  have e11 : ∀ (f : gV) (k : Nat) (z : Int32), g_u2 f (x + 353 + 1) k z (x + 353 + 1) k = z := fun f k z => by rw [g_u2_self, va_up_self]
  rw [gW_B, rMs0 H (by omega), gW_B, rMr0 H, gW_B, rMa0 H (by omega), e11, gW_iff (by decide), gW_ret, mT_w (by omega)]
  exact h2 _ rfl _ ((QL.wd (by omega)).tr QL.mt) mT_12
/-- lines, one after another -/
noncomputable def pLa2 (B : Nat → Int32) (e m : Nat) (L : gLw) (p : Nat) : gPR gLw := if L.1 = 12 then .inr (kB B e p) else match pLaL B e p with
  | .inr f => .inr f
  | .inl (z, r) => pLaw B e m (L.1 + 1, va_up L.2.1 L.1 z.1, va_up L.2.2.1 L.1 z.2.1, va_up L.2.2.2 L.1 z.2.2) r
theorem w_mall_28 {P : Int32 → g_H → Prop} : ∀ (m : Nat) (iv : gV) (L : gLw) (b p st N : Nat), PM x iv u B e → p ≤ e → st ≤ p → L.1 ≤ 12 → iv (x + 353) 16 = iN st → RMD (Dw x iv) L st → e < p + m → e < p + N →
    (∀ (L' : gLw) (q : Nat), pLa2 B e m L p = .inl (L', q) → ∀ (jv : gV) (st' : Nat), QL x iv jv → st' ≤ 400 → L'.1 ≤ 12 → RMD (Dw x jv) L' st' → P (iN L'.1) (jv, u)) →
    (∀ f, pLa2 B e m L p = .inr f → ∀ jv : gV, QL x iv jv → jv (x + 353) 12 = iN f → P (-1) (jv, u)) → gW (f_X8_readAll_28 N (x + 353) 0 (iN L.1)) (mT x iv b p, u) P := by
  intro m
  induction m with
  | zero => intro iv L b p st N h q1 _ _ _ _ q2; omega
  | succ m ih =>
    intro iv L b p st N h q1 q2 q3 h16 hR q4 q5 h1 h2
    obtain ⟨N, rfl⟩ : ∃ N', N = N' + 1 := ⟨N - 1, by omega⟩
    have H := h.M
    have h4 := h.e4
    have b1 := kB_b (B := B) q1
    have bw := kW_b (B := B) q1
    unfold pLa2 at h1 h2
    rw [f_X8_readAll_28, gW_B, rMc H, gW_B]
    unfold f_X8_readLine f_X8_readLine_16 f_X8_readLine_41 f_X8_readLine_45 f_X8_readLine_46
    rw [gW_B, rMc H, gW_B, w_mlet h q1, gW_ift rfl]
    by_cases c12 : L.1 = 12
    · rw [if_pos c12] at h2
      rw [gW_ift (by rw [c12]; decide), gW_gd1 (Or.inl rfl), gW_ift rfl]
      unfold f_X8_readAll_37
      rw [gW_ret]
      exact h2 _ rfl _ QL.mt mT_12
    · rw [if_neg c12] at h1 h2
      rw [gW_iff (by rw [show (12 : Int32) = iN 12 from rfl, iN_le (by omega) (by omega)]; omega), gW_ift rfl, gW_B, rMc H, gW_B]
      refine w_mlawline h (by omega) q1 q2 h16 hR (fun z r hr jv c st' s1 s2 s3 s4 => ?_) (fun f hr jv s1 s2 => ?_)
      · rw [hr] at h1 h2
        dsimp only at h1 h2
        have hr' := pLaL_n q1 hr
        have hj := h.ql s1
        have br := kB_b (B := B) hr'.2.1
        rw [pLaw] at h1 h2
        unfold pMor at h1 h2
        rw [show (L.1 + 1, va_up L.2.1 L.1 z.1, va_up L.2.2.1 L.1 z.2.1, va_up L.2.2.2 L.1 z.2.2).1 = L.1 + 1 from rfl] at h1 h2
        rw [gW_iff (by decide), gW_gd1 (Or.inr rfl), gW_iff (by decide), gW_B, rMc H, gW_B, w_blanks hj hr'.2.1, gW_B, rMi H, mT_10, gW_B, rMi H, mT_11, hj.eE]
        by_cases ce : kB B e r = e
        · rw [if_pos ce] at h1
          unfold f_X8_readAll_54
          rw [gW_ift (by rw [ce]), gW_ret, iNp1]
          exact h1 _ _ rfl _ st' (s1.tr QL.mt) (by omega) (by show L.1 + 1 ≤ 12; omega) (by
            have : Dw x (mT x jv (kB B e r) (kB B e r)) = Dw x jv := by unfold Dw; rw [mT_1]
            rw [this]
            exact s4)
        · rw [if_neg ce, if_neg (show ¬ L.1 + 1 = 0 by omega)] at h1 h2
          rw [gW_iff (by rw [iN_eq (by omega) (by omega)]; exact ce), gW_B, rMc H, gW_B, w_isAt hj br.2]
          by_cases c59 : B (kB B e r) = 59
          · rw [if_pos c59] at h1 h2
            rw [bI_t ⟨by omega, by rw [c59]; exact Int32.le_refl _, by rw [c59]; exact Int32.le_refl _⟩, gW_iff (by decide), gW_B, rMi H, mT_10, gW_B, rMp H, iNp1, iNp1, mT_p]
            have bs := kB_b (B := B) (show kB B e r + 1 ≤ e by omega)
            refine ih jv (L.1 + 1, va_up L.2.1 L.1 z.1, va_up L.2.2.1 L.1 z.2.1, va_up L.2.2.2 L.1 z.2.2) _ (kB B e r + 1) st' N hj (by omega) (by omega) (by show L.1 + 1 ≤ 12; omega) s2 s4 (by omega) (by omega) (fun L' q hq kv st2 t1 t2 t3 t4 => h1 L' q ?_ kv st2 (s1.tr t1) t2 t3 t4) (fun f hf kv t1 t2 => h2 f ?_ kv (s1.tr t1) t2)
            · rw [← hq]
              unfold pLa2
              by_cases c : L.1 + 1 = 12
              · rw [if_pos c, if_pos (show (L.1 + 1, va_up L.2.1 L.1 z.1, va_up L.2.2.1 L.1 z.2.1, va_up L.2.2.2 L.1 z.2.2).1 = 12 from c)]
              · rw [if_neg c, if_neg (show ¬ (L.1 + 1, va_up L.2.1 L.1 z.1, va_up L.2.2.1 L.1 z.2.1, va_up L.2.2.2 L.1 z.2.2).1 = 12 from c)]
                dsimp only
                rw [pLaL_kB (by omega)]
                cases pLaL B e (kB B e r + 1) with
                | inr f => rfl
                | inl y => rfl
            · rw [← hf]
              unfold pLa2
              by_cases c : L.1 + 1 = 12
              · rw [if_pos c, if_pos (show (L.1 + 1, va_up L.2.1 L.1 z.1, va_up L.2.2.1 L.1 z.2.1, va_up L.2.2.2 L.1 z.2.2).1 = 12 from c)]
              · rw [if_neg c, if_neg (show ¬ (L.1 + 1, va_up L.2.1 L.1 z.1, va_up L.2.2.1 L.1 z.2.1, va_up L.2.2.2 L.1 z.2.2).1 = 12 from c)]
                dsimp only
                rw [pLaL_kB (by omega)]
                cases pLaL B e (kB B e r + 1) with
                | inr f => rfl
                | inl y => rfl
          · rw [if_neg c59] at h2
            unfold f_X8_readAll_69
            rw [bI_f (fun q => c59 (Int32.le_antisymm q.2.2 q.2.1)), gW_ift rfl, gW_ret]
            exact h2 _ rfl _ (s1.tr QL.mt) mT_12
      · rw [hr] at h2
        unfold f_X8_readAll_37
        rw [gW_ift rfl, gW_gd1 (Or.inl rfl), gW_ift rfl, gW_ret]
        exact h2 f rfl jv s1 s2
end MW
