/-! A LAW'S TEXT: what it says; the component reads it -/
section LS
variable {iv jv kv lv : gV} {u v w y : gU} {x : Nat} {h : g_H} {B : Nat → Int32} {e : Nat}
noncomputable def pLine (B : Nat → Int32) (e p : Nat) (kd : Int32) : gPR (Int32 × Int32 × sCs) := match pNum B e (kW B e p) 0 30 with
  | .inr f => .inr f
  | .inl (v, q) => if tk B e (g_byt.getD 17 []) q = true then (match pCnd B e (pAtm B e 6) (kW B e q) with
      | .inr f => .inr f
      | .inl (C, r) => .inl ((kd, v, C), r))
    else .inl ((kd, v, fun _ => true), kB B e q)
noncomputable def pLaL (B : Nat → Int32) (e p : Nat) : gPR (Int32 × Int32 × sCs) := if tk B e (g_byt.getD 14 []) p = true then pLine B e p 0 else if tk B e (g_byt.getD 15 []) p = true then pLine B e p 1 else if tk B e (g_byt.getD 16 []) p = true then pLine B e p 2 else .inr (kB B e p)
/-- is there another line -/
def pMor (B : Nat → Int32) (e p c most : Nat) : gPR Bool := if kB B e p = e then .inl (false, e) else if c = 0 then .inl (true, kB B e p) else if B (kB B e p) = 59 then (if c = most then .inr (kB B e (kB B e p + 1)) else .inl (true, kB B e (kB B e p + 1))) else .inr (kB B e p)
noncomputable def pLaw (B : Nat → Int32) (e : Nat) : Nat → gLw → Nat → gPR gLw
  | 0, _, p => .inr p
  | m + 1, L, p => match pMor B e p L.1 12 with
    | .inr f => .inr f
    | .inl (false, q) => .inl (L, q)
    | .inl (true, q) => match pLaL B e q with
      | .inr f => .inr f
      | .inl (z, r) => pLaw B e m (L.1 + 1, va_up L.2.1 L.1 z.1, va_up L.2.2.1 L.1 z.2.1, va_up L.2.2.2 L.1 z.2.2) r
theorem pLine_n {p : Nat} (hp : p ≤ e) {kd : Int32} {z : Int32 × Int32 × sCs} {r : Nat} (h : pLine B e p kd = .inl (z, r)) : p < r ∧ r ≤ e ∧ z.1 = kd ∧ ∃ n : Nat, n ≤ 30 ∧ z.2.1 = iN n := by
  have b2 := kW_b (B := B) hp
  have b1 := kB_b (B := B) hp
  unfold pLine at h
  cases hn : pNum B e (kW B e p) 0 30 with
  | inr f => rw [hn] at h; cases h
  | inl y =>
    obtain ⟨v, q⟩ := y
    rw [hn] at h
    dsimp only at h
    obtain ⟨n1, n2, n3, n4, k, n5, n6⟩ := pNum_n b2.2 hn
    have hk : k ≤ 30 := by
      rw [n6, show (30 : Int32) = iN 30 from rfl, iN_le (by omega) (by omega)] at n4
      exact n4
    have bq := kB_b (B := B) n2
    have bw := kW_b (B := B) n2
    by_cases t : tk B e (g_byt.getD 17 []) q = true
    · rw [if_pos t] at h
      cases hc : pCnd B e (pAtm B e 6) (kW B e q) with
      | inr f => rw [hc] at h; cases h
      | inl y =>
        obtain ⟨C, r'⟩ := y
        rw [hc] at h
        have hr := ((okA.atm 6).row (al := true)).row (al := false) _ _ _ bw.2 hc
        injection h with h
        injection h with h1 h2
        subst h1 h2
        exact ⟨by omega, by omega, rfl, k, hk, n6⟩
    · rw [if_neg t] at h
      injection h with h
      injection h with h1 h2
      subst h1 h2
      exact ⟨by omega, by omega, rfl, k, hk, n6⟩
theorem pLaL_n {p : Nat} (hp : p ≤ e) {z : Int32 × Int32 × sCs} {r : Nat} (h : pLaL B e p = .inl (z, r)) : p < r ∧ r ≤ e ∧ (z.1 = 0 ∨ z.1 = 1 ∨ z.1 = 2) ∧ ∃ n : Nat, n ≤ 30 ∧ z.2.1 = iN n := by
  unfold pLaL at h
  by_cases t1 : tk B e (g_byt.getD 14 []) p = true
  · rw [if_pos t1] at h
    obtain ⟨h1, h2, h3, h4⟩ := pLine_n hp h
    exact ⟨h1, h2, Or.inl h3, h4⟩
  rw [if_neg t1] at h
  by_cases t2 : tk B e (g_byt.getD 15 []) p = true
  · rw [if_pos t2] at h
    obtain ⟨h1, h2, h3, h4⟩ := pLine_n hp h
    exact ⟨h1, h2, Or.inr (Or.inl h3), h4⟩
  rw [if_neg t2] at h
  by_cases t3 : tk B e (g_byt.getD 16 []) p = true
  · rw [if_pos t3] at h
    obtain ⟨h1, h2, h3, h4⟩ := pLine_n hp h
    exact ⟨h1, h2, Or.inr (Or.inr h3), h4⟩
  rw [if_neg t3] at h
  cases h
theorem pMor_n {p c most q : Nat} (hp : p ≤ e) {b : Bool} (h : pMor B e p c most = .inl (b, q)) : p ≤ q ∧ q ≤ e ∧ (b = true → kB B e q = q) := by
  have b1 := kB_b (B := B) hp
  unfold pMor at h
  by_cases c1 : kB B e p = e
  · rw [if_pos c1] at h
    injection h with h
    injection h with h1 h2
    subst h1 h2
    exact ⟨hp, Nat.le_refl _, fun q => by cases q⟩
  rw [if_neg c1] at h
  by_cases c2 : c = 0
  · rw [if_pos c2] at h
    injection h with h
    injection h with h1 h2
    subst h1 h2
    exact ⟨b1.1, b1.2, fun _ => kBB hp⟩
  rw [if_neg c2] at h
  by_cases c3 : B (kB B e p) = 59
  · rw [if_pos c3] at h
    by_cases c4 : c = most
    · rw [if_pos c4] at h; cases h
    · rw [if_neg c4] at h
      injection h with h
      injection h with h1 h2
      have b2 := kB_b (B := B) (show kB B e p + 1 ≤ e by omega)
      subst h1 h2
      exact ⟨by omega, b2.2, fun _ => kBB (by omega)⟩
  · rw [if_neg c3] at h; cases h
theorem w_more (h : PC x iv u B e) {p c most : Nat} (hp : p ≤ e) (hc : c ≤ most) (hm : most < 1000) (hm0 : 0 < most) {P : Int32 ⊕ gE → g_H → Prop} (h1 : ∀ (b : Bool) (q : Nat), pMor B e p c most = .inl (b, q) → P (.inl (bI (b = true))) (aT x iv q, u)) (h2 : ∀ f, pMor B e p c most = .inr f → ∀ q, P (.inr (5, x + 27)) (pF x iv q f, u)) : gW (f_X2_more (x + 1) (iN c) (iN most)) (aT x iv p, u) P := by
  have H := h.X
  have h4 := h.e4
  have b1 := kB_b (B := B) hp
  have e0 : sgn B e p = -1 ↔ kB B e p = e := sgn_m1 h.b hp
  unfold pMor at h1 h2
  have m29 : ∀ p' : Nat, kB B e p' = kB B e p → p' ≤ e → (c = 0 ∨ kB B e p = e ∨ (kB B e p < e ∧ B (kB B e p) = 59)) → gW (f_X2_more_29 (x + 1) (iN c) (iN most)) (aT x iv p', u) P := by
    intro p' hk hp' hcs
    have e0' : sgn B e p' = -1 ↔ kB B e p' = e := sgn_m1 h.b hp'
    unfold f_X2_more_29 f_X2_more_42
    rw [gW_B, rQc H, gW_B, w_sign h hp']
    by_cases c1 : kB B e p = e
    · rw [if_pos c1] at h1
      rw [gW_ift (e0'.mpr (hk.trans c1)), gW_ift rfl]
      unfold f_X2_more_61 f_X2_more_73 f_X2_more_92
      rw [gW_ift rfl, gW_ift rfl, gW_B, gW_gd, gW_ret, hk, c1]
      exact ⟨Or.inl rfl, h1 false e rfl⟩
    · rw [if_neg c1] at h1 h2
      rw [gW_iff (fun q => c1 (hk.symm.trans (e0'.mp q))), gW_iff (by decide), hk]
      have fin73 : ∀ (q : Nat) (z : Int32), q ≤ e → (c = most → P (.inr (5, x + 27)) (pF x iv q q, u)) → (c ≠ most → P (.inl (bI (true = true))) (aT x iv q, u)) → gW (f_X2_more_73 (x + 1) (iN c) (iN most) 1 z) (aT x iv q, u) P := by
        intro q z hq a1 a2
        unfold f_X2_more_73 f_X2_more_92
        rw [gW_iff (by decide)]
        by_cases cm : c = most
        · rw [gW_ift (by rw [cm]), gW_B, rQi H, aT_8, w_failT h.att]
          exact a1 cm
        · rw [gW_iff (by rw [iN_eq (by omega) (by omega)]; exact cm), gW_B, gW_gd, gW_ret]
          exact ⟨Or.inr rfl, by rw [← bI_t (show true = true from rfl)]; exact a2 cm⟩
      unfold f_X2_more_61
      by_cases c0 : c = 0
      · rw [if_pos c0] at h1
        rw [gW_ift (by rw [show (0 : Int32) = iN 0 from rfl, iN_le (by omega) (by omega)]; omega), gW_iff (by decide), gW_B, rQc H, gW_B, w_sign h b1.2, kBB hp]
        exact fin73 _ _ b1.2 (fun q => by omega) (fun _ => h1 true _ rfl)
      · rw [if_neg c0] at h1 h2
        have hs : B (kB B e p) = 59 := by
          rcases hcs with q | q | q
          · exact (c0 q).elim
          · exact (c1 q).elim
          · exact q.2
        rw [if_pos hs] at h1 h2
        rw [gW_iff (by rw [show (0 : Int32) = iN 0 from rfl, iN_le (by omega) (by omega)]; omega), gW_B, rQi H, aT_8, gW_B, rQp H, iNp1, aT_u, gW_iff (by decide), gW_B, rQc H, gW_B, w_sign h (by omega)]
        have b2 := kB_b (B := B) (show kB B e p + 1 ≤ e by omega)
        refine fin73 _ _ b2.2 (fun q => ?_) (fun q => ?_)
        · rw [if_pos q] at h2
          exact h2 _ rfl _
        · rw [if_neg q] at h1
          exact h1 true _ rfl
  unfold f_X2_more
  by_cases c0 : c = 0
  · rw [gW_ift (by rw [show (0 : Int32) = iN 0 from rfl, iN_le (by omega) (by omega)]; omega)]
    exact m29 p rfl hp (Or.inl c0)
  · rw [gW_iff (by rw [show (0 : Int32) = iN 0 from rfl, iN_le (by omega) (by omega)]; omega), gW_B, rQc H, gW_B, w_sign h hp]
    by_cases c1 : kB B e p = e
    · rw [gW_ift (e0.mpr c1)]
      exact m29 _ (kBB hp) b1.2 (Or.inr (Or.inl c1))
    · rw [gW_iff (fun q => c1 (e0.mp q)), gW_B, rQc H, gW_B, w_sign h b1.2, kBB hp]
      have es : sgn B e (kB B e p) = 59 ↔ isS B e p 59 = true := by
        rw [← isS_kB hp]
        exact sgn_is h.b (k := 59) (by decide)
      by_cases cs : isS B e p 59 = true
      · rw [gW_ift (es.mpr cs)]
        exact m29 _ (kBB hp) b1.2 (Or.inr (Or.inr (isS_b hp cs)))
      · rw [gW_iff (fun q => cs (es.mp q)), gW_B, rQi H, aT_8, w_failT h.att]
        rw [if_neg c1, if_neg c0, if_neg (fun q => cs (by
          unfold isS
          rw [Bool.and_eq_true, decide_eq_true_eq, decide_eq_true_eq]
          exact ⟨by omega, q⟩))] at h2
        exact h2 _ rfl _
end LS
