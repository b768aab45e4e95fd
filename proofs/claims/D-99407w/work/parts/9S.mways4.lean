/-! WAYS, in the model: rows are laid -/
section MWB
variable {iv jv kv lv : gV} {u v : gU} {x : Nat} {V : Nat → Int32} {pn on : Nat} {L : gLw}
theorem w_rows_50 (H : MS u (x + 353)) {a : Nat} {P : Unit → g_H → Prop} : ∀ (m t N : Nat) (jv : gV), t + m = 61 → m < N → jv (x + 353) 36 = iN a → (∀ r : Nat, r < t → jv (x + 365) r = iN (if r = 0 then a else 0)) → (∀ kv : gV, (∀ c : Nat, c ≠ x + 365 → kv c = jv c) → (∀ r : Nat, r ≤ 60 → kv (x + 365) r = iN (if r = 0 then a else 0)) → gW (f_X8_laysRows_80 (x + 353)) (kv, u) P) → gW (f_X8_laysRows_50 N (x + 353) (iN t)) (jv, u) P := by
  intro m
  induction m with
  | zero =>
    intro t N jv h1 h2 e3 h3 hP
    obtain ⟨N, rfl⟩ : ∃ N', N = N' + 1 := ⟨N - 1, by omega⟩
    have : t = 61 := by omega
    subst this
    rw [f_X8_laysRows_50, gW_ift (by decide)]
    exact hP jv (fun _ _ => rfl) (fun r hr => h3 r (by omega))
  | succ m ih =>
    intro t N jv h1 h2 e3 h3 hP
    obtain ⟨N, rfl⟩ : ∃ N', N = N' + 1 := ⟨N - 1, by omega⟩
    have go : ∀ y : Int32, y = iN (if t = 0 then a else 0) → gW (f_X8_laysRows_50 N (x + 353) (iN (t + 1))) (g_u2 jv (x + 353 + 12) t y, u) P := by
      intro y hy
      have e1 : ∀ c : Nat, c ≠ x + 365 → g_u2 jv (x + 353 + 12) t y c = jv c := fun c hc => g_u2_ne _ _ _ hc
      refine ih (t + 1) N _ (by omega) (by omega) (by rw [e1 _ (by omega)]; exact e3) (fun r hr => ?_) (fun kv g1 g2 => hP kv (fun c hc => by rw [g1 c hc, e1 c hc]) g2)
      show g_u2 jv (x + 353 + 12) t y (x + 353 + 12) r = _
      rw [g_u2_self]
      by_cases e : r = t
      · rw [e, va_up_self]; exact hy
      · rw [va_up_ne _ _ e]; exact h3 r (by omega)
    unfold f_X8_laysRows_50 f_X8_laysRows_73
    rw [gW_iff (by rw [show (60 : Int32) = iN 60 from rfl, iN_lt (by omega) (by omega)]; omega), gW_B, rMr11 H]
    by_cases c : t = 0
    · rw [gW_ift (by rw [c]; rfl), gW_B, rMi H, e3, gW_B, rMs11 H (by omega), iNp1]
      exact go _ (by rw [if_pos c])
    · rw [gW_iff (by rw [show (0 : Int32) = iN 0 from rfl, iN_eq (by omega) (by omega)]; exact c), gW_B, rMs11 H (by omega), iNp1]
      exact go _ (by rw [if_neg c]; rfl)
theorem w_rows_12 {P : Unit → g_H → Prop} : ∀ (m p a N : Nat) (jv : gV), p + m = pn → m < N → MI x jv u V pn on L → jv (x + 353) 36 = iN a → (∀ kv : gV, (∀ c : Nat, c ≠ x + 353 → kv c = jv c) → (∀ i : Nat, i ≠ 36 → kv (x + 353) i = jv (x + 353) i) → kv (x + 353) 36 = iN (a * 3 ^ nS (tPr V (fun _ => 1)) m p) → gW (f_X8_laysRows_48 (x + 353)) (kv, u) P) → gW (f_X8_laysRows_12 N (x + 353) (iN p)) (jv, u) P := by
  intro m
  induction m with
  | zero =>
    intro p a N jv h1 h2 hM e3 hP
    obtain ⟨N, rfl⟩ : ∃ N', N = N' + 1 := ⟨N - 1, by omega⟩
    have H := hM.M
    rw [f_X8_laysRows_12, gW_B, rMc H, gW_B, w_props H, hM.pN, gW_ift (by have := hM.p8; rw [iN_le (by omega) (by omega)]; omega)]
    exact hP jv (fun _ _ => rfl) (fun _ _ => rfl) (by rw [nS, Nat.pow_zero, Nat.mul_one]; exact e3)
  | succ m ih =>
    intro p a N jv h1 h2 hM e3 hP
    obtain ⟨N, rfl⟩ : ∃ N', N = N' + 1 := ⟨N - 1, by omega⟩
    have H := hM.M
    have h8 := hM.p8
    have go : ∀ (c : Nat), c = 3 ^ (tPr V (fun _ => 1) p) → gW (f_X8_laysRows_12 N (x + 353) (iN (p + 1))) (g_u2 jv (x + 353) 36 (iN (a * c)), u) P := by
      intro c hc
      refine ih (p + 1) (a * c) N _ (by omega) (by omega) (hM.fr (Sx.um (by omega))) (by rw [g_u2_self, va_up_self]) (fun kv g1 g2 g3 => hP kv (fun b hb => by rw [g1 b hb, g_u2_ne _ _ _ hb]) (fun i hi => by rw [g2 i hi, g_u2_self, va_up_ne _ _ hi]) ?_)
      rw [g3, nS, Nat.pow_add, hc, Nat.mul_assoc]
    unfold f_X8_laysRows_12 f_X8_laysRows_38
    rw [gW_B, rMc H, gW_B, w_props H, hM.pN, gW_iff (by rw [iN_le (by omega) (by omega)]; omega), gW_B, rMi H, e3, gW_B, rMc H, gW_B, w_isNailed H (by omega), hM.vE]
    by_cases c : V (9 + 4 * p + 3) = -1
    · rw [bI_f (fun q => q c), gW_ift rfl, gW_B, show (1 : Int32) = iN 1 from rfl, iN_mul, rMp H]
      rw [show iN p + iN 1 = iN (p + 1) from iN_add p 1]
      exact go 1 (by unfold tPr; rw [if_pos c])
    · rw [bI_t c, gW_iff (by decide), gW_B, show (3 : Int32) = iN 3 from rfl, iN_mul, rMp H, iNp1]
      exact go 3 (by unfold tPr; rw [if_neg c]; rfl)
/-- the model lays the rows of an accused -/
theorem m_rows (hM : MI x iv u V pn on L) (hL : lS L) {o n : Nat} {d k : Int32} (ho : o < on) (hn : n ≤ 60) (eN : V (41 + 4 * o + 1) = iN n) (hk : V (41 + 4 * o + 2) = k) (hd : V (41 + 4 * o + 0) = d) {P : Unit → g_H → Prop} (hP : ∀ kv : gV, Sm x iv kv → MI x kv u V pn on L → (∀ j : Nat, j < 10 → kv (x + 367) j = iN (wAt V pn L d n k j)) → kv (x + 353) 36 = iN (wLf V pn 0) → (∀ i : Nat, i ≠ 18 → i ≠ 19 → i ≠ 20 → i ≠ 21 → i ≠ 22 → i ≠ 36 → kv (x + 353) i = iv (x + 353) i) → P () (kv, u)) : gW (f_X8_laysRows (x + 353) (iN o)) (iv, u) P := by
  have H := hM.M
  unfold f_X8_laysRows
  rw [gW_B, rMc H, gW_B]
  refine m_looksAt hM ho (fun j1 m1 M1 m2 m3 e18 e19 e20 => ?_)
  rw [hd] at e18
  rw [eN] at e19
  rw [hk] at e20
  rw [gW_B, rMp H]
  have S1 : Sm x j1 (g_u2 j1 (x + 353) 36 1) := Sm.um (by omega)
  show gW (f_X8_laysRows_12 gN (x + 353) (iN 0)) _ _
  have h8 := hM.p8
  refine w_rows_12 (V := V) (pn := pn) (on := on) (L := L) pn 0 1 gN _ (by omega) (by rw [gN_eq]; omega) (M1.fr S1.S) (by rw [g_u2_self, va_up_self]; rfl) (fun j2 a1 a2 a3 => ?_)
  unfold f_X8_laysRows_48
  have a3 : j2 (x + 353) 36 = iN (wLf V pn 0) := by
    rw [a3, Nat.one_mul]
    unfold wLf
    rw [show 10 - 0 = 10 from rfl, slot_sum hM.W]
  show gW (f_X8_laysRows_50 gN (x + 353) (iN 0)) _ _
  refine w_rows_50 H 61 0 gN j2 (by omega) (by rw [gN_eq]; omega) a3 (fun r hr => absurd hr (Nat.not_lt_zero r)) (fun j3 b1 b2 => ?_)
  unfold f_X8_laysRows_80
  have c0 : ∀ i : Nat, i ≠ 36 → j3 (x + 353) i = j1 (x + 353) i := fun i hi => by rw [b1 _ (by omega), a2 i hi, g_u2_self, va_up_ne _ _ hi]
  have c1 : ∀ a : Nat, a ≠ x + 353 → a ≠ x + 365 → j3 a = j1 a := fun a h1 h2 => by rw [b1 a h2, a1 a h1, g_u2_ne _ _ _ h1]
  have S3 : Sm x j1 j3 := ⟨fun i hi => c0 i (by omega), fun a ha => c1 a (by omega) (by omega)⟩
  show gW (f_X8_laysRows_82 gN (x + 353) (iN 0)) _ _
  refine w_lays_82 (d := d) (k := k) hn hL 10 0 gN j3 (by omega) (by rw [gN_eq]; omega) (M1.fr S3.S) (by rw [c0 18 (by decide)]; exact e18) (by rw [c0 19 (by decide)]; exact e19) (by rw [c0 20 (by decide)]; exact e20) (fun r hr => ?_) (fun j hj => absurd hj (Nat.not_lt_zero j)) (fun kv g1 g2 g3 => ?_)
  · rw [b2 r hr]
    show _ = iN ((if r = 0 then 1 else 0) * wLf V pn 0)
    by_cases e : r = 0
    · rw [if_pos e, if_pos e, Nat.one_mul]
    · rw [if_neg e, if_neg e, Nat.zero_mul]
  · exact hP kv (m1.tr (S3.tr g1.S)) g2 g3 (by rw [g1.1 36 (by decide) (by decide), b1 _ (by omega)]; exact a3) (fun i i1 i2 i3 i4 i5 i6 => by rw [g1.1 i i4 i5, c0 i i6, m2 i i1 i2 i3])
end MWB
