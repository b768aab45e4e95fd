/-! WAYS, in the component: whole -/
section CWB
variable {iv jv kv lv : gV} {u v : gU} {x : Nat} {V : Nat → Int32} {pn on : Nat} {L : gLw}
theorem w_nailed_4 (HX : XS u x) (hs : ∀ s : Nat, s < 10 → iv (x + 28 + 4) s = sIn V pn (iN s)) {P : Int32 → g_H → Prop} : ∀ (k i n a : Nat), i + k = 10 → k < n → (gW (f_X3_nailed_4 n (x + 28) (iN a) (iN i)) (iv, u) P ↔ P (iN (a + nS (tSl V pn (fun _ => 1)) k i)) (iv, u)) := by
  intro k
  induction k with
  | zero =>
    intro i n a h1 h2
    obtain ⟨n, rfl⟩ : ∃ n', n = n' + 1 := ⟨n - 1, by omega⟩
    have : i = 10 := by omega
    subst this
    unfold f_X3_nailed_4 f_X3_nailed_34
    rw [gW_ift (by decide), gW_ret]
    rfl
  | succ k ih =>
    intro i n a h1 h2
    obtain ⟨n, rfl⟩ : ∃ n', n = n' + 1 := ⟨n - 1, by omega⟩
    unfold f_X3_nailed_4 f_X3_nailed_26
    rw [gW_iff (by rw [show (10 : Int32) = iN 10 from rfl, iN_le (by omega) (by omega)]; omega), gW_B, rSr3 HX.nw, gW_B, rSa3 HX.nw (by omega), hs i (by omega), nS]
    unfold tSl
    by_cases c : sIn V pn (iN i) = -1
    · rw [gW_ift c, if_pos c, iNp1, Nat.zero_add, show iN a + 0 = iN (a + 0) from rfl.trans (iN_add a 0)]
      exact ih (i + 1) n (a + 0) (by omega) (by omega)
    · rw [gW_iff c, if_neg c, iNp1, iNp1, ← Nat.add_assoc]
      exact ih (i + 1) n (a + 1) (by omega) (by omega)
theorem w_counts_49 (HX : XS u x) {o : Nat} {P : Unit → g_H → Prop} : ∀ (k a N : Nat) (jv : gV), k < N → k < 1000 → jv (x + 92) 3 = iN a → (∀ kv : gV, (∀ c : Nat, c ≠ x + 92 → kv c = jv c) → kv (x + 92) 3 = iN (a * 3 ^ k) → (∀ i : Nat, i ≠ 3 → kv (x + 92) i = jv (x + 92) i) → gW (f_X7_counts_69 (x + 92) o) (kv, u) P) → gW (f_X7_counts_49 N (x + 92) o (iN k)) (jv, u) P := by
  intro k
  induction k with
  | zero =>
    intro a N jv h2 _ e3 hP
    obtain ⟨N, rfl⟩ : ∃ N', N = N' + 1 := ⟨N - 1, by omega⟩
    rw [f_X7_counts_49, gW_ift (by decide)]
    exact hP jv (fun _ _ => rfl) (by rw [Nat.pow_zero, Nat.mul_one]; exact e3) (fun _ _ => rfl)
  | succ k ih =>
    intro a N jv h2 hb e3 hP
    obtain ⟨N, rfl⟩ : ∃ N', N = N' + 1 := ⟨N - 1, by omega⟩
    have em : iN (k + 1) + (-8 + 7) = iN k := by
      rw [show (-8 + 7 : Int32) = -1 from rfl]
      exact iN_m1 (by omega)
    rw [f_X7_counts_49, gW_iff (by rw [show (0 : Int32) = iN 0 from rfl, iN_le (by omega) (by omega)]; omega), gW_B, rWi HX, e3, gW_B, show (3 : Int32) = iN 3 from rfl, iN_mul, rWp HX]
    rw [show (-1 : Int32) = -8 + 7 from rfl, em]
    refine ih (a * 3) N _ (by omega) (by omega) (by rw [g_u2_self, va_up_self]) (fun kv g1 g2 g3 => hP kv (fun c hc => by rw [g1 c hc, g_u2_ne _ _ _ hc]) ?_ (fun i hi => by rw [g3 i hi, g_u2_self, va_up_ne _ _ hi]))
    rw [g2, Nat.pow_succ, Nat.mul_assoc, Nat.mul_comm 3]
theorem w_counts_2 (HX : XS u x) {o : Nat} {P : Unit → g_H → Prop} : ∀ (m t N : Nat) (jv : gV), t + m = 61 → m < N → (∀ r : Nat, r < t → jv (x + 93) r = 0) → (∀ kv : gV, (∀ a : Nat, a ≠ x + 93 → kv a = jv a) → (∀ r : Nat, r ≤ 60 → kv (x + 93) r = 0) → gW (f_X7_counts_21 (x + 92) o) (kv, u) P) → gW (f_X7_counts_2 N (x + 92) o (iN t)) (jv, u) P := by
  intro m
  induction m with
  | zero =>
    intro t N jv h1 h2 h3 hP
    obtain ⟨N, rfl⟩ : ∃ N', N = N' + 1 := ⟨N - 1, by omega⟩
    have : t = 61 := by omega
    subst this
    rw [f_X7_counts_2, gW_ift (by decide)]
    exact hP jv (fun _ _ => rfl) (fun r hr => h3 r (by omega))
  | succ m ih =>
    intro t N jv h1 h2 h3 hP
    obtain ⟨N, rfl⟩ : ∃ N', N = N' + 1 := ⟨N - 1, by omega⟩
    rw [f_X7_counts_2, gW_iff (by rw [show (60 : Int32) = iN 60 from rfl, iN_lt (by omega) (by omega)]; omega), gW_B, rWr0 HX, gW_B, rWs0 HX (by omega), iNp1]
    refine ih (t + 1) N _ (by omega) (by omega) (fun r hr => ?_) (fun kv g1 g2 => hP kv (fun a ha => by rw [g1 a ha, g_u2_ne _ _ _ ha]) g2)
    rw [g_u2_self]
    by_cases e : r = t
    · rw [e, va_up_self]
    · rw [va_up_ne _ _ e]; exact h3 r (by omega)
/-- the component counts the ways of an accused -/
theorem c_counts (hC : CI x iv u V pn on L) {o n : Nat} {d k : Int32} (ho : o < on) (hn : n ≤ 60) (eN : V (41 + 4 * o + 1) = iN n) (hk : V (41 + 4 * o + 2) = k) (hd : V (41 + 4 * o + 0) = d) {P : Unit → g_H → Prop} (hP : ∀ kv : gV, (∀ a : Nat, a ≠ x + 33 → (a < x + 92 ∨ x + 95 < a) → kv a = iv a) → Sx x iv kv → CI x kv u V pn on L → (∀ r : Nat, r ≤ 60 → kv (x + 93) r = iN (wH V pn L d n k 10 r)) → (∀ j : Nat, j < 10 → kv (x + 95) j = iN (wAt V pn L d n k j)) → kv (x + 92) 4 = iN (nS (wAt V pn L d n k) 10 0) → kv (x + 92) 3 = iN (wLf V pn 0) → P () (kv, u)) : gW (f_X7_counts (x + 92) (x + 28 + 15 + o)) (iv, u) P := by
  have HX := hC.X
  unfold f_X7_counts
  show gW (f_X7_counts_2 gN (x + 92) (x + 28 + 15 + o) (iN 0)) _ _
  refine w_counts_2 HX 61 0 gN iv (by omega) (by rw [gN_eq]; omega) (fun r hr => absurd hr (Nat.not_lt_zero r)) (fun k1 a1 b1 => ?_)
  unfold f_X7_counts_21
  rw [gW_B, rWr0 HX, gW_B]
  show gW (gSI (x + 93) 0 (iN 0) (1 : Int32)) _ _
  rw [rWs0 HX (by omega), gW_B, rWp HX, gW_B, rWp HX, gW_B, rWr5 HX, gW_B, rXr1 HX, gW_B, rSc HX.nw, gW_B]
  have f1 : ∀ a : Nat, a ≠ x + 92 → a ≠ x + 93 → g_u2 (g_u2 (g_u2 k1 (x + 93) 0 1) (x + 92) 4 0) (x + 92) 3 1 a = iv a := fun a c1 c2 => by rw [g_u2_ne _ _ _ c1, g_u2_ne _ _ _ c1, g_u2_ne _ _ _ c2, a1 a c2]
  have f2 : ∀ r : Nat, r ≤ 60 → g_u2 (g_u2 (g_u2 k1 (x + 93) 0 1) (x + 92) 4 0) (x + 92) 3 1 (x + 93) r = iN (wH V pn L d n k 0 r) := fun r hr => by
    rw [g_u2_ne _ _ _ (by omega), g_u2_ne _ _ _ (by omega), g_u2_self]
    show va_up (k1 (x + 93)) 0 1 r = iN (if r = 0 then 1 else 0)
    by_cases e : r = 0
    · rw [e, va_up_self]; rfl
    · rw [va_up_ne _ _ e, if_neg e, b1 r hr]; rfl
  have f3 : g_u2 (g_u2 (g_u2 k1 (x + 93) 0 1) (x + 92) 4 0) (x + 92) 3 1 (x + 92) 3 = iN 1 := by rw [g_u2_self, va_up_self]; rfl
  have f4 : g_u2 (g_u2 (g_u2 k1 (x + 93) 0 1) (x + 92) 4 0) (x + 92) 3 1 (x + 92) 4 = iN 0 := by rw [g_u2_self, va_up_ne _ _ (by decide), g_u2_self, va_up_self]; rfl
  generalize g_u2 (g_u2 (g_u2 k1 (x + 93) 0 1) (x + 92) 4 0) (x + 92) 3 1 = k2 at f1 f2 f3 f4 ⊢
  have hs2 : ∀ s : Nat, s < 10 → k2 (x + 28 + 4) s = sIn V pn (iN s) := fun s hs => by rw [f1 _ (by omega) (by omega)]; exact hC.s hs
  unfold f_X3_nailed
  show gW (f_X3_nailed_4 gN (x + 28) (iN 0) (iN 0)) _ _
  rw [w_nailed_4 HX hs2 10 0 gN 0 (by omega) (by rw [gN_eq]; omega), Nat.zero_add]
  have hc10 : nS (tSl V pn (fun _ => 1)) 10 0 < 1000 := by
    have h1 := wLf_0 hC.W
    unfold wLf at h1
    by_cases c : nS (tSl V pn (fun _ => 1)) 10 0 < 1000
    · exact c
    · have := Nat.pow_le_pow_right (n := 3) (by decide) (show 9 ≤ nS (tSl V pn (fun _ => 1)) (10 - 0) 0 by
        have : nS (tSl V pn (fun _ => 1)) (10 - 0) 0 = nS (tSl V pn (fun _ => 1)) 10 0 := rfl
        omega)
      have h9 : 3 ^ 9 = 19683 := by decide
      omega
  refine w_counts_49 HX _ 1 gN k2 (by rw [gN_eq]; omega) hc10 f3 (fun k3 c1 c2 c3 => ?_)
  unfold f_X7_counts_69
  have e3 : k3 (x + 92) 3 = iN (wLf V pn 0) := by rw [c2, Nat.one_mul]; rfl
  rw [gW_B, rWi HX, e3]
  have q3 : ∀ a : Nat, a ≠ x + 33 → (a < x + 92 ∨ x + 95 < a) → k3 a = iv a := fun a d1 d2 => by rw [c1 a (by omega), f1 a (by omega) (by omega)]
  have S3 : Sx x iv k3 := ⟨fun k _ _ _ => by rw [q3 x (by omega) (by omega)], by rw [q3 (x + 1) (by omega) (by omega)], fun k _ => by rw [q3 (x + 96) (by omega) (by omega)], fun k _ => by rw [q3 (x + 353) (by omega) (by omega)], fun a ha => q3 a (by omega) (by omega)⟩
  show gW (f_X7_counts_76 gN (x + 92) (x + 28 + 15 + o) (iN (wLf V pn 0)) (iN 0)) _ _
  refine w_counts_76 (d := d) (k := k) ho hn eN hk hd 10 0 gN k3 (by omega) (by rw [gN_eq]; omega) (hC.fr S3) (fun r hr => by rw [c1 _ (by omega)]; exact f2 r hr) (fun j hj => absurd hj (Nat.not_lt_zero j)) (by rw [c3 4 (by decide)]; exact f4) (fun kv g1 g2 g3' g4 g5 => ?_)
  exact hP kv (fun a d1 d2 => by rw [g1.1 a d1 d2, q3 a d1 d2]) (S3.tr g1.S) g2 g3' g4 g5 (by rw [g1.2]; exact e3)
end CWB
