/-! WAYS, in the component -/
section CWY
variable {iv jv kv lv : gV} {u v : gU} {x : Nat} {V : Nat → Int32} {pn on : Nat} {L : gLw}
theorem rWr0 (H : XS u x) {P : Nat → g_H → Prop} : gW (gFR (x + 92) 6 0) (iv, u) P ↔ P (x + 93) (iv, u) := gW_FR H.1.2.2.2.1 H.2.2.2.2.1.1
theorem rWr1 (H : XS u x) {P : Nat → g_H → Prop} : gW (gFR (x + 92) 6 1) (iv, u) P ↔ P (x + 94) (iv, u) := gW_FR H.1.2.2.2.1 H.2.2.2.2.1.2.2.1
theorem rWr2 (H : XS u x) {P : Nat → g_H → Prop} : gW (gFR (x + 92) 6 2) (iv, u) P ↔ P (x + 95) (iv, u) := gW_FR H.1.2.2.2.1 H.2.2.2.2.1.2.2.2.2.1
theorem rWr5 (H : XS u x) {P : Nat → g_H → Prop} : gW (gFR (x + 92) 6 5) (iv, u) P ↔ P x (iv, u) := gW_FR H.1.2.2.2.1 H.2.2.2.2.1.2.2.2.2.2.2
theorem rWi (H : XS u x) {k : Nat} {P : Int32 → g_H → Prop} : gW (gFI (x + 92) 6 k) (iv, u) P ↔ P (iv (x + 92) k) (iv, u) := gW_FI H.1.2.2.2.1
theorem rWp (H : XS u x) {k : Nat} {y : Int32} {P : Unit → g_H → Prop} : gW (gPI (x + 92) 6 k y) (iv, u) P ↔ P () (g_u2 iv (x + 92) k y, u) := gW_PI H.1.2.2.2.1
theorem rWc (H : XS u x) {P : Unit → g_H → Prop} : gW (gCk (x + 92) 6) (iv, u) P ↔ P () (iv, u) := gW_Ck H.1.2.2.2.1
theorem rWa0 (H : XS u x) {k : Nat} (hk : k < 61) {P : Int32 → g_H → Prop} : gW (gAI (x + 93) 0 (iN k)) (iv, u) P ↔ P (iv (x + 93) k) (iv, u) := gW_AI H.2.2.2.2.1.2.1 rfl hk (by decide)
theorem rWs0 (H : XS u x) {k : Nat} (hk : k < 61) {y : Int32} {P : Unit → g_H → Prop} : gW (gSI (x + 93) 0 (iN k) y) (iv, u) P ↔ P () (g_u2 iv (x + 93) k y, u) := gW_SI H.2.2.2.2.1.2.1 rfl hk (by decide)
theorem rWa1 (H : XS u x) {k : Nat} (hk : k < 61) {P : Int32 → g_H → Prop} : gW (gAI (x + 94) 0 (iN k)) (iv, u) P ↔ P (iv (x + 94) k) (iv, u) := gW_AI H.2.2.2.2.1.2.2.2.1 rfl hk (by decide)
theorem rWs1 (H : XS u x) {k : Nat} (hk : k < 61) {y : Int32} {P : Unit → g_H → Prop} : gW (gSI (x + 94) 0 (iN k) y) (iv, u) P ↔ P () (g_u2 iv (x + 94) k y, u) := gW_SI H.2.2.2.2.1.2.2.2.1 rfl hk (by decide)
theorem rWa2 (H : XS u x) {k : Nat} (hk : k < 10) {P : Int32 → g_H → Prop} : gW (gAI (x + 95) 0 (iN k)) (iv, u) P ↔ P (iv (x + 95) k) (iv, u) := gW_AI H.2.2.2.2.1.2.2.2.2.2.1 rfl hk (by decide)
theorem rWs2 (H : XS u x) {k : Nat} (hk : k < 10) {y : Int32} {P : Unit → g_H → Prop} : gW (gSI (x + 95) 0 (iN k) y) (iv, u) P ↔ P () (g_u2 iv (x + 95) k y, u) := gW_SI H.2.2.2.2.1.2.2.2.2.2.1 rfl hk (by decide)
theorem w_goes_19 (HX : XS u x) {o : Nat} (ho : u.1 o = some (.inr 4)) (hne : o ≠ x + 94 ∧ o ≠ x + 95) {n s t b w h c : Nat} (hn : n ≤ 60) (hs : s < 10) (ht : t ≤ 60) (hb : b < 1000) (hc : c ≤ 3) {P : Unit → g_H → Prop} : ∀ (k j N : Nat) (jv : gV) (z : gWz), j + k = c → k < N → jv o 1 = iN n → jv (x + 93) t = iN h → (∀ r : Nat, r ≤ 60 → jv (x + 94) r = iN (z.1 r)) → jv (x + 95) s = iN z.2 → (∀ kv : gV, (∀ a : Nat, a ≠ x + 94 → a ≠ x + 95 → kv a = jv a) → (∀ i : Nat, i ≠ s → kv (x + 95) i = jv (x + 95) i) → (∀ r : Nat, r ≤ 60 → kv (x + 94) r = iN ((wAdd n b h w k j z).1 r)) → kv (x + 95) s = iN (wAdd n b h w k j z).2 → P () (kv, u)) → gW (f_X7_goes_19 N (x + 92) o (iN s) (iN t) (iN c) (iN w) (iN b) (iN j)) (jv, u) P := by
  intro k
  induction k with
  | zero =>
    intro j N jv z h1 h2 e1 e3 e4 e5 hP
    obtain ⟨N, rfl⟩ : ∃ N', N = N' + 1 := ⟨N - 1, by omega⟩
    rw [f_X7_goes_19, gW_ift (by rw [iN_le (by omega) (by omega)]; omega), gW_ret]
    exact hP jv (fun _ _ _ => rfl) (fun _ _ => rfl) e4 e5
  | succ k ih =>
    intro j N jv z h1 h2 e1 e3 e4 e5 hP
    obtain ⟨N, rfl⟩ : ∃ N', N = N' + 1 := ⟨N - 1, by omega⟩
    unfold f_X7_goes_19 f_X7_goes_78
    rw [gW_iff (by rw [iN_le (by omega) (by omega)]; omega), gW_B, gW_FI ho, e1, iN_add]
    rw [wAdd] at hP
    by_cases cc : b + j ≤ n
    · rw [if_pos cc] at hP
      rw [gW_ift (by rw [iN_le (by omega) (by omega)]; exact cc), gW_B, rWr1 HX, gW_B, rWa1 HX (by omega), e4 _ (by omega), gW_B, rWr0 HX, gW_B, rWa0 HX (by omega), e3, gW_B, iN_add, rWs1 HX (by omega), iNp1]
      refine ih (j + 1) N _ _ (by omega) (by omega) (by rw [g_u2_ne _ _ _ hne.1]; exact e1) (by rw [g_u2_ne _ _ _ (by omega)]; exact e3) (fun r hr => ?_) (by rw [g_u2_ne _ _ _ (by omega)]; exact e5) (fun kv g1 g2 g3 g4 => hP kv (fun a a1 a2 => by rw [g1 a a1 a2, g_u2_ne _ _ _ a1]) (fun i hi => by rw [g2 i hi, g_u2_ne _ _ _ (by omega)]) g3 g4)
      rw [g_u2_self]
      show va_up _ _ _ r = iN (va_up z.1 (b + j) (z.1 (b + j) + h) r)
      by_cases er : r = b + j
      · rw [er, va_up_self, va_up_self]
      · rw [va_up_ne _ _ er, va_up_ne _ _ er]; exact e4 r hr
    · rw [if_neg cc] at hP
      rw [gW_iff (by rw [iN_le (by omega) (by omega)]; exact cc), gW_B, rWr2 HX, gW_B, rWa2 HX hs, e5, gW_B, rWr0 HX, gW_B, rWa0 HX (by omega), e3, gW_B, iN_mul, iN_add, rWs2 HX hs, iNp1]
      exact ih (j + 1) N _ _ (by omega) (by omega) (by rw [g_u2_ne _ _ _ hne.2]; exact e1) (by rw [g_u2_ne _ _ _ (by omega)]; exact e3) (fun r hr => by rw [g_u2_ne _ _ _ (by omega)]; exact e4 r hr) (by rw [g_u2_self, va_up_self]) (fun kv g1 g2 g3 g4 => hP kv (fun a a1 a2 => by rw [g1 a a1 a2, g_u2_ne _ _ _ a2]) (fun i hi => by rw [g2 i hi, g_u2_self, va_up_ne _ _ hi]) g3 g4)
end CWY
