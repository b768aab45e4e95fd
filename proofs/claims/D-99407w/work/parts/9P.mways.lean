/-! WAYS, in the model -/
section MWY
variable {iv jv kv lv : gV} {u v : gU} {x : Nat} {V : Nat → Int32} {pn on : Nat} {L : gLw}
/-- what the model's count of a slot leaves as it is -/
def mWk (x s : Nat) (iv jv : gV) : Prop := (∀ k : Nat, k ≠ 21 → k ≠ 22 → jv (x + 353) k = iv (x + 353) k) ∧ (∀ a : Nat, a ≠ x + 353 → a ≠ x + 361 → a ≠ x + 366 → a ≠ x + 367 → jv a = iv a) ∧ ∀ i : Nat, i ≠ s → jv (x + 367) i = iv (x + 367) i
theorem mWk.rf {s : Nat} : mWk x s iv iv := ⟨fun _ _ _ => rfl, fun _ _ _ _ _ => rfl, fun _ _ => rfl⟩
theorem mWk.tr {s : Nat} (h : mWk x s iv jv) (g : mWk x s jv kv) : mWk x s iv kv := ⟨fun k a b => (g.1 k a b).trans (h.1 k a b), fun a b c d e => (g.2.1 a b c d e).trans (h.2.1 a b c d e), fun i hi => (g.2.2 i hi).trans (h.2.2 i hi)⟩
theorem mWk.S {s : Nat} (h : mWk x s iv jv) : Sm x iv jv := ⟨fun k hk => h.1 k (by omega) (by omega), fun a ha => h.2.1 a (by omega) (by omega) (by omega) (by omega)⟩
theorem w_lays_96 (H : MS u (x + 353)) {n s t b w h hv : Nat} {q : Int32} (hn : n ≤ 60) (hs : s < 10) (ht : t ≤ 60) (hb : b < 1000) (hd : iN hv / 3 = iN (h * w)) {k36 : Nat → Int32 → Int32 → Int32 → gM Unit} {P : Unit → g_H → Prop} : ∀ (k j N : Nat) (jv : gV) (z : gWz), j + k = 3 → k < N → jv (x + 353) 19 = iN n → jv (x + 365) t = iN hv → (∀ r : Nat, r ≤ 60 → jv (x + 366) r = iN (z.1 r * w)) → jv (x + 367) s = iN z.2 → (∀ kv : gV, mWk x s jv kv → (∀ r : Nat, r ≤ 60 → kv (x + 366) r = iN ((wAdd n b h w k j z).1 r * w)) → kv (x + 367) s = iN (wAdd n b h w k j z).2 → gW (f_X8_laysSlot_161 k36 (x + 353) (iN s) q (iN t)) (kv, u) P) → gW (f_X8_laysSlot_96 k36 N (x + 353) (iN s) q (iN t) (iN b) (iN j)) (jv, u) P := by
  intro k
  induction k with
  | zero =>
    intro j N jv z h1 h2 e1 e3 e4 e5 hP
    obtain ⟨N, rfl⟩ : ∃ N', N = N' + 1 := ⟨N - 1, by omega⟩
    have : j = 3 := by omega
    subst this
    rw [f_X8_laysSlot_96, gW_ift (by decide)]
    exact hP jv mWk.rf e4 e5
  | succ k ih =>
    intro j N jv z h1 h2 e1 e3 e4 e5 hP
    obtain ⟨N, rfl⟩ : ∃ N', N = N' + 1 := ⟨N - 1, by omega⟩
    unfold f_X8_laysSlot_96 f_X8_laysSlot_155
    rw [gW_iff (by rw [show (3 : Int32) = iN 3 from rfl, iN_le (by omega) (by omega)]; omega), gW_B, rMi H, e1, iN_add]
    rw [wAdd] at hP
    by_cases cc : b + j ≤ n
    · rw [if_pos cc] at hP
      rw [gW_ift (by rw [iN_le (by omega) (by omega)]; exact cc), gW_B, rMr12 H, gW_B, rMa12 H (by omega), show jv (x + 353 + 13) (b + j) = iN (z.1 (b + j) * w) from e4 _ (by omega), gW_B, rMr11 H, gW_B, rMa11 H (by omega), show jv (x + 353 + 12) t = iN hv from e3, hd, gW_B, iN_add, rMs12 H (by omega), iNp1]
      have q1 : mWk x s jv (g_u2 jv (x + 353 + 13) (b + j) (iN (z.1 (b + j) * w + h * w))) := ⟨fun k _ _ => by rw [g_u2_ne _ _ _ (by omega)], fun a a1 a2 a3 a4 => g_u2_ne _ _ _ (by omega), fun i hi => by rw [g_u2_ne _ _ _ (by omega)]⟩
      refine ih (j + 1) N _ _ (by omega) (by omega) (by rw [g_u2_ne _ _ _ (by omega)]; exact e1) (by rw [g_u2_ne _ _ _ (by omega)]; exact e3) (fun r hr => ?_) (by rw [g_u2_ne _ _ _ (by omega)]; exact e5) (fun kv g1 g2 g3 => hP kv (q1.tr g1) g2 g3)
      show g_u2 jv (x + 353 + 13) (b + j) _ (x + 353 + 13) r = iN (va_up z.1 (b + j) (z.1 (b + j) + h) r * w)
      rw [g_u2_self]
      by_cases er : r = b + j
      · rw [er, va_up_self, va_up_self, Nat.add_mul]
      · rw [va_up_ne _ _ er, va_up_ne _ _ er]; exact e4 r hr
    · rw [if_neg cc] at hP
      rw [gW_iff (by rw [iN_le (by omega) (by omega)]; exact cc), gW_B, rMr13 H, gW_B, rMa13 H hs, show jv (x + 353 + 14) s = iN z.2 from e5, gW_B, rMr11 H, gW_B, rMa11 H (by omega), show jv (x + 353 + 12) t = iN hv from e3, hd, gW_B, iN_add, rMs13 H hs, iNp1]
      have q1 : mWk x s jv (g_u2 jv (x + 353 + 14) s (iN (z.2 + h * w))) := ⟨fun k _ _ => by rw [g_u2_ne _ _ _ (by omega)], fun a a1 a2 a3 a4 => g_u2_ne _ _ _ (by omega), fun i hi => by
        show g_u2 jv (x + 353 + 14) s _ (x + 353 + 14) i = _
        rw [g_u2_self, va_up_ne _ _ hi]⟩
      exact ih (j + 1) N _ _ (by omega) (by omega) (by rw [g_u2_ne _ _ _ (by omega)]; exact e1) (by rw [g_u2_ne _ _ _ (by omega)]; exact e3) (fun r hr => by rw [g_u2_ne _ _ _ (by omega)]; exact e4 r hr) (by show g_u2 jv (x + 353 + 14) s _ (x + 353 + 14) s = _; rw [g_u2_self, va_up_self]) (fun kv g1 g2 g3 => hP kv (q1.tr g1) g2 g3)
end MWY
