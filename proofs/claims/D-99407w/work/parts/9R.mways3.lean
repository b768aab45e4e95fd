/-! WAYS, in the model: whole -/
section MWA
variable {iv jv kv lv : gV} {u v : gU} {x : Nat} {V : Nat → Int32} {pn on : Nat} {L : gLw}
theorem w_lays_169 (H : MS u (x + 353)) {P : Unit → g_H → Prop} : ∀ (m t N : Nat) (jv : gV), t + m = 61 → m < N → (∀ r : Nat, r < t → jv (x + 365) r = jv (x + 366) r) → (∀ kv : gV, (∀ a : Nat, a ≠ x + 365 → kv a = jv a) → (∀ r : Nat, r ≤ 60 → kv (x + 365) r = jv (x + 366) r) → P () (kv, u)) → gW (f_X8_laysSlot_169 N (x + 353) (iN t)) (jv, u) P := by
  intro m
  induction m with
  | zero =>
    intro t N jv h1 h2 h3 hP
    obtain ⟨N, rfl⟩ : ∃ N', N = N' + 1 := ⟨N - 1, by omega⟩
    have : t = 61 := by omega
    subst this
    rw [f_X8_laysSlot_169, gW_ift (by decide), gW_ret]
    exact hP jv (fun _ _ => rfl) (fun r hr => h3 r (by omega))
  | succ m ih =>
    intro t N jv h1 h2 h3 hP
    obtain ⟨N, rfl⟩ : ∃ N', N = N' + 1 := ⟨N - 1, by omega⟩
    rw [f_X8_laysSlot_169, gW_iff (by rw [show (60 : Int32) = iN 60 from rfl, iN_lt (by omega) (by omega)]; omega), gW_B, rMr11 H, gW_B, rMr12 H, gW_B, rMa12 H (by omega), gW_B, rMs11 H (by omega), iNp1]
    have e1 : ∀ a : Nat, a ≠ x + 365 → g_u2 jv (x + 353 + 12) t (jv (x + 353 + 13) t) a = jv a := fun a ha => g_u2_ne _ _ _ ha
    refine ih (t + 1) N _ (by omega) (by omega) (fun r hr => ?_) (fun kv g1 g2 => hP kv (fun a ha => by rw [g1 a ha, e1 a ha]) (fun r hr => by rw [g2 r hr, e1 _ (by omega)]))
    rw [e1 (x + 366) (by omega)]
    show g_u2 jv (x + 353 + 12) t _ (x + 353 + 12) r = jv (x + 353 + 13) r
    rw [g_u2_self]
    by_cases e : r = t
    · rw [e, va_up_self]
    · rw [va_up_ne _ _ e]; exact h3 r (by omega)
theorem w_lays_15 (H : MS u (x + 353)) {s : Nat} {q : Int32} {P : Unit → g_H → Prop} : ∀ (m t N : Nat) (jv : gV), t + m = 61 → m < N → (∀ r : Nat, r < t → jv (x + 366) r = 0) → (∀ kv : gV, (∀ a : Nat, a ≠ x + 366 → kv a = jv a) → (∀ r : Nat, r ≤ 60 → kv (x + 366) r = 0) → gW (f_X8_laysSlot_34 (x + 353) (iN s) q) (kv, u) P) → gW (f_X8_laysSlot_15 N (x + 353) (iN s) q (iN t)) (jv, u) P := by
  intro m
  induction m with
  | zero =>
    intro t N jv h1 h2 h3 hP
    obtain ⟨N, rfl⟩ : ∃ N', N = N' + 1 := ⟨N - 1, by omega⟩
    have : t = 61 := by omega
    subst this
    rw [f_X8_laysSlot_15, gW_ift (by decide)]
    exact hP jv (fun _ _ => rfl) (fun r hr => h3 r (by omega))
  | succ m ih =>
    intro t N jv h1 h2 h3 hP
    obtain ⟨N, rfl⟩ : ∃ N', N = N' + 1 := ⟨N - 1, by omega⟩
    rw [f_X8_laysSlot_15, gW_iff (by rw [show (60 : Int32) = iN 60 from rfl, iN_lt (by omega) (by omega)]; omega), gW_B, rMr12 H, gW_B, rMs12 H (by omega), iNp1]
    have e1 : ∀ a : Nat, a ≠ x + 366 → g_u2 jv (x + 353 + 13) t 0 a = jv a := fun a ha => g_u2_ne _ _ _ ha
    refine ih (t + 1) N _ (by omega) (by omega) (fun r hr => ?_) (fun kv g1 g2 => hP kv (fun a ha => by rw [g1 a ha, e1 a ha]) g2)
    show g_u2 jv (x + 353 + 13) t 0 (x + 353 + 13) r = 0
    rw [g_u2_self]
    by_cases e : r = t
    · rw [e, va_up_self]
    · rw [va_up_ne _ _ e]; exact h3 r (by omega)
/-- what the model's count leaves as it is -/
def mWq (x : Nat) (iv jv : gV) : Prop := (∀ k : Nat, k ≠ 21 → k ≠ 22 → jv (x + 353) k = iv (x + 353) k) ∧ ∀ a : Nat, a ≠ x + 353 → a ≠ x + 361 → a ≠ x + 365 → a ≠ x + 366 → a ≠ x + 367 → jv a = iv a
theorem mWq.rf : mWq x iv iv := ⟨fun _ _ _ => rfl, fun _ _ _ _ _ _ => rfl⟩
theorem mWq.tr (h : mWq x iv jv) (g : mWq x jv kv) : mWq x iv kv := ⟨fun k a b => (g.1 k a b).trans (h.1 k a b), fun a b c d e f => (g.2 a b c d e f).trans (h.2 a b c d e f)⟩
theorem mWq.S (h : mWq x iv jv) : Sm x iv jv := ⟨fun k hk => h.1 k (by omega) (by omega), fun a ha => h.2 a (by omega) (by omega) (by omega) (by omega) (by omega)⟩
theorem mWk.q {s : Nat} (h : mWk x s iv jv) : mWq x iv jv := ⟨h.1, fun a b c _ d e => h.2.1 a b c d e⟩
theorem w_lays_82 {n : Nat} {d k : Int32} (hn : n ≤ 60) (hL : lS L) {P : Unit → g_H → Prop} : ∀ (m s N : Nat) (jv : gV), s + m = 10 → m < N → MI x jv u V pn on L → jv (x + 353) 18 = d → jv (x + 353) 19 = iN n → jv (x + 353) 20 = k → (∀ r : Nat, r ≤ 60 → jv (x + 365) r = iN (wH V pn L d n k s r * wLf V pn s)) → (∀ j : Nat, j < s → jv (x + 367) j = iN (wAt V pn L d n k j)) → (∀ kv : gV, mWq x jv kv → MI x kv u V pn on L → (∀ j : Nat, j < 10 → kv (x + 367) j = iN (wAt V pn L d n k j)) → P () (kv, u)) → gW (f_X8_laysRows_82 N (x + 353) (iN s)) (jv, u) P := by
  intro m
  induction m with
  | zero =>
    intro s N jv h1 h2 hM e18 e19 e20 e3 e5 hP
    obtain ⟨N, rfl⟩ : ∃ N', N = N' + 1 := ⟨N - 1, by omega⟩
    have : s = 10 := by omega
    subst this
    rw [f_X8_laysRows_82, gW_ift (by decide), gW_ret]
    exact hP jv mWq.rf hM e5
  | succ m ih =>
    intro s N jv h1 h2 hM e18 e19 e20 e3 e5 hP
    obtain ⟨N, rfl⟩ : ∃ N', N = N' + 1 := ⟨N - 1, by omega⟩
    have H := hM.M
    have h8 := hM.p8
    have hls : wLf V pn s = wT V pn s * wLf V pn (s + 1) := wLf_s (by omega)
    have hHb : ∀ t : Nat, t ≤ 60 → wH V pn L d n k s t * (wT V pn s * wLf V pn (s + 1)) ≤ 6561 := fun t ht => by
      have g1 := wH_b (L := L) (d := d) (k := k) hM.W hn s (by omega)
      have g2 := nS_at (a := wH V pn L d n k s) (s := t) 61 0 (by omega) (by omega)
      have g4 := Nat.mul_le_mul_right (wLf V pn s) g2
      rw [← hls]
      omega
    unfold f_X8_laysRows_82 f_X8_laysSlot
    rw [gW_iff (by rw [show (10 : Int32) = iN 10 from rfl, iN_le (by omega) (by omega)]; omega), gW_B, rMc H, gW_B, gW_B, rMc H, gW_B, w_propIn H hM.pN h8, hM.vE, gW_B, rMr13 H, gW_B, rMs13 H (by omega)]
    have z1 : mWq x jv (g_u2 jv (x + 353 + 14) s 0) := ⟨fun k _ _ => by rw [g_u2_ne _ _ _ (by omega)], fun a a1 a2 a3 a4 a5 => g_u2_ne _ _ _ (by omega)⟩
    have z5 : ∀ a : Nat, a ≠ x + 367 → g_u2 jv (x + 353 + 14) s 0 a = jv a := fun a ha => g_u2_ne _ _ _ ha
    have z6 : g_u2 jv (x + 353 + 14) s 0 (x + 367) = va_up (jv (x + 367)) s 0 := g_u2_self _ _ _ _
    generalize g_u2 jv (x + 353 + 14) s 0 = j1 at z1 z5 z6 ⊢
    show gW (f_X8_laysSlot_15 gN (x + 353) (iN s) (sIn V pn (iN s)) (iN 0)) _ _
    refine w_lays_15 H 61 0 gN j1 (by omega) (by rw [gN_eq]; omega) (fun r hr => absurd hr (Nat.not_lt_zero r)) (fun k1 a1 b1 => ?_)
    have q1 : mWq x jv k1 := z1.tr ⟨fun k _ _ => by rw [a1 _ (by omega)], fun a c1 c2 c3 c4 c5 => a1 a c4⟩
    unfold f_X8_laysSlot_34
    show gW (f_X8_laysSlot_36 gN (x + 353) (iN s) (sIn V pn (iN s)) (iN 0)) _ _
    refine w_lays_36 (d := d) (k := k) (w := wLf V pn (s + 1)) (show s < 10 by omega) hn hHb wLf_pos (n + 1) 0 gN k1 (fun _ => 0, 0) (by omega) (by rw [gN_eq]; omega) (hM.fr q1.S.S) (by rw [q1.1 18 (by decide) (by decide)]; exact e18) (by rw [q1.1 19 (by decide) (by decide)]; exact e19) (by rw [q1.1 20 (by decide) (by decide)]; exact e20) (fun r hr => by rw [a1 _ (by omega), z5 _ (by omega), ← hls]; exact e3 r hr) (fun r hr => by rw [b1 r hr]; show (0 : Int32) = iN (0 * _); rw [Nat.zero_mul]; rfl) (by rw [a1 _ (by omega), z6, va_up_self]; rfl) (fun k2 c2 M2 h4 h5 => ?_) hL
    have h5' : k2 (x + 367) s = iN (wAt V pn L d n k s) := h5
    have h4' : ∀ r : Nat, r ≤ 60 → k2 (x + 366) r = iN (wH V pn L d n k (s + 1) r * wLf V pn (s + 1)) := h4
    unfold f_X8_laysSlot_167
    show gW (f_X8_laysSlot_169 gN (x + 353) (iN 0)) _ _
    refine w_lays_169 H 61 0 gN k2 (by omega) (by rw [gN_eq]; omega) (fun r hr => absurd hr (Nat.not_lt_zero r)) (fun k3 a3 b3 => ?_)
    have q3 : mWq x jv k3 := (q1.tr c2.q).tr ⟨fun k _ _ => by rw [a3 _ (by omega)], fun a c1 c2 c3 c4 c5 => a3 a c3⟩
    rw [iNp1]
    refine ih (s + 1) N k3 (by omega) (by omega) (hM.fr q3.S.S) (by rw [q3.1 18 (by decide) (by decide)]; exact e18) (by rw [q3.1 19 (by decide) (by decide)]; exact e19) (by rw [q3.1 20 (by decide) (by decide)]; exact e20) (fun r hr => by rw [b3 r hr]; exact h4' r hr) (fun j hj => ?_) (fun kv g1 g2 g3 => hP kv (q3.tr g1) g2 g3)
    rw [a3 _ (by omega)]
    by_cases ej : j = s
    · rw [ej]; exact h5'
    · rw [c2.2.2 j ej, a1 _ (by omega), z6, va_up_ne _ _ ej]; exact e5 j (by omega)
end MWA
