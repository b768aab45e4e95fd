/-! WAYS, in the component: all slots -/
section CWA
variable {iv jv kv lv : gV} {u v : gU} {x : Nat} {V : Nat → Int32} {pn on : Nat} {L : gLw}
theorem wLf_le (hW : WI V pn on) : ∀ s : Nat, s ≤ 10 → wLf V pn s ≤ 6561 := by
  intro s
  induction s with
  | zero => exact fun _ => wLf_0 hW
  | succ s ih =>
    intro hs
    have h1 := ih (by omega)
    rw [wLf_s (by omega)] at h1
    unfold wT at h1
    split at h1 <;> omega
theorem dv13 : ∀ e : Nat, e < 9 → iN (1 * 3 ^ e) / 1 = iN (3 ^ e) ∧ iN (3 * 3 ^ e) / 3 = iN (3 ^ e) := by decide +kernel
theorem wLf_dv (hW : WI V pn on) {s : Nat} (hs : s < 10) : iN (wLf V pn s) / (if sIn V pn (iN s) = -1 then 1 else 3) = iN (wLf V pn (s + 1)) := by
  have h1 := wLf_le hW (s + 1) (by omega)
  rw [wLf_s hs]
  unfold wT
  unfold wLf at h1 ⊢
  generalize nS (tSl V pn (fun _ => 1)) (10 - (s + 1)) (s + 1) = e at h1 ⊢
  have he : e < 9 := by
    by_cases c : e < 9
    · exact c
    · have := Nat.pow_le_pow_right (n := 3) (by decide) (show 9 ≤ e by omega)
      have h9 : 3 ^ 9 = 19683 := by decide
      omega
  obtain ⟨d1, d2⟩ := dv13 e he
  by_cases c : sIn V pn (iN s) = -1
  · rw [if_pos c, if_pos c]; exact d1
  · rw [if_neg c, if_neg c]; exact d2
theorem w_counts_128 (HX : XS u x) {w s o : Nat} {cf : Int32} {k76 : Nat → Nat → Int32 → Int32 → gM Unit} {P : Unit → g_H → Prop} : ∀ (m t N : Nat) (jv : gV), t + m = 61 → m < N → (∀ r : Nat, r < t → jv (x + 94) r = 0) → (∀ kv : gV, (∀ a : Nat, a ≠ x + 94 → kv a = jv a) → (∀ r : Nat, r ≤ 60 → kv (x + 94) r = 0) → gW (f_X7_counts_149 k76 (x + 92) o (iN w) (iN s) cf) (kv, u) P) → gW (f_X7_counts_128 k76 N (x + 92) o (iN w) (iN s) cf (iN t)) (jv, u) P := by
  intro m
  induction m with
  | zero =>
    intro t N jv h1 h2 h3 hP
    obtain ⟨N, rfl⟩ : ∃ N', N = N' + 1 := ⟨N - 1, by omega⟩
    have : t = 61 := by omega
    subst this
    rw [f_X7_counts_128, gW_ift (by decide)]
    exact hP jv (fun _ _ => rfl) (fun r hr => h3 r (by omega))
  | succ m ih =>
    intro t N jv h1 h2 h3 hP
    obtain ⟨N, rfl⟩ : ∃ N', N = N' + 1 := ⟨N - 1, by omega⟩
    rw [f_X7_counts_128, gW_iff (by rw [show (60 : Int32) = iN 60 from rfl, iN_lt (by omega) (by omega)]; omega), gW_B, rWr1 HX, gW_B, rWs1 HX (by omega), iNp1]
    refine ih (t + 1) N _ (by omega) (by omega) (fun r hr => ?_) (fun kv g1 g2 => hP kv (fun a ha => by rw [g1 a ha, g_u2_ne _ _ _ ha]) g2)
    rw [g_u2_self]
    by_cases e : r = t
    · rw [e, va_up_self]
    · rw [va_up_ne _ _ e]; exact h3 r (by omega)
/-- what counting leaves as it is -/
def cWq (x : Nat) (iv jv : gV) : Prop := (∀ a : Nat, a ≠ x + 33 → (a < x + 92 ∨ x + 95 < a) → jv a = iv a) ∧ jv (x + 92) 3 = iv (x + 92) 3
theorem cWq.rf : cWq x iv iv := ⟨fun _ _ _ => rfl, rfl⟩
theorem cWq.tr (h : cWq x iv jv) (g : cWq x jv kv) : cWq x iv kv := ⟨fun a b c => (g.1 a b c).trans (h.1 a b c), g.2.trans h.2⟩
theorem cWq.S (h : cWq x iv jv) : Sx x iv jv := ⟨fun k _ _ _ => by rw [h.1 x (by omega) (by omega)], by rw [h.1 (x + 1) (by omega) (by omega)], fun k _ => by rw [h.1 (x + 96) (by omega) (by omega)], fun k _ => by rw [h.1 (x + 353) (by omega) (by omega)], fun a ha => h.1 a (by omega) (by omega)⟩
theorem w_counts_76 {o n : Nat} {d k : Int32} (ho : o < on) (hn : n ≤ 60) (eN : V (41 + 4 * o + 1) = iN n) (hk : V (41 + 4 * o + 2) = k) (hd : V (41 + 4 * o + 0) = d) {P : Unit → g_H → Prop} : ∀ (m s N : Nat) (jv : gV), s + m = 10 → m < N → CI x jv u V pn on L → (∀ r : Nat, r ≤ 60 → jv (x + 93) r = iN (wH V pn L d n k s r)) → (∀ j : Nat, j < s → jv (x + 95) j = iN (wAt V pn L d n k j)) → jv (x + 92) 4 = iN (nS (wAt V pn L d n k) s 0) → (∀ kv : gV, cWq x jv kv → CI x kv u V pn on L → (∀ r : Nat, r ≤ 60 → kv (x + 93) r = iN (wH V pn L d n k 10 r)) → (∀ j : Nat, j < 10 → kv (x + 95) j = iN (wAt V pn L d n k j)) → kv (x + 92) 4 = iN (nS (wAt V pn L d n k) 10 0) → P () (kv, u)) → gW (f_X7_counts_76 N (x + 92) (x + 28 + 15 + o) (iN (wLf V pn s)) (iN s)) (jv, u) P := by
  intro m
  induction m with
  | zero =>
    intro s N jv h1 h2 hC e3 e5 e4 hP
    obtain ⟨N, rfl⟩ : ∃ N', N = N' + 1 := ⟨N - 1, by omega⟩
    have : s = 10 := by omega
    subst this
    rw [f_X7_counts_76, gW_ift (by decide), gW_ret]
    exact hP jv cWq.rf hC e3 e5 e4
  | succ m ih =>
    intro s N jv h1 h2 hC e3 e5 e4 hP
    obtain ⟨N, rfl⟩ : ∃ N', N = N' + 1 := ⟨N - 1, by omega⟩
    have HX := hC.X
    have hdv := wLf_dv hC.W (s := s) (by omega)
    have hHb : ∀ t : Nat, t ≤ 60 → wH V pn L d n k s t ≤ 6561 := fun t ht => by
      have g1 := wH_b (L := L) (d := d) (k := k) hC.W hn s (by omega)
      have g2 := nS_at (a := wH V pn L d n k s) (s := t) 61 0 (by omega) (by omega)
      have g3 : 0 < wLf V pn s := wLf_pos
      have g4 := Nat.le_mul_of_pos_right (nS (wH V pn L d n k s) 61 0) g3
      omega
    unfold f_X7_counts_76 f_X7_counts_103 f_X7_counts_116
    rw [gW_iff (by rw [show (10 : Int32) = iN 10 from rfl, iN_le (by omega) (by omega)]; omega), gW_B, rWr5 HX, gW_B, rXr1 HX, gW_B, rSr3 HX.nw, gW_B, rSa3 HX.nw (by omega), hC.s (by omega)]
    have run : ∀ (cf ct : Int32) (c : Nat), ((cf = 0 ∧ c = 1) ∨ (cf = 1 ∧ c = 3)) → ¬ ct = 0 → iN (wLf V pn s) / ct = iN (wLf V pn (s + 1)) → c = wT V pn s → gW (gB (gGd (¬ ct = 0)) fun _ => gB (gFR (x + 92) 6 2) fun v101 => gB (gSI v101 0 (iN s) (0 : Int32)) fun _ => f_X7_counts_128 (f_X7_counts_76 N) gN (x + 92) (x + 28 + 15 + o) (iN (wLf V pn s) / ct) (iN s) cf (0 : Int32)) (jv, u) P := by
      intro cf ct c hcf hct hq hcT
      rw [gW_B, gW_gd, hq]
      refine ⟨hct, ?_⟩
      rw [gW_B, rWr2 HX, gW_B, rWs2 HX (by omega)]
      show gW (f_X7_counts_128 (f_X7_counts_76 N) gN (x + 92) (x + 28 + 15 + o) (iN (wLf V pn (s + 1))) (iN s) cf (iN 0)) _ _
      refine w_counts_128 HX 61 0 gN _ (by omega) (by rw [gN_eq]; omega) (fun r hr => absurd hr (Nat.not_lt_zero r)) (fun k1 a1 b1 => ?_)
      have q1 : cWq x jv k1 := ⟨fun a c1 c2 => by rw [a1 a (by omega), g_u2_ne _ _ _ (by omega)], by rw [a1 _ (by omega), g_u2_ne _ _ _ (by omega)]⟩
      have k5 : ∀ i : Nat, i ≠ s → k1 (x + 95) i = jv (x + 95) i := fun i hi => by rw [a1 _ (by omega), g_u2_self, va_up_ne _ _ hi]
      have k5s : k1 (x + 95) s = 0 := by rw [a1 _ (by omega), g_u2_self, va_up_self]
      unfold f_X7_counts_149
      show gW (f_X7_counts_152 (f_X7_counts_76 N) gN (x + 92) (x + 28 + 15 + o) (iN (wLf V pn (s + 1))) (iN s) cf (iN 0)) _ _
      refine w_counts_152 (c := c) (d := d) (k := k) ho (by omega) hn eN hk hd hcf (H := wH V pn L d n k s) hHb (n + 1) 0 gN k1 (fun _ => 0, 0) (by omega) (by rw [gN_eq]; omega) (hC.fr q1.S) (fun r hr => by rw [a1 _ (by omega), g_u2_ne _ _ _ (by omega)]; exact e3 r hr) (fun r hr => by rw [b1 r hr]; rfl) (by rw [k5s]; rfl) (fun k2 c2 C2 h4 h5 => ?_)
      have H2 := C2.X
      rw [hcT] at h4 h5
      have h5' : k2 (x + 95) s = iN (wAt V pn L d n k s) := h5
      have h4' : ∀ r : Nat, r ≤ 60 → k2 (x + 94) r = iN (wH V pn L d n k (s + 1) r) := h4
      unfold f_X7_counts_196
      rw [gW_B, rWr1 H2, gW_B, rWr0 H2, gW_B]
      show gW (gCpI (x + 94) (iN 0) (x + 93) (iN 0) (iN 61)) _ _
      rw [gW_CpI H2.2.2.2.2.1.2.2.2.1 H2.2.2.2.2.1.2.1 (by omega) (by omega) (by omega) (by omega) (by omega)]
      have e924 : va_up k2 (x + 93) (va_cpy (k2 (x + 94)) (k2 (x + 93)) 0 0 61) (x + 92) 4 = iN (nS (wAt V pn L d n k) s 0) := by rw [va_up_ne _ _ (by omega), c2.1 _ (by omega) (by omega) (by omega), a1 _ (by omega), g_u2_ne _ _ _ (by omega)]; exact e4
      rw [gW_B, rWi H2, e924, gW_B, rWr2 H2, gW_B, rWa2 H2 (by omega), va_up_ne _ _ (show x + 95 ≠ x + 93 by omega), h5', gW_B, iN_add, rWp H2, iNp1]
      have f1 : ∀ a : Nat, a ≠ x + 92 → a ≠ x + 93 → g_u2 (va_up k2 (x + 93) (va_cpy (k2 (x + 94)) (k2 (x + 93)) 0 0 61)) (x + 92) 4 (iN (nS (wAt V pn L d n k) s 0 + wAt V pn L d n k s)) a = k2 a := fun a c1 c2 => by rw [g_u2_ne _ _ _ c1, va_up_ne _ _ c2]
      have f2 : g_u2 (va_up k2 (x + 93) (va_cpy (k2 (x + 94)) (k2 (x + 93)) 0 0 61)) (x + 92) 4 (iN (nS (wAt V pn L d n k) s 0 + wAt V pn L d n k s)) (x + 92) = va_up (k2 (x + 92)) 4 (iN (nS (wAt V pn L d n k) s 0 + wAt V pn L d n k s)) := by rw [g_u2_self, va_up_ne _ _ (by omega)]
      have f3 : ∀ r : Nat, r ≤ 60 → g_u2 (va_up k2 (x + 93) (va_cpy (k2 (x + 94)) (k2 (x + 93)) 0 0 61)) (x + 92) 4 (iN (nS (wAt V pn L d n k) s 0 + wAt V pn L d n k s)) (x + 93) r = iN (wH V pn L d n k (s + 1) r) := fun r hr => by rw [g_u2_ne _ _ _ (by omega), va_up_self, va_cpy_at (by omega)]; exact h4' r hr
      generalize g_u2 (va_up k2 (x + 93) (va_cpy (k2 (x + 94)) (k2 (x + 93)) 0 0 61)) (x + 92) 4 (iN (nS (wAt V pn L d n k) s 0 + wAt V pn L d n k s)) = k3 at f1 f2 f3 ⊢
      have q3 : cWq x jv k3 := q1.tr ⟨fun a c1' c2' => by rw [f1 a (by omega) (by omega), c2.1 a c1' (by omega) (by omega)], by rw [f2, va_up_ne _ _ (by decide), c2.1 _ (by omega) (by omega) (by omega)]⟩
      refine ih (s + 1) N k3 (by omega) (by omega) (hC.fr q3.S) f3 (fun j hj => ?_) ?_ (fun kv g1 g2 g3 g4 g5 => hP kv (q3.tr g1) g2 g3 g4 g5)
      · rw [f1 _ (by omega) (by omega)]
        by_cases ej : j = s
        · rw [ej]; exact h5'
        · rw [c2.2 j ej, k5 j ej]; exact e5 j (by omega)
      · rw [f2, va_up_self, nS_snoc, Nat.zero_add]
    by_cases c : sIn V pn (iN s) = -1
    · rw [if_pos c] at hdv
      rw [gW_ift c, gW_ift rfl]
      exact run 0 1 1 (Or.inl ⟨rfl, rfl⟩) (by decide) hdv (by unfold wT; rw [if_pos c])
    · rw [if_neg c] at hdv
      rw [gW_iff c, gW_iff (by decide)]
      exact run 1 3 3 (Or.inr ⟨rfl, rfl⟩) (by decide) hdv (by unfold wT; rw [if_neg c])
end CWA
