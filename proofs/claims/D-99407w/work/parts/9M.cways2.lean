/-! WAYS, in the component: a slot -/
section CWZ
variable {iv jv kv lv : gV} {u v : gU} {x : Nat} {V : Nat → Int32} {pn on : Nat} {L : gLw}
theorem wAdd_0 {n b w : Nat} : ∀ (k j : Nat) (z : gWz), wAdd n b 0 w k j z = z := by
  intro k
  induction k with
  | zero => exact fun _ _ => rfl
  | succ k ih =>
    intro j z
    rw [wAdd, ih]
    by_cases c : b + j ≤ n
    · rw [if_pos c, Nat.add_zero]
      refine Prod.ext ?_ rfl
      exact va_up_g _ _
    · rw [if_neg c, Nat.zero_mul, Nat.add_zero]
theorem wB_n (hW : WI V pn on) (hL : lS L) {s t : Nat} (ht : t ≤ 60) {d n k : Int32} : bS V pn L d n k s (iN t) 0 = iN (wB V pn L d n k s t) ∧ wB V pn L d n k s t < 1000 := by
  obtain ⟨r, h1, h2⟩ := bS_n (d := d) (n := n) (k := k) (s := s) (j := 0) hW hL (show t < 100000 by omega) (by omega)
  have h2 : bS V pn L d n k s (iN t) 0 = iN r := h2
  unfold wB
  rw [h2, iN_c (by omega)]
  exact ⟨rfl, by omega⟩
/-- what a slot's count leaves as it is -/
def cWk (x s : Nat) (iv jv : gV) : Prop := (∀ a : Nat, a ≠ x + 33 → a ≠ x + 94 → a ≠ x + 95 → jv a = iv a) ∧ ∀ i : Nat, i ≠ s → jv (x + 95) i = iv (x + 95) i
theorem cWk.rf {s : Nat} : cWk x s iv iv := ⟨fun _ _ _ _ => rfl, fun _ _ => rfl⟩
theorem cWk.tr {s : Nat} (h : cWk x s iv jv) (g : cWk x s jv kv) : cWk x s iv kv := ⟨fun a b c d => (g.1 a b c d).trans (h.1 a b c d), fun i hi => (g.2 i hi).trans (h.2 i hi)⟩
theorem cWk.S {s : Nat} (h : cWk x s iv jv) : Sx x iv jv := ⟨fun k _ _ _ => by rw [h.1 x (by omega) (by omega) (by omega)], by rw [h.1 (x + 1) (by omega) (by omega) (by omega)], fun k _ => by rw [h.1 (x + 96) (by omega) (by omega) (by omega)], fun k _ => by rw [h.1 (x + 353) (by omega) (by omega) (by omega)], fun a ha => h.1 a (by omega) (by omega) (by omega)⟩
theorem w_counts_152 {o s n w c : Nat} {cf k : Int32} (ho : o < on) (hs : s < 10) (hn : n ≤ 60) (eN : V (41 + 4 * o + 1) = iN n) (hk : V (41 + 4 * o + 2) = k) {d : Int32} (hd : V (41 + 4 * o + 0) = d) (hcf : (cf = 0 ∧ c = 1) ∨ (cf = 1 ∧ c = 3)) {H : Nat → Nat} (hH : ∀ t : Nat, t ≤ 60 → H t ≤ 6561) {k76 : Nat → Nat → Int32 → Int32 → gM Unit} {P : Unit → g_H → Prop} : ∀ (m t N : Nat) (jv : gV) (z : gWz), t + m = n + 1 → m < N → CI x jv u V pn on L → (∀ r : Nat, r ≤ 60 → jv (x + 93) r = iN (H r)) → (∀ r : Nat, r ≤ 60 → jv (x + 94) r = iN (z.1 r)) → jv (x + 95) s = iN z.2 → (∀ kv : gV, cWk x s jv kv → CI x kv u V pn on L → (∀ r : Nat, r ≤ 60 → kv (x + 94) r = iN ((wSl n w c (wB V pn L d (iN n) k s) H m t z).1 r)) → kv (x + 95) s = iN (wSl n w c (wB V pn L d (iN n) k s) H m t z).2 → gW (f_X7_counts_196 k76 (x + 92) (x + 28 + 15 + o) (iN w) (iN s)) (kv, u) P) → gW (f_X7_counts_152 k76 N (x + 92) (x + 28 + 15 + o) (iN w) (iN s) cf (iN t)) (jv, u) P := by
  intro m
  induction m with
  | zero =>
    intro t N jv z h1 h2 hC e3 e4 e5 hP
    obtain ⟨N, rfl⟩ : ∃ N', N = N' + 1 := ⟨N - 1, by omega⟩
    have h6 := hC.o6
    rw [f_X7_counts_152, gW_B, rSOi hC.X.nw (by omega), hC.o ho (by decide), eN, gW_ift (by rw [iN_lt (by omega) (by omega)]; omega)]
    exact hP jv cWk.rf hC e4 e5
  | succ m ih =>
    intro t N jv z h1 h2 hC e3 e4 e5 hP
    obtain ⟨N, rfl⟩ : ∃ N', N = N' + 1 := ⟨N - 1, by omega⟩
    have h6 := hC.o6
    have HX := hC.X
    have hb := wB_n (s := s) (t := t) (d := d) (n := iN n) (k := k) hC.W hC.lS (by omega)
    unfold f_X7_counts_152 f_X7_counts_190 f_X7_counts_186 f_X7_goes
    rw [gW_B, rSOi HX.nw (by omega), hC.o ho (by decide), eN, gW_iff (by rw [iN_lt (by omega) (by omega)]; omega), gW_B, rWr0 HX, gW_B, rWa0 HX (by omega), e3 t (by omega)]
    rw [wSl] at hP
    have hHt := hH t (by omega)
    by_cases h0 : H t = 0
    · rw [gW_ift (by rw [h0]; decide), iNp1]
      rw [h0, wAdd_0] at hP
      exact ih (t + 1) N jv z (by omega) (by omega) hC e3 e4 e5 hP
    · rw [gW_iff (by rw [show (0 : Int32) = iN 0 from rfl, iN_le (by omega) (by omega)]; omega)]
      have run : ∀ ct : Int32, ct = iN c → gW (gB (gCk (x + 92) 6) fun _ => gB (gB (gFR (x + 92) 6 5) fun v1 => gB (gFR v1 0 1) fun v2 => gB (gCk v2 2) fun _ => gB (f_X3_behind v2 (x + 28 + 15 + o) (iN s) (iN t) (0 : Int32)) fun r3 => f_X7_goes_19 gN (x + 92) (x + 28 + 15 + o) (iN s) (iN t) ct (iN w) r3 (0 : Int32)) fun _ => f_X7_counts_152 k76 N (x + 92) (x + 28 + 15 + o) (iN w) (iN s) cf (iN t + (1 : Int32))) (jv, u) P := by
        intro ct hct
        subst hct
        rw [gW_B, rWc HX, gW_B, gW_B, rWr5 HX, gW_B, rXr1 HX, gW_B, rSc HX.nw, gW_B]
        refine c_behind hC (hC.sO ho) hs (fun f => ?_)
        rw [hC.o ho (by decide), hC.o ho (by decide), hC.o ho (by decide), eN, hk, hd, hb.1]
        have S2 : Sx x jv (va_up jv (x + 33) f) := Sx.up (by omega)
        have hC2 := hC.fr S2
        have e33 : ∀ a : Nat, a ≠ x + 33 → va_up jv (x + 33) f a = jv a := fun a ha => va_up_ne _ _ ha
        show gW (f_X7_goes_19 gN (x + 92) (x + 28 + 15 + o) (iN s) (iN t) (iN c) (iN w) (iN (wB V pn L d (iN n) k s t)) (iN 0)) _ _
        refine w_goes_19 HX (hC.sO ho) (by omega) hn hs (by omega) hb.2 (by omega) c 0 gN _ z (by omega) (by rw [gN_eq]; omega) (by rw [hC2.o ho (by decide)]; exact eN) (by rw [e33 _ (by omega)]; exact e3 t (by omega)) (fun r hr => by rw [e33 _ (by omega)]; exact e4 r hr) (by rw [e33 _ (by omega)]; exact e5) (fun kv g1 g2 g3 g4 => ?_)
        have ck : cWk x s jv kv := ⟨fun a a1 a2 a3 => by rw [g1 a a2 a3, e33 a a1], fun i hi => by rw [g2 i hi, e33 _ (by omega)]⟩
        rw [iNp1]
        exact ih (t + 1) N kv _ (by omega) (by omega) (hC.fr ck.S) (fun r hr => by rw [ck.1 _ (by omega) (by omega) (by omega)]; exact e3 r hr) g3 g4 (fun lv q1 q2 q3 q4 => hP lv (ck.tr q1) q2 q3 q4)
      rcases hcf with ⟨rfl, rfl⟩ | ⟨rfl, rfl⟩
      · rw [gW_ift rfl]
        exact run 1 rfl
      · rw [gW_iff (by decide)]
        exact run 3 rfl
end CWZ
