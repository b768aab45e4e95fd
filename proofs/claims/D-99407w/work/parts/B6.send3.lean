/-! OPS: send, joined -/
section SN3
variable {iv jv kv lv j0 : gV} {u v w : gU} {x z b n t : Nat} {V : Nat → Int32} {pn on rm : Nat} {L : gLw}
/-- the component's row -/
theorem c_srow (H1 : XS v x) (hW : WI V pn on) (N1 : cSt iv (x + 28) V pn on rm) {o : Nat} {r : gRz} (ho : o < on) (hrm : rm < 100) (C5 : CI x jv v (se3 V pn o r) pn on L) (e14 : jv x 14 = r.2.1) (e15 : jv x 15 = r.1.1) (n28 : ∀ k : Nat, k ≠ 13 → jv (x + 28) k = iv (x + 28) k) (n3 : ∀ p : Nat, p < pn → jv (x + 28 + 7 + p) 3 = iv (x + 28 + 7 + p) 3) (n34 : jv (x + 34) = iv (x + 34)) {sl : Int32} (hsl : sl = (if r.2.1 = -1 then 10 else r.2.1)) {P : (Int32 ⊕ gE) → g_H → Prop} (hP : ∀ kv : gV, cSt kv (x + 28) (se6 V pn o rm r) pn on (rm + 1) → (∀ c : Nat, c ≠ x + 28 → c ≠ x + 34 → kv c = jv c) → (∀ k : Nat, k ≠ 14 → kv (x + 28) k = jv (x + 28) k) → P (.inl r.2.1) (kv, v)) : gW (f_X1_send_87 x (x + 28) (iN o) sl) (jv, v) P := by
  unfold f_X1_send_87
  rw [gW_B, rXi H1, e15, gW_B, rSc H1.nw, gW_B]
  refine c_writes H1.nw hrm (by rw [n28 14 (by decide)]; exact N1.1.2.2.2.2.2.2.2) (fun j6 w1 w2 w3 w4 w5 w6 w7 => ?_)
  rw [gW_B, rXi H1, w1 x (by omega) (by omega), e14, gW_ret]
  exact hP j6 (se_cSt hW ho N1 C5 hrm n28 n3 n34 (fun c h1 h2 h3 => w1 c (by omega) h3) w2 w3 w4 w5 (w6.trans hsl) w7) w1 (fun k hk => by rw [w2, va_up_ne _ _ hk])
/-- the component sends -/
theorem c_sendt (HX : XS u x) (HM : MS u (x + 353)) (hC : CI x iv u V pn on L) (hV : iv (x + 354) = V) (h1 : cSt iv (x + 28) V pn on rm) {o q r0 : Nat} {r : gRz} (ho : o < on) (hrm : rm < 100) (hq : q ≤ 12) (hr0 : r0 < 12) (g3 : iv x 12 = iN q) (g5 : iv x 13 = iN r0) (h17 : iv x 17 = -1) (hr : rO V pn L o true false 0 0 = r) (hI : rdI r) {P : (Int32 ⊕ gE) → g_H → Prop} (hP : ∀ (j1 jv : gV) (v : gU), AB x r0 q iv u pn on rm j1 v → XS v x → MS v (x + 353) → cSt jv (x + 28) (se6 V pn o rm r) pn on (rm + 1) → WI (se6 V pn o rm r) pn on → (∀ k : Nat, k ≠ 14 → k ≠ 15 → k ≠ 16 → jv x k = j1 x k) → (∀ k : Nat, k ≠ 12 → k ≠ 13 → k ≠ 14 → k ≠ 15 → k ≠ 16 → jv x k = iv x k) → (∀ c : Nat, (c < x + 28 ∨ x + 49 ≤ c) → c ≠ x → c ≠ x + 98 → jv c = j1 c) → (∀ c : Nat, (c < x + 28 ∨ x + 49 ≤ c) → c ≠ x → c ≠ x + 98 → (c < x + 101 + 21 * r0 ∨ x + 101 + 21 * r0 + 21 ≤ c) → jv c = iv c) → jv (x + 28) 8 = iv (x + 28) 8 → P (.inl r.2.1) (jv, v)) : gW (f_X1_send_18 x (iN o) (x + 28 + 15 + o) (1 : Int32)) (iv, u) P := by
  have hW := hC.W
  have h8 := hC.p8
  have h6 := hC.o6
  unfold f_X1_send_18
  rw [gW_T, w_can_t rfl]
  dsimp only
  rw [gW_B, rXc HX, gW_B]
  refine c_rem HX HM (by rw [hV]; exact h1) (by rw [hV]; exact hW) hq hr0 g3 g5 (fun j1 v1 hA hk hj => ?_)
  have H1 := hA.2.1
  have M1 := hA.2.2.1
  have N1 := nowC h1 hW hr0 hj
  have C1 := hC.rem hA hr0 hk hj
  have h17 : j1 x 17 = -1 := by rw [hk 17 (by decide) (by decide)]; exact h17
  obtain ⟨cc, cc1, cc2⟩ := hI.1
  rw [gW_B, rXc H1, gW_B]
  refine c_drawn C1 h17 ho hr (fun j2 hB C2 => ?_)
  clear hr
  obtain ⟨b1, b2, b3, b4, b5, b6⟩ := hB
  rw [gW_B, rXc H1, gW_B]
  refine c_wearsOut C2 hI.2.1 b4 b5 (fun j3 a1 a2 C3 => ?_)
  have W1 := hW.sd r.1.2.2.1
  obtain ⟨kq, kq1, kq2⟩ := kn_n W1 ho cc1
  have ek : (laS (va_up V 8 r.1.2.2.1) r.1.2.1 r.1.2.2.2 pn) (41 + 4 * o + 2) = (va_up V 8 r.1.2.2.1) (41 + 4 * o + 2) := la_o pn _ (by omega)
  have e16 : j3 x 16 = r.1.2.1 := by rw [a1 x (by omega)]; exact b4
  have e14 : j3 x 14 = r.2.1 := by rw [a1 x (by omega)]; exact b2
  have e15 : j3 x 15 = r.1.1 := by rw [a1 x (by omega)]; exact b3
  rw [gW_B, rSOi H1.nw (by omega), C3.o ho (by decide), ek, gW_B, rXi H1, e16, cc2, kq2, gW_B, rSOp H1.nw (by omega), gW_B, rXi H1, g_u2_ne _ _ _ (by omega), e14]
  have C4 := (C3.on1 (f := 2) (y := iN kq) ho (Or.inl rfl) ⟨fun _ => ⟨kq, kq1, rfl⟩, fun h => absurd h (by decide)⟩).re (V' := laV (va_up V 8 r.1.2.2.1) pn r.1.2.1 r.1.2.2.2 o) (by unfold laV; rw [cc2, kq2])
  have d1 : ∀ c : Nat, c ≠ x + 28 + 15 + o → g_u2 j3 (x + 28 + 15 + o) 2 (iN kq) c = j3 c := fun c hc => g_u2_ne _ _ _ hc
  generalize g_u2 j3 (x + 28 + 15 + o) 2 (iN kq) = j4 at C4 d1 ⊢
  have go : ∀ st : Int32, st = (if r.2.1 = -1 then 2 else 1) → gW (f_X1_send_62 x (iN o) (x + 28 + 15 + o) st) (j4, v1) P := by
    intro st hst
    have hst3 : ∃ k : Nat, k < 4 ∧ st = iN k := by
      rw [hst]
      split
      · exact ⟨2, by decide, rfl⟩
      · exact ⟨1, by decide, rfl⟩
    unfold f_X1_send_62
    rw [gW_B, rSOp H1.nw (by omega), gW_B, rXr1 H1, gW_B, rXi H1, g_u2_ne _ _ _ (by omega), d1 x (by omega), e14]
    have C5 := (C4.on1 (f := 3) (y := st) ho (Or.inr rfl) ⟨fun h => absurd h (by decide), fun _ => hst3⟩).re (V' := se3 V pn o r) (by unfold se3; rw [hst])
    have f1 : ∀ c : Nat, c ≠ x + 28 + 15 + o → g_u2 j4 (x + 28 + 15 + o) 3 st c = j3 c := fun c hc => by rw [g_u2_ne _ _ _ hc, d1 c hc]
    generalize g_u2 j4 (x + 28 + 15 + o) 3 st = j5 at C5 f1 ⊢
    clear d1 C4
    have n28 : ∀ k : Nat, k ≠ 13 → j5 (x + 28) k = j1 (x + 28) k := fun k hk1 => by
      rw [f1 _ (by omega), a1 _ (by omega), b1.a (by omega), g_u2_self, va_up_ne _ _ hk1]
    have row : ∀ sl : Int32, sl = (if r.2.1 = -1 then 10 else r.2.1) → gW (f_X1_send_87 x (x + 28) (iN o) sl) (j5, v1) P := by
      intro sl hsl
      refine c_srow H1 hW N1 ho hrm C5 ((congrFun (f1 x (by omega)) 14).trans e14) ((congrFun (f1 x (by omega)) 15).trans e15) n28 (fun p hp => by rw [f1 _ (by omega), a2 _ 3 (by decide), b6 _ (by omega) (by omega) (by omega) (by omega)]) (by rw [f1 _ (by omega), a1 _ (by omega), b6 _ (by omega) (by omega) (by omega) (by omega)]) hsl (fun j6 cS w1 w2 => ?_)
      have cx : ∀ k : Nat, k ≠ 14 → k ≠ 15 → k ≠ 16 → j6 x k = j1 x k := fun k h1 h2 h3 => by
        rw [w1 x (by omega) (by omega), f1 x (by omega), a1 x (by omega), b1.1 k h1 h2 h3, g_u2_ne _ _ _ (by omega)]
      have c71 : ∀ c : Nat, (c < x + 28 ∨ x + 49 ≤ c) → c ≠ x → c ≠ x + 98 → j6 c = j1 c := fun c h1 h2 h3 => by
        rw [w1 c (by omega) (by omega), f1 c (by omega), a1 c (by omega), b6 c h2 (by omega) (by omega) h3]
      exact hP j1 j6 v1 hA H1 M1 cS (C5.W.lg (fun k k1 k2 _ => se6_lo k1 k2)) cx (fun k d1 d2 d3 d4 d5 => by rw [cx k d3 d4 d5, hk k d1 d2]) c71 (fun c h1 h2 h3 h4 => by rw [c71 c h1 h2 h3, hj c h2 h4]) (by rw [w2 8 (by decide), n28 8 (by decide), hj _ (by omega) (by omega)])
    by_cases cs : r.2.1 = -1
    · rw [gW_ift cs]
      exact row 10 (by rw [if_pos cs])
    · rw [gW_iff cs, gW_B, rXi H1, f1 x (by omega), e14]
      exact row _ (by rw [if_neg cs])
  by_cases cs : r.2.1 = -1
  · rw [gW_ift cs]
    exact go 2 (by rw [if_pos cs])
  · rw [gW_iff cs]
    exact go 1 (by rw [if_neg cs])
end SN3
