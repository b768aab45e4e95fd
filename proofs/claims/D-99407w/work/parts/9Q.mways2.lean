/-! WAYS, in the model: a slot -/
section MWZ
variable {iv jv kv lv : gV} {u v : gU} {x : Nat} {V : Nat → Int32} {pn on : Nat} {L : gLw}
theorem dv3 : ∀ k : Nat, k < 2200 → iN (3 * k) / 3 = iN k := by decide +kernel
theorem w_lays_36 {s n w : Nat} {d k : Int32} (hs : s < 10) (hn : n ≤ 60) {H : Nat → Nat} (hH : ∀ t : Nat, t ≤ 60 → H t * (wT V pn s * w) ≤ 6561) (hw : 0 < w) {P : Unit → g_H → Prop} : ∀ (m t N : Nat) (jv : gV) (z : gWz), t + m = n + 1 → m < N → MI x jv u V pn on L → jv (x + 353) 18 = d → jv (x + 353) 19 = iN n → jv (x + 353) 20 = k → (∀ r : Nat, r ≤ 60 → jv (x + 365) r = iN (H r * (wT V pn s * w))) → (∀ r : Nat, r ≤ 60 → jv (x + 366) r = iN (z.1 r * w)) → jv (x + 367) s = iN z.2 → (∀ kv : gV, mWk x s jv kv → MI x kv u V pn on L → (∀ r : Nat, r ≤ 60 → kv (x + 366) r = iN ((wSl n w (wT V pn s) (wB V pn L d (iN n) k s) H m t z).1 r * w)) → kv (x + 367) s = iN (wSl n w (wT V pn s) (wB V pn L d (iN n) k s) H m t z).2 → gW (f_X8_laysSlot_167 (x + 353)) (kv, u) P) → lS L → gW (f_X8_laysSlot_36 N (x + 353) (iN s) (sIn V pn (iN s)) (iN t)) (jv, u) P := by
  intro m
  induction m with
  | zero =>
    intro t N jv z h1 h2 hM e18 e19 e20 e3 e4 e5 hP hL
    obtain ⟨N, rfl⟩ : ∃ N', N = N' + 1 := ⟨N - 1, by omega⟩
    have H0 := hM.M
    rw [f_X8_laysSlot_36, gW_B, rMi H0, e19, gW_ift (by rw [iN_lt (by omega) (by omega)]; omega)]
    exact hP jv mWk.rf hM e4 e5
  | succ m ih =>
    intro t N jv z h1 h2 hM e18 e19 e20 e3 e4 e5 hP hL
    obtain ⟨N, rfl⟩ : ∃ N', N = N' + 1 := ⟨N - 1, by omega⟩
    have H0 := hM.M
    have h8 := hM.p8
    have hb := wB_n (s := s) (t := t) (d := d) (n := iN n) (k := k) hM.W hL (by omega)
    have hHt := hH t (by omega)
    have e3t : jv (x + 353 + 12) t = iN (H t * (wT V pn s * w)) := e3 t (by omega)
    unfold f_X8_laysSlot_36 f_X8_laysSlot_161
    rw [gW_B, rMi H0, e19, gW_iff (by rw [iN_lt (by omega) (by omega)]; omega), gW_B, rMr11 H0, gW_B, rMa11 H0 (by omega), e3t]
    rw [wSl] at hP
    by_cases h0 : H t = 0
    · rw [gW_ift (by rw [h0, Nat.zero_mul]; rfl), iNp1]
      rw [h0, wAdd_0] at hP
      exact ih (t + 1) N jv z (by omega) (by omega) hM e18 e19 e20 e3 e4 e5 hP hL
    · have hT0 : 0 < wT V pn s := by unfold wT; split <;> decide
      have pos : 0 < H t * (wT V pn s * w) := Nat.mul_pos (by omega) (Nat.mul_pos hT0 hw)
      rw [gW_iff (by rw [show (0 : Int32) = iN 0 from rfl, iN_eq (by omega) (by omega)]; omega)]
      rcases sIn_or V pn (iN s) with o2 | ⟨p, hp, o2, o3⟩
      · have hT : wT V pn s = 1 := by unfold wT; rw [if_pos o2]
        have hbb : bS V pn L d (iN n) k s (iN t) 0 = mX 0 (iN t - V 5) := by unfold bS; rw [if_pos o2]
        rw [hbb] at hb
        have bt : wB V pn L d (iN n) k s t ≤ t := by
          obtain ⟨c, hc, h5⟩ := hM.W.2.2.2.2.2.2.1
          have := hb.1
          rw [h5, mX_sub (by omega) (by omega), iN_eq (by omega) (by omega)] at this
          omega
        unfold f_X8_calmer
        rw [gW_ift o2, gW_B, rMr12 H0, gW_B, rMc H0, gW_B, gW_B, rMr0 H0, gW_B, rMA0_5 H0, hM.vE, gW_B, w_max, hb.1, gW_ret, gW_B, rMa12 H0 (by omega), show jv (x + 353 + 13) _ = iN (z.1 _ * w) from e4 _ (by omega), gW_B, rMr11 H0, gW_B, rMa11 H0 (by omega), e3t, gW_B, iN_add, rMs12 H0 (by omega), iNp1]
        have q1 : mWk x s jv (g_u2 jv (x + 353 + 13) (wB V pn L d (iN n) k s t) (iN (z.1 (wB V pn L d (iN n) k s t) * w + H t * (wT V pn s * w)))) := ⟨fun k _ _ => by rw [g_u2_ne _ _ _ (by omega)], fun a a1 a2 a3 a4 => g_u2_ne _ _ _ (by omega), fun i hi => by rw [g_u2_ne _ _ _ (by omega)]⟩
        have hw1 : wAdd n (wB V pn L d (iN n) k s t) (H t) w (wT V pn s) 0 z = (va_up z.1 (wB V pn L d (iN n) k s t) (z.1 (wB V pn L d (iN n) k s t) + H t), z.2) := by
          rw [hT, wAdd, wAdd, Nat.add_zero, if_pos (by omega)]
        rw [hw1] at hP
        refine ih (t + 1) N _ _ (by omega) (by omega) (hM.fr q1.S.S) (by rw [q1.1 18 (by decide) (by decide)]; exact e18) (by rw [q1.1 19 (by decide) (by decide)]; exact e19) (by rw [q1.1 20 (by decide) (by decide)]; exact e20) (fun r hr => by rw [q1.2.1 _ (by omega) (by omega) (by omega) (by omega)]; exact e3 r hr) (fun r hr => ?_) (by rw [g_u2_ne _ _ _ (by omega)]; exact e5) (fun lv g1 g2 g3 g4 => hP lv (q1.tr g1) g2 g3 g4) hL
        show g_u2 jv (x + 353 + 13) _ _ (x + 353 + 13) r = iN (va_up z.1 _ _ r * w)
        rw [g_u2_self]
        by_cases er : r = wB V pn L d (iN n) k s t
        · rw [er, va_up_self, va_up_self, hT, Nat.one_mul, Nat.add_mul]
        · rw [va_up_ne _ _ er, va_up_ne _ _ er]; exact e4 r hr
      · have o4 : ¬ sIn V pn (iN s) = -1 := fun q => iN_eqm (by omega) (o2.symm.trans q)
        have hT : wT V pn s = 3 := by unfold wT; rw [if_neg o4]
        have hbb : bS V pn L d (iN n) k s (iN t) 0 = iN t + fR V L d (iN n) k p (iN t) := by
          unfold bS
          rw [if_neg o4, o2, iN_c (by omega)]
          generalize fR V L d (iN n) k p (iN t) = y
          exact Int32.add_zero _
        rw [hbb] at hb
        rw [gW_iff o4, gW_B, rMc H0, gW_B, o2]
        refine w_frightsBy H0 (by omega) hM.mL (fun st => ?_)
        rw [hM.vE, e18, e19, e20]
        show gW (f_X8_laysSlot_96 (f_X8_laysSlot_36 N) gN (x + 353) (iN s) (iN p) (iN t) (iN t + fR V L d (iN n) k p (iN t)) (iN 0)) _ _
        rw [hb.1]
        have q0 : mWk x s jv (va_up (g_u2 (g_u2 jv (x + 353) 21 (iN p)) (x + 353) 22 (iN t)) (x + 353 + 8) st) := ⟨fun k k1 k2 => by rw [va_up_ne _ _ (by omega), g_u2_self, va_up_ne _ _ k2, g_u2_self, va_up_ne _ _ k1], fun a a1 a2 a3 a4 => by rw [va_up_ne _ _ (by omega), g_u2_ne _ _ _ a1, g_u2_ne _ _ _ a1], fun i hi => by rw [va_up_ne _ _ (by omega), g_u2_ne _ _ _ (by omega), g_u2_ne _ _ _ (by omega)]⟩
        have q6 : (va_up (g_u2 (g_u2 jv (x + 353) 21 (iN p)) (x + 353) 22 (iN t)) (x + 353 + 8) st) (x + 366) = jv (x + 366) := by rw [va_up_ne _ _ (by omega), g_u2_ne _ _ _ (by omega), g_u2_ne _ _ _ (by omega)]
        have q7 : (va_up (g_u2 (g_u2 jv (x + 353) 21 (iN p)) (x + 353) 22 (iN t)) (x + 353 + 8) st) (x + 367) = jv (x + 367) := by rw [va_up_ne _ _ (by omega), g_u2_ne _ _ _ (by omega), g_u2_ne _ _ _ (by omega)]
        generalize va_up (g_u2 (g_u2 jv (x + 353) 21 (iN p)) (x + 353) 22 (iN t)) (x + 353 + 8) st = j2 at q0 q6 q7 ⊢
        have h3 : H t * (wT V pn s * w) = 3 * (H t * w) := by rw [hT, ← Nat.mul_assoc, Nat.mul_comm (H t) 3, Nat.mul_assoc]
        rw [hT] at hP
        refine w_lays_96 H0 (b := wB V pn L d (iN n) k s t) (h := H t) (w := w) (hv := H t * (wT V pn s * w)) hn hs (show t ≤ 60 by omega) hb.2 (by rw [h3]; exact dv3 _ (by omega)) 3 0 gN j2 z (by omega) (by rw [gN_eq]; omega) (by rw [q0.1 19 (by decide) (by decide)]; exact e19) (by rw [q0.2.1 _ (by omega) (by omega) (by omega) (by omega)]; exact e3 t (by omega)) (fun r hr => by rw [q6]; exact e4 r hr) (by rw [q7]; exact e5) (fun kv g1 g2 g3 => ?_)
        unfold f_X8_laysSlot_161
        rw [iNp1, ← o2]
        have q2 := q0.tr g1
        refine ih (t + 1) N kv _ (by omega) (by omega) (hM.fr q2.S.S) (by rw [q2.1 18 (by decide) (by decide)]; exact e18) (by rw [q2.1 19 (by decide) (by decide)]; exact e19) (by rw [q2.1 20 (by decide) (by decide)]; exact e20) (fun r hr => by rw [q2.2.1 _ (by omega) (by omega) (by omega) (by omega)]; exact e3 r hr) g2 g3 (fun lv p1 p2 p3 p4 => hP lv (q2.tr p1) p2 ?_ ?_) hL
        · rw [hT] at p3; exact p3
        · rw [hT] at p4; exact p4
end MWZ
