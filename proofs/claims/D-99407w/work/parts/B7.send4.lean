/-! OPS: send, joined -/
section SN4
variable {iv jv kv lv j0 : gV} {u v w : gU} {x z b n t : Nat} {V : Nat → Int32} {pn on rm : Nat} {L : gLw}
theorem o_send {b : Nat} (ht : t ≤ 64) {a : Int32} : gOp x z b n t (f_X0_send x a (x + 369)) (f_X8_send (x + 353) a) := by
  intro iv u hR
  obtain ⟨pn, on, rm, L, q, r0, hq, hr0, g3, g4, g5, h1, h2, g6, hC, hM⟩ := hR.all
  have HX := hC.X
  have sO := hR.out
  have hW := h1.2.1
  have h8 := hW.1.2.1
  have h6 := hW.1.2.2.2
  have hT := hR.2.1
  have hrm : rm < 100 := by have := h1.2.2.1; omega
  unfold f_X0_send f_X1_send
  rw [gW_B, rXc HX, gW_B, gW_B, rXc HX, gW_T]
  by_cases ha : 0 ≤ a ∧ a ≤ iN on - 1
  · obtain ⟨o, ho, rfl⟩ := i_get (by omega) ha
    rw [w_oneAt_t hC ho]
    dsimp only
    rw [gW_B, rSOi HX.nw (by omega), h1.1.2.2.1 o ho 3 (by decide)]
    by_cases c2 : iv (x + 354) (41 + 4 * o + 3) = 0
    · rw [gW_ift c2]
      obtain ⟨r, hr⟩ : ∃ r, rO (iv (x + 354)) pn L o true false 0 0 = r := ⟨_, rfl⟩
      have hI := rW_I hW hC.lS hr
      refine c_sendt HX hM.M hC rfl h1.1 ho hrm hq hr0 g3 g5 hT.2.2.1 hr hI (fun j1 j6 v1 hA H1 M1 cS Wn cx kx c71 i7 n8 => ?_)
      show gW (gB (gSI (x + 369) 2 (0 : Int32) _) _) _ _
      rw [gW_B, w_outS (u := v1) (by rw [hA.2.2.2.1]; exact sO), gW_ret]
      have x1 : ∀ c : Nat, c ≠ x + 369 → g_u2 j6 (x + 369) 0 r.2.1 c = j6 c := fun c hc => g_u2_ne _ _ _ hc
      have x2 : g_u2 j6 (x + 369) 0 r.2.1 (x + 369) 0 = r.2.1 := by rw [g_u2_self, va_up_self]
      generalize g_u2 j6 (x + 369) 0 r.2.1 = j7 at x1 x2 ⊢
      have y7 : ∀ c : Nat, (c < x + 28 ∨ x + 49 ≤ c) → c ≠ x → c ≠ x + 98 → c ≠ x + 369 → (c < x + 101 + 21 * r0 ∨ x + 101 + 21 * r0 + 21 ≤ c) → j7 c = iv c := fun c h1 h2 h3 h4 h5 => by rw [x1 c h4, i7 c h1 h2 h3 h5]
      have hM7 : MI x j7 v1 (iv (x + 354)) pn on L := ⟨M1, y7 _ (by omega) (by omega) (by omega) (by omega) (by omega), hW, h2⟩
      have e353 : j7 (x + 353) = iv (x + 353) := y7 _ (by omega) (by omega) (by omega) (by omega) (by omega)
      refine m_sendt hM7 ho c2 hq (by rw [e353]; exact g4) rfl (y7 _ (by omega) (by omega) (by omega) (by omega) (by omega)) (by rw [e353]; exact hT.2.2.2.1) (by rw [e353]; exact hT.2.2.2.2.1) hr hI hrm h1.1.2.2.2.2.1 (fun mv m1 z2 f5 q1 p2 => ?_)
      clear hr hI
      refine ⟨z2, ?_, ?_⟩
      · rw [oE0]
        show mv (x + 369) 0 = r.2.1
        rw [q1 _ (by omega) (by omega) (by omega) (by omega)]; exact x2
      · have s1 : ∀ c : Nat, c ≠ x + 353 → c ≠ x + 354 → c ≠ x + 358 → c < x + 353 → mv c = j6 c := fun c d1 d2 d3 d4 => by rw [q1 c d1 d2 d3 (by omega), x1 c (by omega)]
        have sx : mv x = j6 x := s1 x (by omega) (by omega) (by omega) (by omega)
        refine act_end hR.1 hR.2.1 hR.2.2.1 h1 h2 hq hr0 g6 (hA.kp h8 h6 (by show mv x 12 = _; rw [sx]; exact cx 12 (by decide) (by decide) (by decide)) (by show mv x 13 = _; rw [sx]; exact cx 13 (by decide) (by decide) (by decide)) (fun c d1 d2 => by show mv c = _; rw [s1 c (by omega) (by omega) (by omega) (by omega), c71 c (by omega) (by omega) (by omega)])) m1 ⟨fun k d1 d2 d3 d4 d5 => ?_, ?_, fun k _ => ?_, fun k hk7 => ?_, fun c hc => ?_⟩ (pn' := pn) (on' := on) (rm' := rm + 1) ?_ ?_ (by have := h1.2.2.1; omega) ?_ (fun k hk7 => ?_)
        · show mv x k = _
          rw [sx, kx k d1 d2 d3 d4 d5]
        · show mv (x + 1) 6 = _
          rw [s1 _ (by omega) (by omega) (by omega) (by omega), i7 _ (by omega) (by omega) (by omega) (by omega)]
        · show mv (x + 96) k = _
          rw [s1 _ (by omega) (by omega) (by omega) (by omega), i7 _ (by omega) (by omega) (by omega) (by omega)]
        · show mv (x + 353) k = _
          rw [f5 k (by omega), e353]
        · show mv c = _
          rw [q1 c (by omega) (by omega) (by omega) (by omega), y7 c (by omega) (by omega) (by omega) (by omega) (by omega)]
        · show cSt mv (x + 28) (mv (x + 354)) pn on (rm + 1)
          rw [p2]
          exact cS.fr h8 h6 (fun k _ => by rw [s1 _ (by omega) (by omega) (by omega) (by omega)]) (fun c d1 d2 _ => s1 c (by omega) (by omega) (by omega) (by omega))
        · show WI (mv (x + 354)) pn on
          rw [p2]; exact Wn
        · show mv (x + 28) 8 = _
          rw [s1 _ (by omega) (by omega) (by omega) (by omega), n8]
        · show mv (x + 354) k = _
          rw [p2]
          rcases hk7 with e | e
          · rw [e, se6_lo (by decide) (by decide), se3_o (by omega) (by omega) (by omega) (by omega)]
          · exact se6_hi h8 h6 ho e
    · unfold f_X1_send_18
      rw [gW_iff c2, gW_T]
      refine w_can_f rfl (fun a' jv v hT => ?_)
      show gW (gIf ((13 : Nat) = 19) (gRet 1) (gIf ((13 : Nat) = 13) (gRet 2) gFail)) (jv, v) _
      rw [gW_iff (by decide), gW_ift rfl, gW_ret]
      refine op_thr hR hT (by decide) ?_
      unfold f_X8_send f_X8_send_32 f_X8_send_39
      refine m_z (hM.th hR.nx hT) (fun lv z1 z2 z3 hM2 => ?_)
      have H := hM2.M
      rw [gW_B, rMc H, gW_B, m_noOne_t hM2 ho, gW_B, rMc H, gW_B, m_thr0, gW_ift rfl, gW_B, rMc H, gW_B, w_waits H (by omega), show lv (x + 353 + 1) = iv (x + 354) from hM2.vE, bI_f c2, gW_ift rfl, gW_B, rMc H, gW_B, m_thr1 H, gW_iff (by decide), gW_ret]
      exact m_te z1
  · refine w_oneAt_f hC ha (fun a' jv v hT => ?_)
    show gW (gIf ((19 : Nat) = 19) (gRet 1) (gIf ((19 : Nat) = 13) (gRet 2) gFail)) (jv, v) _
    rw [gW_ift rfl, gW_ret]
    refine op_thr hR hT (by decide) ?_
    unfold f_X8_send f_X8_send_39
    refine m_z (hM.th hR.nx hT) (fun lv z1 z2 z3 hM2 => ?_)
    have H := hM2.M
    rw [gW_B, rMc H, gW_B, m_noOne_f hM2 ha, gW_B, rMc H, gW_B, m_thr1 H, gW_iff (by decide), gW_ret]
    exact m_te z1
end SN4
