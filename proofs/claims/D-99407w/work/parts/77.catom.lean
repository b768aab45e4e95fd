/-! THE COMPONENT'S ATOMS AND ROWS, WHOLE -/
section CT
variable {iv jv kv lv : gV} {u v w y : gU} {x : Nat} {h : g_H} {B : Nat → Int32} {e : Nat}
/-- only the reader's place and depth differ -/
def Nr (x : Nat) (iv jv : gV) : Prop := (∀ k : Nat, k ≠ 8 → k ≠ 9 → jv (x + 1) k = iv (x + 1) k) ∧ ∀ a : Nat, a ≠ x + 1 → jv a = iv a
theorem Nr.pc (h : PC x iv u B e) (hn : Nr x iv jv) : PC x jv u B e := h.fr Ux.rf (hn.1 7 (by decide) (by decide)) (hn.2 _ (by omega)) (fun a ha => hn.2 a (by omega))
theorem Nr.qf {f c : Nat} (hn : Nr x iv jv) (h : QF x jv u kv w f c) : QF x iv u kv w f c := ⟨h.1, fun k a b => (h.2.1 k a b).trans (hn.1 k a b), fun a a1 a2 a3 => (h.2.2.1 a a1 a2 a3).trans (hn.2 a a1), h.2.2.2⟩
theorem Nr.qs {p q c : Nat} (hn : Nr x iv jv) (h : QS x jv u kv w p c) (hm : Nr x kv lv) (h8 : lv (x + 1) 8 = iN q) (h9 : lv (x + 1) 9 = iv (x + 1) 9) (hx : x + 370 ≤ u.2.2.2.1) : QS x iv u lv w q c := by
  obtain ⟨a1, a2, a3, a4⟩ := h
  refine ⟨h8, fun k hk => ?_, fun a b1 b2 => (hm.2 a b1).trans ((a3 a b1 b2).trans (hn.2 a b1)), a4⟩
  by_cases e9 : k = 9
  · rw [e9]; exact h9
  · rw [hm.1 k hk e9, a2 k hk, hn.1 k hk e9]
theorem Nr.rf : Nr x iv iv := ⟨fun _ _ _ => rfl, fun _ _ => rfl⟩
theorem Nr.tr (h : Nr x iv jv) (g : Nr x jv kv) : Nr x iv kv := ⟨fun k a b => (g.1 k a b).trans (h.1 k a b), fun a b => (g.2 a b).trans (h.2 a b)⟩
theorem Nr.att {p : Nat} : Nr x iv (aT x iv p) := ⟨fun k h _ => aT_k h, fun a h => aT_a h⟩
theorem Nr.u9 {z : Int32} : Nr x iv (g_u2 iv (x + 1) 9 z) := ⟨fun k _ h => by rw [g_u2_self, va_up_ne _ _ h], fun a h => g_u2_ne _ _ _ h⟩
theorem cdD.nr {d T c : Nat} {C : sCs} (h : cdD d T jv w c C) (hn : Nr x jv kv) (hT : x + 2 ≤ T) : cdD d T kv w c C := h.kp (fun a h1 _ => ⟨hn.2 a (by omega), rfl, rfl⟩) (Nat.le_refl _)
/-- the end of an atom: up again -/
theorem w_atom_120 (H : XS u x) {R1 : Nat → Int32 → gM (Nat ⊕ gE)} {R2 : Nat → gM (Nat ⊕ gE)} {c dp q : Nat} (h8 : iv (x + 1) 8 = iN q) (h9 : iv (x + 1) 9 = iN (dp + 1)) {P : Nat ⊕ gE → g_H → Prop} (hP : ∀ lv : gV, Nr x iv lv → lv (x + 1) 8 = iN q → lv (x + 1) 9 = iN dp → P (.inl c) (lv, u)) : gW (f_X2_atom_120 R1 R2 (x + 1) c) (iv, u) P := by
  unfold f_X2_atom_120
  rw [gW_B, rQi H, h9, gW_B, rQp H, gW_ret, show (1 : Int32) = iN 1 from rfl, iN_sub (by omega)]
  exact hP _ Nr.u9 (by rw [g_u2_self, va_up_ne _ _ (by decide)]; exact h8) (by rw [g_u2_self, va_up_self]; rfl)
theorem w_atom {R1 : Nat → Int32 → gM (Nat ⊕ gE)} {R2 : Nat → gM (Nat ⊕ gE)} {d dp r : Nat} (hdp : dp + (r + 1) = 6) (hrow : okR x B e (d + 2) (dp + 1) 1 6 (pCnd B e (pAtm B e r)) (R1 (x + 1) 0)) (hatm : okR x B e d (dp + 1) 3 4 (pAtm B e r) (R2 (x + 1))) : okR x B e (d + 2) dp 3 4 (pAtm B e (r + 1)) (f_X2_atom R1 R2 (x + 1)) := by
  intro iv u p h hat hp h9 P h1 h2
  have H := h.X
  have hx := h.2.2.2.2.2
  have b1 := kB_b (B := B) hp
  have b2 := kW_b (B := B) hp
  rw [pAtm] at h1 h2
  dsimp only at h1 h2
  unfold f_X2_atom
  rw [gW_B, rQc H, ← at_id hat, gW_B, w_sign h hp, gW_B, rQi H, aT_8, gW_B, gW_Tx, gW_B, rQc H, gW_B, w_takesT h (i := 18) (by decide) b1.2, tk_kB hp]
  unfold f_X2_atom_32
  by_cases hp40 : isS B e p 40 = true
  · rw [if_pos hp40] at h1 h2
    have hs := isS_b hp hp40
    have nt : ¬ tk B e (g_byt.getD 18 []) p = true := by
      intro z
      have l := tk_b hp (by decide) z
      have l2 := tk_l z
      have hl : (g_byt.getD 18 []).length = 3 := by decide
      have := (kW_s (B := B) hp).2.2 (kB B e p) (Nat.le_refl _) (by omega)
      unfold isLe at this
      rw [decide_eq_true_eq, hs.2] at this
      exact absurd this (by decide)
    have e40 : sgn B e p = 40 := (sgn_is h.b (k := 40) (by decide)).mpr hp40
    rw [bI_f nt, gW_ift rfl, gW_ift e40, kT_f (by rw [tk_kB hp]; exact nt), kBB hp, gW_B, rQi H, aT_9, h9, gW_iff (by rw [show (6 : Int32) = iN 6 from rfl, iN_eq (by omega) (by omega)]; omega)]
    unfold f_X2_atom_46
    rw [gW_B, rQi H, aT_9, h9, gW_B, rQp H, iNp1, gW_ift rfl, gW_B, rQi H]
    have g8 : g_u2 (aT x iv (kB B e p)) (x + 1) 9 (iN (dp + 1)) (x + 1) 8 = iN (kB B e p) := by rw [g_u2_self, va_up_ne _ _ (by decide), aT_8]
    rw [g8, gW_B, rQp H, iNp1]
    have hn : Nr x iv (g_u2 (g_u2 (aT x iv (kB B e p)) (x + 1) 9 (iN (dp + 1))) (x + 1) 8 (iN (kB B e p + 1))) := (Nr.att.tr Nr.u9).tr Nr.att
    have k8 : g_u2 (g_u2 (aT x iv (kB B e p)) (x + 1) 9 (iN (dp + 1))) (x + 1) 8 (iN (kB B e p + 1)) (x + 1) 8 = iN (kB B e p + 1) := by rw [g_u2_self, va_up_self]
    have k9 : g_u2 (g_u2 (aT x iv (kB B e p)) (x + 1) 9 (iN (dp + 1))) (x + 1) 8 (iN (kB B e p + 1)) (x + 1) 9 = iN (dp + 1) := by rw [g_u2_self, va_up_ne _ _ (by decide), g_u2_self, va_up_self]
    generalize g_u2 (g_u2 (aT x iv (kB B e p)) (x + 1) 9 (iN (dp + 1))) (x + 1) 8 (iN (kB B e p + 1)) = jv at hn k8 k9 ⊢
    have hj := hn.pc h
    rw [gW_B, rQc H, gW_T]
    refine hrow jv u (kB B e p + 1) hj k8 (by omega) k9 _ (fun C q hr kv w c n q1 q2 q3 => ?_) (fun f hr kv w n q1 q2 => ?_)
    · rw [hr] at h1 h2
      dsimp only at h1 h2
      have hq := ((okA.atm r).row (al := true)).row (al := false) _ _ _ (by omega) hr
      have hk := hj.qs q1
      have HK := hk.X
      have bq := kB_b (B := B) hq.2
      show gW (gB (gCk (x + 1) 1) _) (kv, w) P
      rw [gW_B, rQc HK, ← at_id q1.1, gW_B, w_sign hk hq.2]
      by_cases z : isS B e q 41 = true
      · have hz := isS_b hq.2 z
        rw [if_pos z] at h1
        rw [gW_ift (show sgn B e q = 41 from (sgn_is h.b (k := 41) (by decide)).mpr z)]
        unfold f_X2_atom_110
        rw [gW_B, rQi HK, aT_8, gW_B, rQp HK, iNp1, aT_u]
        refine w_atom_120 HK (q := kB B e q + 1) (dp := dp) aT_8 (by rw [aT_9, q1.2.1 9 (by decide)]; exact k9) (fun lv l1 l2 l3 => ?_)
        have l4 : Nr x kv lv := Nr.att.tr l1
        exact h1 _ _ rfl lv w c n (hn.qs q1 l4 l2 (by rw [l3, h9]) hx) (by omega) (q3.nr l4 (by omega))
      · rw [if_neg z] at h2
        rw [gW_iff (show ¬ sgn B e q = 41 from fun y => z ((sgn_is h.b (k := 41) (by decide)).mp y)), gW_B, rQi HK, aT_8, w_failT hk.att]
        exact h2 _ rfl _ w n (hn.qf q1.toF) (by omega)
    · rw [hr] at h2
      exact h2 f rfl kv w n (hn.qf q1) (by omega)
  · rw [if_neg hp40] at h1 h2
    have e40 : ¬ sgn B e p = 40 := fun z => hp40 ((sgn_is h.b (k := 40) (by decide)).mp z)
    by_cases nt : tk B e (g_byt.getD 18 []) p = true
    · rw [if_pos nt] at h1 h2
      have l := tk_b hp (by decide) nt
      have hl : (g_byt.getD 18 []).length = 3 := by decide
      rw [bI_t nt, gW_iff (by decide), kT_t (by rw [tk_kB hp]; exact nt), kWB hp, gW_B, rQi H, aT_9, h9, gW_iff (by rw [show (6 : Int32) = iN 6 from rfl, iN_eq (by omega) (by omega)]; omega)]
      unfold f_X2_atom_46 gNew
      rw [gW_B, rQi H, aT_9, h9, gW_B, rQp H, iNp1, gW_iff (by decide), gW_B]
      have hn : Nr x iv (g_u2 (aT x iv (kW B e p)) (x + 1) 9 (iN (dp + 1))) := Nr.att.tr Nr.u9
      have k8 : g_u2 (aT x iv (kW B e p)) (x + 1) 9 (iN (dp + 1)) (x + 1) 8 = iN (kW B e p) := by rw [g_u2_self, va_up_ne _ _ (by decide), aT_8]
      have k9 : g_u2 (aT x iv (kW B e p)) (x + 1) 9 (iN (dp + 1)) (x + 1) 9 = iN (dp + 1) := by rw [g_u2_self, va_up_self]
      generalize g_u2 (aT x iv (kW B e p)) (x + 1) 9 (iN (dp + 1)) = jv at hn k8 k9 ⊢
      have hj := hn.pc h
      refine w_al (fun j1 w1 A1 => ?_)
      have q1 := A1.qs (by decide) k8 hx
      have hj1 := hj.qs q1
      obtain ⟨a1, a2, a3, a4, a5, a6, a7⟩ := A1
      rw [gW_B, rQc hj1.X, gW_T]
      refine hatm j1 w1 (kW B e p) hj1 q1.1 b2.2 (by rw [q1.2.1 9 (by decide)]; exact k9) _ (fun C q hr kv y c n s1 s2 s3 => ?_) (fun f hr kv y n s1 s2 => ?_)
      · rw [hr] at h1
        have hq := okA.atm r _ _ _ b2.2 hr
        have hk := hj1.qs s1
        have nle := s1.2.2.2.1.2.2
        unfold f_X13_init
        show gW (gB (gB (gPQ u.2.2.2.1 12 0 (some c)) fun _ => gRet ()) _) (kv, y) P
        have sc : y.1 u.2.2.2.1 = some (.inr 12) := by rw [(s1.2.2.2.1.1 _ (by omega)).1]; exact a1
        rw [gW_B, gW_B, gW_PQ sc, gW_ret]
        have t1 : QS x jv u kv (y.1, g_u2 y.2.1 u.2.2.2.1 0 (some c), y.2.2) q (1 + n) := (q1.tr s1).new (fun b hb => ⟨rfl, rfl, g_u2_ne _ _ _ (by omega)⟩) (by omega) rfl
        have hk2 := hj.qs t1
        refine w_atom_120 hk2.X (q := q) (dp := dp) t1.1 (by rw [t1.2.1 9 (by decide)]; exact k9) (fun lv l1 l2 l3 => ?_)
        refine h1 _ _ rfl lv _ _ (1 + n) (hn.qs t1 l1 l2 (by rw [l3, h9]) hx) (by omega) ?_
        have c1 : cdD d u.2.2.2.1 kv (y.1, g_u2 y.2.1 u.2.2.2.1 0 (some c), y.2.2) c C := by
          have c0 := s3.kp (kv := kv) (y := (y.1, g_u2 y.2.1 u.2.2.2.1 0 (some c), y.2.2)) (fun b hb hb' => ⟨rfl, rfl, g_u2_ne _ _ _ (by omega)⟩) (Nat.le_refl _)
          exact c0.lo (by omega)
        have c2 := cd_not (jv := kv) (w := (y.1, g_u2 y.2.1 u.2.2.2.1 0 (some c), y.2.2)) (d := d) (T := u.2.2.2.1) (c := u.2.2.2.1) (c' := c) (C := C) (Nat.le_refl _) (show _ < y.2.2.2.1 by omega) sc (show g_u2 y.2.1 u.2.2.2.1 0 (some c) u.2.2.2.1 0 = some c by rw [g_u2_self, va_up_self]) c1
        exact (c2.up (by omega)).nr l1 (by omega)
      · rw [hr] at h2
        exact h2 f rfl kv y _ (hn.qf (q1.trF s1)) (by omega)
    · rw [if_neg nt] at h1 h2
      rw [bI_f nt, gW_ift rfl, gW_iff e40, kT_f (by rw [tk_kB hp]; exact nt), kBB hp, gW_B, rQc H, gW_T]
      refine w_tag dp (aT x iv (kB B e p)) u (kB B e p) h.att aT_8 b1.2 (by rw [aT_9]; exact h9) _ (fun C q hr jv w c n q1 q2 q3 => ?_) (fun f hr jv w n q1 q2 => ?_)
      · rw [pTag_kB hp] at hr
        show gW (gRet (.inl c)) (jv, w) P
        rw [gW_ret]
        exact h1 C q hr jv w c _ (QS.att.tr q1) (by omega) (q3.up (by omega))
      · rw [pTag_kB hp] at hr
        exact h2 f hr jv w _ (QS.att.trF q1) (by omega)
theorem w_atom0 {R1 : Nat → Int32 → gM (Nat ⊕ gE)} {R2 : Nat → gM (Nat ⊕ gE)} : okR x B e 1 6 3 4 (pAtm B e 0) (f_X2_atom R1 R2 (x + 1)) := by
  intro iv u p h hat hp h9 P h1 h2
  have H := h.X
  have hx := h.2.2.2.2.2
  have b1 := kB_b (B := B) hp
  have b2 := kW_b (B := B) hp
  rw [pAtm] at h1 h2
  dsimp only at h1 h2
  unfold f_X2_atom
  rw [gW_B, rQc H, ← at_id hat, gW_B, w_sign h hp, gW_B, rQi H, aT_8, gW_B, gW_Tx, gW_B, rQc H, gW_B, w_takesT h (i := 18) (by decide) b1.2, tk_kB hp]
  unfold f_X2_atom_32
  have e40 : sgn B e p = 40 ↔ isS B e p 40 = true := sgn_is h.b (k := 40) (by decide)
  by_cases nt : tk B e (g_byt.getD 18 []) p = true
  · rw [if_pos (Or.inr nt)] at h2
    rw [bI_t nt, gW_iff (by decide), gW_B, rQi H, aT_9, h9, gW_ift (by decide), w_failT h.att]
    exact h2 _ rfl _ u 0 QF.att (by omega)
  · rw [bI_f nt, gW_ift rfl]
    by_cases hp40 : isS B e p 40 = true
    · rw [if_pos (Or.inl hp40)] at h2
      rw [gW_ift (e40.mpr hp40), gW_B, rQi H, aT_9, h9, gW_ift (by decide), w_failT h.att]
      exact h2 _ rfl _ u 0 QF.att (by omega)
    · rw [if_neg (fun z => z.elim hp40 nt)] at h1 h2
      rw [gW_iff (fun z => hp40 (e40.mp z)), kT_f (by rw [tk_kB hp]; exact nt), kBB hp, gW_B, rQc H, gW_T]
      refine w_tag 6 (aT x iv (kB B e p)) u (kB B e p) h.att aT_8 b1.2 (by rw [aT_9]; exact h9) _ (fun C q hr jv w c n q1 q2 q3 => ?_) (fun f hr jv w n q1 q2 => ?_)
      · rw [pTag_kB hp] at hr
        show gW (gRet (.inl c)) (jv, w) P
        rw [gW_ret]
        exact h1 C q hr jv w c _ (QS.att.tr q1) (by omega) q3
      · rw [pTag_kB hp] at hr
        exact h2 f hr jv w _ (QS.att.trF q1) (by omega)
end CT
