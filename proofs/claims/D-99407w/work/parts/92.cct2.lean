/-! THE COMPONENT READS A COURT: an accused, a line, all -/
section CD
variable {iv jv kv lv : gV} {u v w y : gU} {x : Nat} {B : Nat → Int32} {e : Nat} {W : Nat → Int32} {pn on rm : Nat}
theorem sh_n : ∀ k : Nat, k < 8 → ∃ n : Nat, n < 256 ∧ (1 : Int32) <<< (iN k &&& 31) = iN n := by decide +kernel
theorem w_addOne_98 (h : PC x kv u B e) (ho6 : on < 6) {q : Nat} {z : Int32} {P : Unit ⊕ gE → g_H → Prop} (hP : P (.inl ()) (aT x (g_u2 (g_u2 (g_u2 kv (x + 6 + 15 + on) 2 z) (x + 6 + 15 + on) 3 0) (x + 6) 7 (kv (x + 6) 7 + 1)) q, u)) : gW (f_X2_addOne_98 (x + 1) (x + 6 + 15 + on) (x + 6 + 15 + on) z) (aT x kv q, u) P := by
  have H := h.X
  unfold f_X2_addOne_98
  rw [gW_B, rSOp H.dr ho6, aT_w (by omega), gW_B, rSOp H.dr ho6, aT_w (by omega), gW_B, rQd H, gW_B, rSi H.dr, aT_a (show x + 6 ≠ x + 1 by omega), g_u2_ne _ _ _ (show x + 6 ≠ x + 6 + 15 + on by omega), g_u2_ne _ _ _ (show x + 6 ≠ x + 6 + 15 + on by omega), gW_B, rSp H.dr, gW_ret, aT_w (by omega)]
  exact hP
theorem w_addOne_65 (h : PC x jv u B e) (S : cSt jv (x + 6) W pn on rm) (hW : WI W pn on) (ho6 : on < 6) {d nv q : Nat} (hd : d < 64) (hnv : 1 ≤ nv ∧ nv ≤ 60) (hq : q ≤ e) (ck : CK x jv kv)
    (kP : kv (x + 6 + 15 + on) 1 = iN nv) (ke : ∀ a : Nat, a ≠ x + 6 + 15 + on → kv a = jv a) {P : Unit ⊕ gE → g_H → Prop}
    (h1 : ∀ W' r, pAc2 B e W pn on (iN nv) (iN d) q = .inl ((W', pn, on + 1), r) → q ≤ r → r ≤ e → ∀ lv : gV, CK x jv lv → cSt lv (x + 6) W' pn (on + 1) rm → WI W' pn (on + 1) → P (.inl ()) (aT x lv r, u))
    (h2 : ∀ g, pAc2 B e W pn on (iN nv) (iN d) q = .inr g → ∀ lv r, CK x jv lv → P (.inr (5, x + 27)) (pF x lv r g, u)) : gW (f_X2_addOne_65 (x + 1) (x + 6 + 15 + on) (x + 6 + 15 + on) (iN d)) (aT x kv q, u) P := by
  have hk := h.ck ck
  have H := h.X
  have h8 := hW.1.2.1
  have bq := kB_b (B := B) hq
  have bw := kW_b (B := B) hq
  have ck1 : CK x jv (g_u2 kv (x + 6 + 15 + on) 0 (iN d)) := ck.up (by omega) (fun q => by omega)
  have kP0 : g_u2 kv (x + 6 + 15 + on) 0 (iN d) (x + 6 + 15 + on) 0 = iN d := by rw [g_u2_self, va_up_self]
  have kP1 : g_u2 kv (x + 6 + 15 + on) 0 (iN d) (x + 6 + 15 + on) 1 = iN nv := by rw [g_u2_self, va_up_ne _ _ (by decide)]; exact kP
  have ke1 : ∀ a : Nat, a ≠ x + 6 + 15 + on → g_u2 kv (x + 6 + 15 + on) 0 (iN d) a = jv a := fun a ha => by rw [g_u2_ne _ _ _ ha]; exact ke a ha
  unfold f_X2_addOne_65
  rw [gW_B, rSOp H.dr ho6, aT_w (by omega)]
  generalize g_u2 kv (x + 6 + 15 + on) 0 (iN d) = lv at ck1 kP0 kP1 ke1 ⊢
  have hl := h.ck ck1
  have fin : ∀ (kn : Nat) (r : Nat), kn < 256 → q ≤ r → r ≤ e → pAc2 B e W pn on (iN nv) (iN d) q = .inl ((addO W on (iN d) (iN nv) (iN kn), pn, on + 1), r) → gW (f_X2_addOne_98 (x + 1) (x + 6 + 15 + on) (x + 6 + 15 + on) (iN kn)) (aT x lv r, u) P := by
    intro kn r hkn r1 r2 hr
    have e7 : lv (x + 6) 7 = iN on := by rw [ke1 _ (by omega), S.1.2.1]; exact hW.1.2.2.1
    refine w_addOne_98 hl ho6 (h1 _ r hr r1 r2 _ (((ck1.up (by omega) (fun q => by omega)).up (by omega) (fun q => by omega)).up (by omega) (fun _ => by decide)) (S.moO hW ho6 (fun k k1 k2 => ?_) ?_ ⟨?_, ?_, ?_, ?_⟩ (fun a a1 a2 a3 a4 => ?_)) (hW.moO ho6 hd hnv hkn))
    · rw [g_u2_self, va_up_ne _ _ k1, g_u2_ne _ _ _ (by omega), g_u2_ne _ _ _ (by omega), ke1 _ (by omega)]
    · rw [g_u2_self, va_up_self, e7]; exact iNp1 on
    · rw [g_u2_ne _ _ _ (by omega), g_u2_self, va_up_ne _ _ (by decide), g_u2_self, va_up_ne _ _ (by decide)]; exact kP0
    · rw [g_u2_ne _ _ _ (by omega), g_u2_self, va_up_ne _ _ (by decide), g_u2_self, va_up_ne _ _ (by decide)]; exact kP1
    · rw [g_u2_ne _ _ _ (by omega), g_u2_self, va_up_ne _ _ (by decide), g_u2_self, va_up_self]
    · rw [g_u2_ne _ _ _ (by omega), g_u2_self, va_up_self]
    · rw [g_u2_ne _ _ _ (by omega), g_u2_ne _ _ _ a4, g_u2_ne _ _ _ a4, ke1 _ a4]
  rw [gW_B, gW_Tx, gW_B, rQc H, gW_B, w_takesT hl (i := 6) (by decide) hq]
  by_cases t6 : tk B e (g_byt.getD 6 []) q = true
  · have e6 : lv (x + 6) 6 = iN pn := by rw [ke1 _ (by omega), S.1.1]; exact hW.1.1
    rw [bI_t t6, gW_iff (by decide), kT_t t6, gW_B, rQd H, gW_B, rSi H.dr, aT_a (show x + 6 ≠ x + 1 by omega), e6, gW_B, rQc H, gW_T]
    refine w_number hl bw.2 (fun v r hn => ?_) (fun f hn r => ?_)
    · obtain ⟨n1, n2, n3, n4, k, n5, n6⟩ := pNum_n bw.2 hn
      subst n6
      have hk8 : k < 8 := by
        have h0 : pn ≠ 0 := by
          intro q
          rw [q] at n4
          have : iN k ≤ -1 := n4
          have h3 : ¬ (0 : Int32) ≤ -1 := by decide
          exact h3 (Int32.le_trans n3 this)
        rw [show (1 : Int32) = iN 1 from rfl, iN_sub (by omega), iN_le (by omega) (by omega)] at n4
        omega
      obtain ⟨n, hn1, hn2⟩ := sh_n k hk8
      show gW (f_X2_addOne_98 _ _ _ ((1 : Int32) <<< (iN k &&& 31))) _ P
      rw [hn2]
      refine fin n r hn1 (by omega) n2 ?_
      unfold pAc2
      rw [if_pos t6, hn]
      show Sum.inl ((addO W on (iN d) (iN nv) ((1 : Int32) <<< (iN k &&& 31)), pn, on + 1), r) = _
      rw [hn2]
    · refine h2 f ?_ lv r ck1
      unfold pAc2
      rw [if_pos t6, hn]
  · rw [bI_f t6, gW_ift rfl, kT_f t6]
    refine fin 0 (kB B e q) (by omega) bq.1 bq.2 ?_
    unfold pAc2
    rw [if_neg t6]
    rfl
theorem w_addOne (h : PC x jv u B e) (S : cSt jv (x + 6) W pn on rm) (hW : WI W pn on) {f p : Nat} (hp : p ≤ e) {P : Unit ⊕ gE → g_H → Prop}
    (h1 : ∀ W' r, pAcc B e W pn on f p = .inl ((W', pn, on + 1), r) → p ≤ r → r ≤ e → ∀ lv : gV, CK x jv lv → cSt lv (x + 6) W' pn (on + 1) rm → WI W' pn (on + 1) → P (.inl ()) (aT x lv r, u))
    (h2 : ∀ g, pAcc B e W pn on f p = .inr g → ∀ lv r, CK x jv lv → P (.inr (5, x + 27)) (pF x lv r g, u)) : gW (f_X2_addOne (x + 1) (iN f)) (aT x jv p, u) P := by
  have H := h.X
  have h6 := hW.1.2.2.2
  have e7 : jv (x + 6) 7 = iN on := by rw [S.1.2.1]; exact hW.1.2.2.1
  unfold f_X2_addOne
  unfold pAcc at h1 h2
  rw [gW_B, rQd H, gW_B, rSi H.dr, aT_a (show x + 6 ≠ x + 1 by omega), e7]
  by_cases c6 : on = 6
  · rw [gW_ift (by rw [c6]; rfl), w_failT h.att]
    rw [if_pos c6] at h2
    exact h2 f rfl jv p CK.rf
  rw [if_neg c6] at h1 h2
  have ho6 : on < 6 := by omega
  rw [gW_iff (by rw [show (6 : Int32) = iN 6 from rfl, iN_eq (by omega) (by omega)]; exact c6)]
  unfold f_X2_addOne_17
  rw [gW_B, rQd H, gW_B, rSr1 H.dr, gW_B, rQd H, gW_B, rSi H.dr, aT_a (show x + 6 ≠ x + 1 by omega), e7, gW_B, rSO H.dr ho6, gW_B, gW_Tx, gW_B, rQc H, gW_T]
  refine w_after h (i := 5) (by decide) hp (fun v r ha => ?_) (fun g ha r => ?_)
  · rw [ha] at h1 h2
    dsimp only at h1 h2
    have ha' := ha
    unfold pAft at ha'
    by_cases t5 : tk B e (g_byt.getD 5 []) p = true
    · rw [if_pos t5] at ha'
      have bw := kW_b (B := B) hp
      have bb := kB_b (B := B) hp
      obtain ⟨n1, n2, n3, n4, nv, n5, n6⟩ := pNum_n bw.2 ha'
      subst n6
      rw [show (60 : Int32) = iN 60 from rfl, iN_le (by omega) (by omega)] at n4
      rw [show (1 : Int32) = iN 1 from rfl, iN_le (by omega) (by omega)] at n3
      show gW (gB (gPI (x + 6 + 15 + on) 4 1 (iN nv)) _) _ P
      rw [gW_B, rSOp H.dr ho6, aT_w (by omega)]
      have ck1 : CK x jv (g_u2 jv (x + 6 + 15 + on) 1 (iN nv)) := CK.rf.up (by omega) (fun q => by omega)
      have kP : g_u2 jv (x + 6 + 15 + on) 1 (iN nv) (x + 6 + 15 + on) 1 = iN nv := by rw [g_u2_self, va_up_self]
      have ke : ∀ a : Nat, a ≠ x + 6 + 15 + on → g_u2 jv (x + 6 + 15 + on) 1 (iN nv) a = jv a := fun a ha => g_u2_ne _ _ _ ha
      generalize g_u2 jv (x + 6 + 15 + on) 1 (iN nv) = kv at ck1 kP ke ⊢
      have br := kB_b (B := B) n2
      have bwr := kW_b (B := B) n2
      rw [gW_B, gW_Tx, gW_B, rQc H, gW_B, w_takesT (h.ck ck1) (i := 10) (by decide) n2]
      by_cases t10 : tk B e (g_byt.getD 10 []) r = true
      · rw [if_pos t10] at h1 h2
        rw [bI_t t10, gW_iff (by decide), kT_t t10, gW_B, rQc H, gW_T]
        show gW (f_X2_letters (x + 1) (bI (false = true))) _ _
        refine w_letters (h.ck ck1) bwr.2 (fun s q hl => ?_) (fun g hl r2 => ?_)
        · obtain ⟨l1, l2, ⟨d, hd, rfl⟩, -⟩ := pLe_n bwr.2 hl
          rw [hl] at h1 h2
          dsimp only at h1 h2
          exact w_addOne_65 h S hW ho6 hd ⟨n3, n4⟩ l2 ck1 kP ke (fun W' r' g1 g2 g3 => h1 W' r' g1 (by omega) g3) h2
        · rw [hl] at h2
          exact h2 g rfl kv r2 ck1
      · rw [if_neg t10] at h1 h2
        rw [bI_f t10, gW_ift rfl, kT_f t10]
        exact w_addOne_65 h S hW ho6 (d := 0) (by decide) ⟨n3, n4⟩ br.2 ck1 kP ke (fun W' r' g1 g2 g3 => h1 W' r' g1 (by omega) g3) h2
    · rw [if_neg t5] at ha'; cases ha'
  · rw [ha] at h2
    exact h2 g rfl jv r CK.rf
theorem g_l1 : ∀ i : Nat, i < 42 → 1 ≤ (g_byt.getD i []).length := by decide +kernel
theorem tk_lt {i p : Nat} (hi : i < 42) (hp : p ≤ e) (t : tk B e (g_byt.getD i []) p = true) : p < kW B e p := by
  have h1 := g_l1 i hi
  have h2 := tk_b hp h1 t
  omega
/-- what a court's text so far and its draft are -/
def CT (x rm : Nat) (jv : gV) (c : gCt) : Prop := cSt jv (x + 6) c.1 c.2.1 c.2.2 rm ∧ WI c.1 c.2.1 c.2.2
theorem w_fld (h : PC x jv u B e) (S : cSt jv (x + 6) W pn on rm) (hW : WI W pn on) {p k f : Nat} (hp : p ≤ e) {hi : Nat} (hkf : (k = 4 ∧ f = 10 ∧ hi = 999) ∨ (k = 5 ∧ f = 11 ∧ hi = 9) ∨ (k = 6 ∧ f = 12 ∧ hi = 20)) {P : Unit ⊕ gE → g_H → Prop}
    (h1 : ∀ W' r, pFld B e W pn on p (iN hi) k = .inl ((W', pn, on), r) → p ≤ r → r ≤ e → ∀ lv : gV, CK x jv lv → cSt lv (x + 6) W' pn on rm → WI W' pn on → P (.inl ()) (aT x lv r, u))
    (h2 : ∀ g, pFld B e W pn on p (iN hi) k = .inr g → ∀ lv r, CK x jv lv → P (.inr (5, x + 27)) (pF x lv r g, u)) : gW (gB (gFR (x + 1) 1 4) fun v12 => gB (gCk (x + 1) 1) fun _ => gT (f_X2_number (x + 1) (0 : Int32) (iN hi)) fun r13 => gB (gPI v12 2 f r13) fun _ => f_X2_line_112) (aT x jv p, u) P := by
  have H := h.X
  unfold pFld at h1 h2
  rw [gW_B, rQd H, gW_B, rQc H, gW_T]
  refine w_number h hp (fun v r hn => ?_) (fun g hn r => ?_)
  · rw [hn] at h1
    obtain ⟨n1, n2, n3, n4, t, n5, n6⟩ := pNum_n hp hn
    subst n6
    rw [iN_le (by omega) (by omega)] at n4
    show gW (gB (gPI (x + 6) 2 f (iN t)) _) _ P
    unfold f_X2_line_112
    rw [gW_B, rSp H.dr, aT_w (by omega), gW_ret]
    refine h1 _ r rfl (by omega) n2 _ (CK.rf.up (by omega) (fun _ => by omega)) (S.fld (f := f) hW (by omega) (fun j j1 j2 => by rw [g_u2_self, va_up_ne _ _ j1]) (by rw [g_u2_self, va_up_self]) (fun a a1 a2 a3 => g_u2_ne _ _ _ (by omega))) (hW.fld (by omega) (fun q => by omega) (fun q => ⟨t, by omega, rfl⟩) (fun q => ⟨t, by omega, rfl⟩) (fun q => ⟨t, by omega, rfl⟩))
  · rw [hn] at h2
    exact h2 g rfl jv r CK.rf
theorem w_cline (h : PC x jv u B e) {c : gCt} (S : CT x rm jv c) {p : Nat} (hp : p ≤ e) (hkp : kB B e p = p) {P : Unit ⊕ gE → g_H → Prop}
    (h1 : ∀ c' r, pCtL B e c p = .inl (c', r) → p < r → r ≤ e → ∀ lv : gV, CK x jv lv → CT x rm lv c' → P (.inl ()) (aT x lv r, u))
    (h2 : ∀ g, pCtL B e c p = .inr g → ∀ lv r, CK x jv lv → P (.inr (5, x + 27)) (pF x lv r g, u)) : gW (f_X2_line (x + 1)) (aT x jv p, u) P := by
  have H := h.X
  have bp := kW_b (B := B) hp
  unfold f_X2_line
  unfold pCtL at h1 h2
  rw [hkp] at h1 h2 bp
  rw [gW_B, rQi H, aT_8, gW_B, gW_Tx, gW_B, rQc H, gW_B, w_takesT h (i := 0) (by decide) hp]
  by_cases t0 : tk B e (g_byt.getD 0 []) p = true
  · have lt := tk_lt (by decide) hp t0
    rw [if_pos t0] at h1 h2
    rw [bI_t t0, gW_iff (by decide), kT_t t0, gW_B, rQc H, gW_T]
    refine w_addProp h S.1 S.2 bp.2 (fun W' r g1 g2 g3 lv g4 g5 g6 => ?_) h2
    show gW f_X2_line_112 _ P
    unfold f_X2_line_112
    rw [gW_ret]
    exact h1 _ r g1 (by omega) g3 lv g4 ⟨g5, g6⟩
  rw [if_neg t0] at h1 h2
  rw [bI_f t0, gW_ift rfl, kT_f t0, hkp, gW_B, gW_Tx, gW_B, rQc H, gW_B, w_takesT h (i := 9) (by decide) hp]
  by_cases t9 : tk B e (g_byt.getD 9 []) p = true
  · have lt := tk_lt (by decide) hp t9
    rw [if_pos t9] at h1 h2
    rw [bI_t t9, gW_iff (by decide), kT_t t9, gW_B, rQc H, gW_T]
    refine w_addOne h S.1 S.2 bp.2 (fun W' r g1 g2 g3 lv g4 g5 g6 => ?_) h2
    show gW f_X2_line_112 _ P
    unfold f_X2_line_112
    rw [gW_ret]
    exact h1 _ r g1 (by omega) g3 lv g4 ⟨g5, g6⟩
  rw [if_neg t9] at h1 h2
  rw [bI_f t9, gW_ift rfl, kT_f t9, hkp, gW_B, gW_Tx, gW_B, rQc H, gW_B, w_takesT h (i := 11) (by decide) hp]
  by_cases t11 : tk B e (g_byt.getD 11 []) p = true
  · have lt := tk_lt (by decide) hp t11
    rw [if_pos t11] at h1 h2
    rw [bI_t t11, gW_iff (by decide), kT_t t11]
    exact w_fld h S.1 S.2 (k := 5) (f := 11) (hi := 9) bp.2 (by omega) (fun W' r g1 g2 g3 lv g4 g5 g6 => h1 _ r g1 (by omega) g3 lv g4 ⟨g5, g6⟩) h2
  rw [if_neg t11] at h1 h2
  rw [bI_f t11, gW_ift rfl, kT_f t11, hkp, gW_B, gW_Tx, gW_B, rQc H, gW_B, w_takesT h (i := 12) (by decide) hp]
  by_cases t12 : tk B e (g_byt.getD 12 []) p = true
  · have lt := tk_lt (by decide) hp t12
    rw [if_pos t12] at h1 h2
    rw [bI_t t12, gW_iff (by decide), kT_t t12]
    exact w_fld h S.1 S.2 (k := 6) (f := 12) (hi := 20) bp.2 (by omega) (fun W' r g1 g2 g3 lv g4 g5 g6 => h1 _ r g1 (by omega) g3 lv g4 ⟨g5, g6⟩) h2
  rw [if_neg t12] at h1 h2
  rw [bI_f t12, gW_ift rfl, kT_f t12, hkp, gW_B, gW_Tx, gW_B, rQc H, gW_T]
  refine w_expect h (i := 13) (by decide) hp (fun t13 => ?_) (fun t13 => ?_)
  · have lt := tk_lt (by decide) hp t13
    rw [if_pos t13] at h1 h2
    exact w_fld h S.1 S.2 (k := 4) (f := 10) (hi := 999) bp.2 (by omega) (fun W' r g1 g2 g3 lv g4 g5 g6 => h1 _ r g1 (by omega) g3 lv g4 ⟨g5, g6⟩) h2
  · rw [if_neg t13] at h2
    have := h2 _ rfl jv p CK.rf
    rw [hkp]
    exact this
theorem w_court_15 (h : PC x iv u B e) {P : Nat ⊕ gE → g_H → Prop} : ∀ (m : Nat) (jv : gV) (c : gCt) (p n N : Nat), CK x iv jv → CT x rm jv c → n ≤ 14 → p ≤ e → e < p + m → e < p + N → 
    (∀ (c' : gCt) (q : Nat), pCrt B e m n c p = .inl (c', q) → ∀ (kv : gV) (r : Nat), CK x iv kv → CT x rm kv c' → P (.inl (x + 6)) (aT x kv r, u)) →
    (∀ f, pCrt B e m n c p = .inr f → ∀ (kv : gV) (r : Nat), CK x iv kv → P (.inr (5, x + 27)) (pF x kv r f, u)) →
    gW (f_X2_court_15 N (x + 1) (iN n)) (aT x jv p, u) P := by
  have H := h.X
  have h4 := h.e4
  intro m
  induction m with
  | zero => intro jv c p n N _ _ _ q1 q2; omega
  | succ m ih =>
    intro jv c p n N ck S q0 q1 q2 q3 h1 h2
    obtain ⟨N, rfl⟩ : ∃ N', N = N' + 1 := ⟨N - 1, by omega⟩
    have hj := h.ck ck
    rw [pCrt] at h1 h2
    rw [f_X2_court_15, gW_B, rQc H, gW_T]
    show gW (f_X2_more (x + 1) (iN n) (iN 14)) _ _
    refine w_more hj q1 q0 (by decide) (by decide) (fun b q hm => ?_) (fun f hm q => ?_)
    · rw [hm] at h1 h2
      have hq := pMor_n q1 hm
      cases b with
      | false =>
        rw [bI_f (by decide)]
        show gW (gIf ((0 : Int32) = 0) _ _) _ _
        unfold f_X2_court_35
        rw [gW_ift rfl, gW_B, rQd H, gW_ret]
        exact h1 c q rfl jv q ck S
      | true =>
        have hkq := hq.2.2 rfl
        have hc14 : n < 14 := by
          unfold pMor at hm
          by_cases c1 : kB B e p = e
          · rw [if_pos c1] at hm; cases hm
          rw [if_neg c1] at hm
          by_cases c2 : n = 0
          · omega
          rw [if_neg c2] at hm
          by_cases c3 : B (kB B e p) = 59
          · rw [if_pos c3] at hm
            by_cases c4 : n = 14
            · rw [if_pos c4] at hm; cases hm
            · omega
          · rw [if_neg c3] at hm; cases hm
        dsimp only at h1 h2
        rw [bI_t rfl]
        show gW (gIf ((1 : Int32) = 0) _ _) _ _
        rw [gW_iff (by decide), gW_B, rQc H, gW_T]
        refine w_cline hj S hq.2.1 hkq (fun c' r hl r1 r2 lv ck2 S2 => ?_) (fun g hl lv r ck2 => ?_)
        · rw [hl] at h1 h2
          dsimp only at h1 h2
          have hr : p < r := by omega
          show gW (f_X2_court_15 N (x + 1) (iN n + 1)) _ P
          rw [iNp1]
          exact ih lv c' r (n + 1) N (ck.tr ck2) S2 (by omega) r2 (by omega) (by omega) h1 h2
        · rw [hl] at h2
          exact h2 g rfl lv r (ck.tr ck2)
    · rw [hm] at h2
      exact h2 f rfl jv q ck
end CD
