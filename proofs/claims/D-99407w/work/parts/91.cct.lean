/-! THE COMPONENT READS A COURT -/
section CC
variable {iv jv kv lv : gV} {u v w y : gU} {x : Nat} {B : Nat → Int32} {e : Nat}
theorem pLet_0 {p : Nat} (hp : p ≤ e) {s : Int32} {q : Nat} (h : pLet B e p = .inl (s, q)) : s ≠ 0 := by
  unfold pLet at h
  have hw := kW_s (B := B) hp
  by_cases hc : kW B e p = kB B e p
  · rw [if_pos hc] at h; cases h
  · rw [if_neg hc] at h
    obtain ⟨k, hk⟩ : ∃ k, kW B e p - kB B e p = k + 1 := ⟨kW B e p - kB B e p - 1, by omega⟩
    rw [hk] at h
    cases hl : lB B (kB B e p) (k + 1) with
    | none => rw [hl] at h; cases h
    | some z =>
      rw [hl] at h
      injection h with h
      injection h with h1 h2
      subst h1
      exact lB_0 (fun j a b => hw.2.2 j a (by omega)) hl
theorem pLe_n {p : Nat} (hp : p ≤ e) {one : Bool} {s : Int32} {q : Nat} (h : pLe B e p one = .inl (s, q)) : p < q ∧ q ≤ e ∧ (∃ v : Nat, v < 64 ∧ s = iN v) ∧ (one = true → ∃ d : Nat, d < 6 ∧ s = iN (2 ^ d)) := by
  unfold pLe at h
  cases hl : pLet B e p with
  | inr f => rw [hl] at h; cases h
  | inl r =>
    obtain ⟨z, r⟩ := r
    rw [hl] at h
    dsimp only at h
    by_cases hc : one = true ∧ ¬ bC z ≤ 1
    · rw [if_pos hc] at h; cases h
    · rw [if_neg hc] at h
      injection h with h
      injection h with h1 h2
      subst h1 h2
      have h3 := pLet_0 hp hl
      obtain ⟨h4, h5, v, h6, h7⟩ := pLet_n hp hl
      refine ⟨h4, h5, ⟨v, h6, h7⟩, fun ho => ?_⟩
      have hb : bC z ≤ 1 := Decidable.byContradiction (fun q => hc ⟨ho, q⟩)
      subst h7
      have hv : v ≠ 0 := fun q => h3 (by rw [q]; rfl)
      obtain ⟨b1, b2⟩ := bC_1 v h6 hv
      obtain ⟨d, d1, d2⟩ := b2 (b1.mp hb)
      exact ⟨d, d1, by rw [d2]⟩
theorem aT_w {a k p : Nat} {z : Int32} (h : a ≠ x + 1) : g_u2 (aT x iv p) a k z = aT x (g_u2 iv a k z) p := by
  unfold aT
  funext b j
  by_cases e1 : b = a
  · subst e1
    rw [g_u2_self, g_u2_ne _ _ _ h, g_u2_ne _ _ _ h, g_u2_self]
  · rw [g_u2_ne _ _ _ e1]
    by_cases e2 : b = x + 1
    · subst e2
      rw [g_u2_self, g_u2_self, g_u2_ne _ _ _ e1]
    · rw [g_u2_ne _ _ _ e2, g_u2_ne _ _ _ e2, g_u2_ne _ _ _ e1]
/-- only the draft is another, and its laws are not -/
def CK (x : Nat) (jv kv : gV) : Prop := (∀ a : Nat, a < x + 6 ∨ x + 27 ≤ a → kv a = jv a) ∧ kv (x + 6) 8 = jv (x + 6) 8
theorem CK.rf : CK x jv jv := ⟨fun _ _ => rfl, rfl⟩
theorem CK.tr (h1 : CK x iv jv) (h2 : CK x jv kv) : CK x iv kv := ⟨fun a ha => (h2.1 a ha).trans (h1.1 a ha), h2.2.trans h1.2⟩
theorem CK.up {a k : Nat} {z : Int32} (h : CK x iv jv) (ha : x + 6 ≤ a ∧ a < x + 27) (hk : a = x + 6 → k ≠ 8) : CK x iv (g_u2 jv a k z) := by
  refine ⟨fun b hb => ?_, ?_⟩
  · rw [g_u2_ne _ _ _ (by omega)]; exact h.1 b hb
  · by_cases e1 : x + 6 = a
    · subst e1
      rw [g_u2_self, va_up_ne _ _ (Ne.symm (hk rfl))]
      exact h.2
    · rw [g_u2_ne _ _ _ e1]; exact h.2
theorem PC.ck (h : PC x jv u B e) (hk : CK x jv kv) : PC x kv u B e := h.fr Ux.rf (by rw [hk.1 _ (by omega)]) (hk.1 _ (by omega)) (fun a ha => hk.1 a (by omega))
variable {W : Nat → Int32} {pn on rm : Nat}
theorem w_addProp_146 (h : PC x kv u B e) {q : Nat} {P : Unit ⊕ gE → g_H → Prop} (hP : P (.inl ()) (aT x (g_u2 kv (x + 6) 6 (kv (x + 6) 6 + 1)) q, u)) : gW (f_X2_addProp_146 (x + 1)) (aT x kv q, u) P := by
  have H := h.X
  unfold f_X2_addProp_146
  rw [gW_B, rQd H, gW_B, rSi H.dr, aT_a (show x + 6 ≠ x + 1 by omega), gW_B, rSp H.dr, gW_ret, aT_w (by omega)]
  exact hP
theorem w_addProp_126 (h : PC x jv u B e) (S : cSt jv (x + 6) W pn on rm) (hW : WI W pn on) (hp8 : pn < 8) {d j q : Nat} (hd : d < 6) (hj : j ≤ 20) {s : Int32} (hs : s = -1 ∨ ∃ k : Nat, k < 10 ∧ s = iN k) (hf : s ≠ -1 → sIn W pn s = -1) (hq : q ≤ e) (ck : CK x jv kv)
    (kP : kv (x + 6 + 7 + pn) 0 = iN d ∧ kv (x + 6 + 7 + pn) 1 = iN j ∧ kv (x + 6 + 7 + pn) 2 = 0 ∧ kv (x + 6 + 7 + pn) 3 = s) (k4 : ∀ k : Nat, k < 10 → kv (x + 6 + 4) k = if s = iN k then iN pn else jv (x + 6 + 4) k) (ke : ∀ a : Nat, a ≠ x + 6 + 7 + pn → a ≠ x + 6 + 4 → kv a = jv a) {P : Unit ⊕ gE → g_H → Prop}
    (h1 : ∀ W' r, pPr2 B e W pn on (iN d) (iN j) s q = .inl ((W', pn + 1, on), r) → q ≤ r → r ≤ e → ∀ lv : gV, CK x jv lv → cSt lv (x + 6) W' (pn + 1) on rm → WI W' (pn + 1) on → P (.inl ()) (aT x lv r, u))
    (h2 : ∀ g, pPr2 B e W pn on (iN d) (iN j) s q = .inr g → ∀ lv r, CK x jv lv → P (.inr (5, x + 27)) (pF x lv r g, u)) : gW (f_X2_addProp_126 (x + 1) (x + 6 + 7 + pn)) (aT x kv q, u) P := by
  have hk := h.ck ck
  have H := h.X
  have bq := kB_b (B := B) hq
  have bw := kW_b (B := B) hq
  have fin : ∀ (lv : gV) (wn : Nat) (r : Nat), wn ≤ 99 → lv (x + 6 + 7 + pn) 0 = iN d ∧ lv (x + 6 + 7 + pn) 1 = iN j ∧ lv (x + 6 + 7 + pn) 2 = iN wn ∧ lv (x + 6 + 7 + pn) 3 = s → (∀ a : Nat, a ≠ x + 6 + 7 + pn → lv a = kv a) → CK x jv lv → q ≤ r → r ≤ e → pPr2 B e W pn on (iN d) (iN j) s q = .inl ((addP W pn (iN d) (iN j) (iN wn) s, pn + 1, on), r) → gW (f_X2_addProp_146 (x + 1)) (aT x lv r, u) P := by
    intro lv wn r hwn lP le lk r1 r2 hr
    have e6 : lv (x + 6) 6 = iN pn := by rw [le _ (by omega), ke _ (by omega) (by omega), S.1.1]; exact hW.1.1
    refine w_addProp_146 (h.ck lk) (h1 _ r hr r1 r2 _ (lk.up (by omega) (fun _ => by decide)) (S.moP hW hp8 hf (fun k k1 k2 => ?_) ?_ ?_ (fun k hk => ?_) (fun a a1 a2 a3 a4 a5 => ?_)) (hW.moP hp8 hd hj hwn hs hf))
    · rw [g_u2_self, va_up_ne _ _ k1, le _ (by omega), ke _ (by omega) (by omega)]
    · rw [g_u2_self, va_up_self, e6]; exact iNp1 pn
    · rw [g_u2_ne _ _ _ (by omega)]; exact lP
    · rw [g_u2_ne _ _ _ (by omega), le _ (by omega)]; exact k4 k hk
    · rw [g_u2_ne _ _ _ (by omega), le _ a5, ke _ a5 a3]
  unfold f_X2_addProp_126
  rw [gW_B, gW_Tx, gW_B, rQc H, gW_B, w_takesT hk (i := 3) (by decide) hq]
  by_cases t3 : tk B e (g_byt.getD 3 []) q = true
  · rw [bI_t t3, gW_iff (by decide), kT_t t3, gW_B, rQc H, gW_T]
    refine w_number hk bw.2 (fun v r hn => ?_) (fun f hn r => ?_)
    · obtain ⟨n1, n2, n3, n4, wn, n5, n6⟩ := pNum_n bw.2 hn
      subst n6
      rw [show (99 : Int32) = iN 99 from rfl, iN_le (by omega) (by omega)] at n4
      show gW (gB (gPI (x + 6 + 7 + pn) 3 2 (iN wn)) _) _ P
      rw [gW_B, rSPp H.dr hp8, aT_w (by omega)]
      refine fin _ wn r n4 ⟨?_, ?_, ?_, ?_⟩ (fun a ha => g_u2_ne _ _ _ ha) (ck.up (by omega) (fun q => by omega)) (by omega) n2 ?_
      · rw [g_u2_self, va_up_ne _ _ (by decide)]; exact kP.1
      · rw [g_u2_self, va_up_ne _ _ (by decide)]; exact kP.2.1
      · rw [g_u2_self, va_up_self]
      · rw [g_u2_self, va_up_ne _ _ (by decide)]; exact kP.2.2.2
      · unfold pPr2
        rw [if_pos t3, hn]
    · refine h2 f ?_ kv r ck
      unfold pPr2
      rw [if_pos t3, hn]
  · rw [bI_f t3, gW_ift rfl, kT_f t3]
    refine fin kv 0 (kB B e q) (by omega) kP (fun _ _ => rfl) ck bq.1 bq.2 ?_
    unfold pPr2
    rw [if_neg t3]
    rfl
theorem w_addProp (h : PC x jv u B e) (S : cSt jv (x + 6) W pn on rm) (hW : WI W pn on) {f p : Nat} (hp : p ≤ e) {P : Unit ⊕ gE → g_H → Prop}
    (h1 : ∀ W' r, pPrp B e W pn on f p = .inl ((W', pn + 1, on), r) → p ≤ r → r ≤ e → ∀ lv : gV, CK x jv lv → cSt lv (x + 6) W' (pn + 1) on rm → WI W' (pn + 1) on → P (.inl ()) (aT x lv r, u))
    (h2 : ∀ g, pPrp B e W pn on f p = .inr g → ∀ lv r, CK x jv lv → P (.inr (5, x + 27)) (pF x lv r g, u)) : gW (f_X2_addProp (x + 1) (iN f)) (aT x jv p, u) P := by
  have H := h.X
  have h8 := hW.1.2.1
  have e6 : jv (x + 6) 6 = iN pn := by rw [S.1.1]; exact hW.1.1
  unfold f_X2_addProp
  unfold pPrp at h1 h2
  rw [gW_B, rQd H, gW_B, rSi H.dr, aT_a (show x + 6 ≠ x + 1 by omega), e6]
  by_cases c8 : pn = 8
  · rw [gW_ift (by rw [c8]; rfl), w_failT h.att]
    rw [if_pos c8] at h2
    exact h2 f rfl jv p CK.rf
  rw [if_neg c8] at h1 h2
  have hp8 : pn < 8 := by omega
  rw [gW_iff (by rw [show (8 : Int32) = iN 8 from rfl, iN_eq (by omega) (by omega)]; exact c8)]
  unfold f_X2_addProp_17
  rw [gW_B, rQd H, gW_B, rSr0 H.dr, gW_B, rQd H, gW_B, rSi H.dr, aT_a (show x + 6 ≠ x + 1 by omega), e6, gW_B, rSP H.dr hp8, gW_B, rQc H, gW_T]
  show gW (f_X2_letters (x + 1) (bI (true = true))) _ _
  refine w_letters h hp (fun s q hl => ?_) (fun g hl r => ?_)
  · obtain ⟨l1, l2, -, l3⟩ := pLe_n hp hl
    obtain ⟨d, hd, rfl⟩ := l3 rfl
    rw [hl] at h1 h2
    dsimp only at h1 h2
    rw [ntz_d d hd] at h1 h2
    show gW (gB (f_J7_numberOfTrailingZeros (iN (2 ^ d))) _) _ P
    rw [gW_B, w_ntz hd, gW_B, rSPp H.dr hp8, aT_w (by omega), gW_B, gW_Tx, gW_B, rQc H, gW_T]
    have ck1 : CK x jv (g_u2 jv (x + 6 + 7 + pn) 0 (iN d)) := CK.rf.up (by omega) (fun q => by omega)
    refine w_after (h.ck ck1) (i := 2) (by decide) l2 (fun v r ha => ?_) (fun g ha r => ?_)
    · rw [ha] at h1 h2
      dsimp only at h1 h2
      have ha' := ha
      unfold pAft at ha'
      by_cases t2 : tk B e (g_byt.getD 2 []) q = true
      · rw [if_pos t2] at ha'
        have bw := kW_b (B := B) l2
        have bb := kB_b (B := B) l2
        obtain ⟨n1, n2, n3, n4, j, n5, n6⟩ := pNum_n bw.2 ha'
        subst n6
        rw [show (20 : Int32) = iN 20 from rfl, iN_le (by omega) (by omega)] at n4
        show gW (gB (gPI (x + 6 + 7 + pn) 3 1 (iN j)) _) _ P
        rw [gW_B, rSPp H.dr hp8, aT_w (by omega), gW_B, rSPp H.dr hp8, aT_w (by omega), gW_B, rSPp H.dr hp8, aT_w (by omega)]
        have ck2 : CK x jv (g_u2 (g_u2 (g_u2 (g_u2 jv (x + 6 + 7 + pn) 0 (iN d)) (x + 6 + 7 + pn) 1 (iN j)) (x + 6 + 7 + pn) 2 0) (x + 6 + 7 + pn) 3 (-1)) := ((ck1.up (by omega) (fun q => by omega)).up (by omega) (fun q => by omega)).up (by omega) (fun q => by omega)
        have cP : (g_u2 (g_u2 (g_u2 (g_u2 jv (x + 6 + 7 + pn) 0 (iN d)) (x + 6 + 7 + pn) 1 (iN j)) (x + 6 + 7 + pn) 2 0) (x + 6 + 7 + pn) 3 (-1)) (x + 6 + 7 + pn) = va_up (va_up (va_up (va_up (jv (x + 6 + 7 + pn)) 0 (iN d)) 1 (iN j)) 2 0) 3 (-1) := by rw [g_u2_self, g_u2_self, g_u2_self, g_u2_self]
        have ce : ∀ a : Nat, a ≠ x + 6 + 7 + pn → (g_u2 (g_u2 (g_u2 (g_u2 jv (x + 6 + 7 + pn) 0 (iN d)) (x + 6 + 7 + pn) 1 (iN j)) (x + 6 + 7 + pn) 2 0) (x + 6 + 7 + pn) 3 (-1)) a = jv a := fun a ha => by rw [g_u2_ne _ _ _ ha, g_u2_ne _ _ _ ha, g_u2_ne _ _ _ ha, g_u2_ne _ _ _ ha]
        generalize g_u2 (g_u2 (g_u2 (g_u2 jv (x + 6 + 7 + pn) 0 (iN d)) (x + 6 + 7 + pn) 1 (iN j)) (x + 6 + 7 + pn) 2 0) (x + 6 + 7 + pn) 3 (-1) = kv at ck2 cP ce ⊢
        have cP0 : kv (x + 6 + 7 + pn) 0 = iN d := by rw [cP]; simp [va_up]
        have cP1 : kv (x + 6 + 7 + pn) 1 = iN j := by rw [cP]; simp [va_up]
        have cP2 : kv (x + 6 + 7 + pn) 2 = 0 := by rw [cP]; simp [va_up]
        have cP3 : kv (x + 6 + 7 + pn) 3 = -1 := by rw [cP]; simp [va_up]
        have br := kB_b (B := B) n2
        have bwr := kW_b (B := B) n2
        rw [gW_B, gW_Tx, gW_B, rQc H, gW_B, w_takesT (h.ck ck2) (i := 8) (by decide) n2]
        by_cases t8 : tk B e (g_byt.getD 8 []) r = true
        · rw [if_pos t8] at h1 h2
          rw [bI_t t8, gW_iff (by decide), kT_t t8, gW_B, rQc H, gW_B, w_here (h.ck ck2) bwr.2, gW_B, rQc H, gW_T]
          have bb2 := kB_b (B := B) bwr.2
          refine w_number (h.ck ck2) bb2.2 (fun v r2 hn => ?_) (fun g hn r2 => ?_)
          · rw [pNum_kB bwr.2] at hn
            rw [hn] at h1 h2
            dsimp only at h1 h2
            obtain ⟨m1, m2, m3, m4, sl, m5, m6⟩ := pNum_n bwr.2 hn
            subst m6
            rw [show (9 : Int32) = iN 9 from rfl, iN_le (by omega) (by omega)] at m4
            show gW (gB (gFR (x + 1) 1 4) _) _ P
            rw [gW_B, rQd H, gW_B, rSr3 H.dr, gW_B, rSa3 H.dr (by omega), aT_a (show x + 6 + 4 ≠ x + 1 by omega), ce _ (by omega), S.2.2.2.1 sl (by omega)]
            by_cases c : sIn W pn (iN sl) = -1
            · rw [if_pos c] at h1 h2
              rw [gW_ift c]
              unfold f_X2_addProp_110
              rw [gW_B, rQd H, gW_B, rQd H, gW_B, rSi H.dr, aT_a (show x + 6 ≠ x + 1 by omega), ce _ (by omega), e6, gW_B, rSc H.dr, gW_B]
              unfold f_X3_nails
              rw [gW_B, rSr3 H.dr, gW_B, rSs3 H.dr (by omega), aT_w (by omega), gW_B, rSr0 H.dr, gW_B, rSP H.dr hp8, gW_B, rSPp H.dr hp8, aT_w (by omega), gW_ret]
              refine w_addProp_126 h S hW hp8 hd n4 (Or.inr ⟨sl, by omega, rfl⟩) (fun _ => c) m2 ((ck2.up (by omega) (fun q => by omega)).up (by omega) (fun q => by omega)) ⟨?_, ?_, ?_, ?_⟩ (fun k hk => ?_) (fun a a1 a2 => ?_) (fun W' r' g1 g2 g3 => h1 W' r' g1 (by omega) g3) h2
              · rw [g_u2_self, va_up_ne _ _ (by decide), g_u2_ne _ _ _ (by omega)]; exact cP0
              · rw [g_u2_self, va_up_ne _ _ (by decide), g_u2_ne _ _ _ (by omega)]; exact cP1
              · rw [g_u2_self, va_up_ne _ _ (by decide), g_u2_ne _ _ _ (by omega)]; exact cP2
              · rw [g_u2_self, va_up_self]
              · rw [g_u2_ne _ _ _ (by omega), g_u2_self]
                by_cases ek : sl = k
                · rw [← ek, va_up_self, if_pos rfl]
                · rw [va_up_ne _ _ (Ne.symm ek), if_neg (by rw [iN_eq (by omega) (by omega)]; exact ek), ce _ (by omega)]
              · rw [g_u2_ne _ _ _ a1, g_u2_ne _ _ _ a2, ce _ a1]
            · rw [if_neg c] at h1 h2
              rw [gW_iff c, w_failT (h.ck ck2).att]
              exact h2 _ rfl kv r2 ck2
          · rw [pNum_kB bwr.2] at hn
            rw [hn] at h2
            exact h2 g rfl kv r2 ck2
        · rw [if_neg t8] at h1 h2
          rw [bI_f t8, gW_ift rfl, kT_f t8]
          exact w_addProp_126 h S hW hp8 hd n4 (Or.inl rfl) (fun q => absurd rfl q) br.2 ck2 ⟨cP0, cP1, cP2, cP3⟩ (fun k hk => by rw [if_neg (fun q => iN_eqm (by omega) q.symm), ce _ (by omega)]) (fun a a1 a2 => ce a a1) (fun W' r' g1 g2 g3 => h1 W' r' g1 (by omega) g3) h2
      · rw [if_neg t2] at ha'; cases ha'
    · rw [ha] at h2
      exact h2 g rfl _ r ck1
  · rw [hl] at h2
    exact h2 g rfl jv r CK.rf
end CC
