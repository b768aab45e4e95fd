/-! THE COMPONENT'S ROWS -/
section CO
variable {iv jv kv lv : gV} {u v w y : gU} {x : Nat} {h : g_H} {B : Nat → Int32} {e : Nat}
theorem w_br {al : Bool} {R1 : Nat → Int32 → gM (Nat ⊕ gE)} {R2 : Nat → gM (Nat ⊕ gE)} {K : Nat → gM (Nat ⊕ gE)} (H : XS u x) {P : Nat ⊕ gE → g_H → Prop} (hg : gW (if al = true then R2 (x + 1) else R1 (x + 1) 1) (iv, u) (fun r h1 => (∀ c, r = .inl c → gW (K c) h1 P) ∧ ∀ z, r = .inr z → P (.inr z) h1)) : gW (gIf (bI (al = true) = 0) (gB (gCk (x + 1) 1) fun _ => gT (R1 (x + 1) (1 : Int32)) K) (gB (gCk (x + 1) 1) fun _ => gT (R2 (x + 1)) K)) (iv, u) P := by
  cases al with
  | true =>
    rw [if_pos rfl] at hg
    rw [gW_iff (by rw [bI_t rfl]; decide), gW_B, rQc H, gW_T]
    exact gW_mono hg (fun r h1 q => by
      cases r with
      | inl c => exact q.1 c rfl
      | inr z => exact q.2 z rfl)
  | false =>
    rw [if_neg (by decide)] at hg
    rw [gW_ift (bI_f (by decide)), gW_B, rQc H, gW_T]
    exact gW_mono hg (fun r h1 q => by
      cases r with
      | inl c => exact q.1 c rfl
      | inr z => exact q.2 z rfl)
theorem w_row_27 {al : Bool} {A : Nat → gPR sCs} (hA : okA B e A) {d dp s k0 : Nat} (hs : 1 ≤ s) {R1 : Nat → Int32 → gM (Nat ⊕ gE)} {R2 : Nat → gM (Nat ⊕ gE)} (hg : okR x B e d dp s k0 A (if al = true then R2 (x + 1) else R1 (x + 1) 1)) {p : Nat} (h : PC x iv u B e) (h9 : iv (x + 1) 9 = iN dp) {P : Nat ⊕ gE → g_H → Prop} :
    ∀ (m : Nat) (jv : gV) (w : gU) (i : Nat) (Ad : Nat → Nat) (D : Nat → sCs) (C : sCs) (p' n N : Nat), QS x iv u jv w p' n → n + (s - 1) ≤ 5 * (p' - p) → p ≤ p' → p' ≤ e → e < p' + m → i ≤ p' → e < p' + N → Ch d u.2.2.2.1 jv w al i Ad D → C = (fun F => foB al (fun j => D j F) i) →
    (∀ (C' : sCs) (q : Nat), pRoL B e al A m C p' = .inl (C', q) → ∀ (kv : gV) (y : gU) (c n' : Nat), QS x iv u kv y q n' → n' + (s - 1) ≤ 5 * (q - p) → cdD (d + 1) u.2.2.2.1 kv y c C' → P (.inl c) (kv, y)) →
    (∀ f, pRoL B e al A m C p' = .inr f → ∀ (kv : gV) (y : gU) (n' : Nat), QF x iv u kv y f n' → n' ≤ 5 * (e - p) + (k0 + 1) → P (.inr (5, x + 27)) (kv, y)) →
    gW (f_X2_row_27 R1 R2 N (x + 1) (bI (al = true)) (Ad 0) (some (Ad i))) (jv, w) P := by
  have hx := h.2.2.2.2.2
  have h4 := h.e4
  intro m
  induction m with
  | zero => intro jv w i Ad D C p' n N q1 q2 q3 q4 q5; omega
  | succ m ih =>
    intro jv w i Ad D C p' n N q1 q2 q3 q4 q5 q6 q7 hC hCe h1 h2
    obtain ⟨N, rfl⟩ : ∃ N', N = N' + 1 := ⟨N - 1, by omega⟩
    have hj := h.qs q1
    have HJ := hj.X
    have b1 := kB_b (B := B) q4
    have b2 := kW_b (B := B) q4
    have nle := q1.2.2.2.1.2.2
    have hti : (if al = true then 19 else 20) < 42 := by cases al <;> decide
    rw [pRoL] at h1 h2
    rw [f_X2_row_27]
    have hfst : ∀ {K : Nat → gM (Nat ⊕ gE)}, gW (K (w.2.2.1 (if al = true then 19 else 20))) (jv, w) P → gW (gIf (bI (al = true) = 0) (gB (gTx 20) fun t => K t) (gB (gTx 19) fun t => K t)) (jv, w) P := by
      intro K hK
      cases al with
      | true => rw [gW_iff (by rw [bI_t rfl]; decide), gW_B, gW_Tx]; exact hK
      | false => rw [gW_ift (bI_f (by decide)), gW_B, gW_Tx]; exact hK
    refine hfst (K := fun t => f_X2_row_39 R1 R2 (f_X2_row_27 R1 R2 N) (x + 1) (bI (al = true)) (Ad 0) (some (Ad i)) (x + 1) t) ?_
    unfold f_X2_row_39
    rw [gW_B, rQc HJ, gW_B, ← at_id q1.1, w_takesT hj hti q4]
    by_cases tt : tk B e (g_byt.getD (if al = true then 19 else 20) []) p' = true
    · rw [if_pos tt] at h1 h2
      have l := tk_b q4 (by have := (bl_1 _ hti).1; omega) tt
      have lw := (bl_1 _ hti).1
      unfold gNew
      rw [bI_t tt, gW_iff (by decide), kT_t tt, gW_B]
      refine w_al (fun j1 w1 A1 => ?_)
      have s0 : QS x iv u (aT x jv (kW B e p')) w (kW B e p') n := (q1.tr (QS.att (p := kW B e p'))).le (by omega)
      have t1 := A1.qs (by decide) aT_8 (by omega)
      have s1 := s0.tr t1
      have hj1 := h.qs s1
      obtain ⟨a1, a2, a3, a4, a5, a6, a7⟩ := A1
      refine w_br hj1.X ?_
      refine hg j1 w1 (kW B e p') hj1 s1.1 b2.2 (by rw [s1.2.1 9 (by decide)]; exact h9) _ (fun C1 q hr kv y o n1 r1 r2 r3 => ?_) (fun f hr kv y n1 r1 r2 => ?_)
      · rw [hr] at h1 h2
        dsimp only at h1 h2
        have hq := hA _ _ _ b2.2 hr
        have s2 := s1.tr r1
        have nle1 := r1.2.2.2.1.2.2
        unfold f_X2_row_66 f_X9_init
        refine ⟨fun c hc => ?_, fun z hz => by cases hz⟩
        cases hc
        have sN : y.1 w.2.2.2.1 = some (.inr 8) := by rw [(r1.2.2.2.1.1 _ (by omega)).1]; exact a1
        have vN : ∀ j : Nat, kv w.2.2.2.1 j = 0 := fun j => by rw [r1.2.2.1 _ (by omega) (by omega)]; exact a2 j
        have rN : ∀ j : Nat, y.2.1 w.2.2.2.1 j = none := fun j => by rw [(r1.2.2.2.1.1 _ (by omega)).2]; exact a3 j
        obtain ⟨i1, i2, i3, i4, -, i7⟩ := hC.1 i (Nat.le_refl _)
        have old : ∀ a : Nat, x + 2 ≤ a → a < w.2.2.2.1 → kv a = jv a ∧ y.1 a = w.1 a ∧ y.2.1 a = w.2.1 a := by
          intro a c1 c2
          refine ⟨?_, ?_, ?_⟩
          · rw [r1.2.2.1 a (by omega) (by omega), (a4 a (by omega)).1]; exact aT_a (by omega)
          · rw [(r1.2.2.2.1.1 a (by omega)).1, (a4 a (by omega)).2.1]
          · rw [(r1.2.2.2.1.1 a (by omega)).2, (a4 a (by omega)).2.2]
        have sI : y.1 (Ad i) = some (.inr 8) := by rw [(old _ (by omega) i2).2.1]; exact i3
        rw [gW_B, gW_B, gW_PQ sN, gW_B, gW_PZ (u := (y.1, g_u2 y.2.1 w.2.2.2.1 0 (some o), y.2.2)) sN bI_o, gW_ret, gW_B, gW_NN rfl, gW_B, gW_PQ (u := (y.1, g_u2 y.2.1 w.2.2.2.1 0 (some o), y.2.2)) sI, gW_B, gW_NN rfl, gW_B, gW_FQ (u := (y.1, g_u2 (g_u2 y.2.1 w.2.2.2.1 0 (some o)) (Ad i) 2 (some w.2.2.2.1), y.2.2)) sI]
        have eN : g_u2 (g_u2 y.2.1 w.2.2.2.1 0 (some o)) (Ad i) 2 (some w.2.2.2.1) (Ad i) 2 = some w.2.2.2.1 := by rw [g_u2_self, va_up_self]
        show gW (f_X2_row_27 R1 R2 N (x + 1) (bI (al = true)) (Ad 0) (g_u2 (g_u2 y.2.1 w.2.2.2.1 0 (some o)) (Ad i) 2 (some w.2.2.2.1) (Ad i) 2)) (g_u2 kv w.2.2.2.1 1 (bI (al = true)), y.1, g_u2 (g_u2 y.2.1 w.2.2.2.1 0 (some o)) (Ad i) 2 (some w.2.2.2.1), y.2.2) P
        rw [eN]
        have s3 : QS x iv u (g_u2 kv w.2.2.2.1 1 (bI (al = true))) (y.1, g_u2 (g_u2 y.2.1 w.2.2.2.1 0 (some o)) (Ad i) 2 (some w.2.2.2.1), y.2.2) q (n + 1 + n1) := s2.new (fun a ha => ⟨g_u2_ne _ _ _ (by omega), rfl, by show g_u2 _ _ _ _ a = _; rw [g_u2_ne _ _ _ (by omega), g_u2_ne _ _ _ (by omega)]⟩) (by omega) rfl
        have hnew : Ch d u.2.2.2.1 (g_u2 kv w.2.2.2.1 1 (bI (al = true))) (y.1, g_u2 (g_u2 y.2.1 w.2.2.2.1 0 (some o)) (Ad i) 2 (some w.2.2.2.1), y.2.2) al (i + 1) (va_up Ad (i + 1) w.2.2.2.1) (va_up D (i + 1) C1) := by
          have up1 : va_up Ad (i + 1) w.2.2.2.1 (i + 1) = w.2.2.2.1 := va_up_self _ _ _
          have up2 : ∀ j : Nat, j ≤ i → va_up Ad (i + 1) w.2.2.2.1 j = Ad j := fun j hj => va_up_ne _ _ (by omega)
          have alt : ∀ j : Nat, j ≤ i → Ad j < w.2.2.2.1 := fun j hj => (hC.1 j hj).2.1
          refine ⟨fun j hj => ?_, fun j k hjk hk => ?_⟩
          · by_cases ej : j = i + 1
            · rw [ej, up1]
              refine ⟨nle, by show _ < y.2.2.2.1; omega, sN, by rw [g_u2_self, va_up_self], ⟨o, w.2.2.2.1 + 1, y.2.2.2.1, ?_, by omega, Nat.le_refl _, ?_, fun k hk => ?_⟩, ?_⟩
              · show g_u2 (g_u2 y.2.1 w.2.2.2.1 0 (some o)) (Ad i) 2 (some w.2.2.2.1) w.2.2.2.1 0 = _
                rw [g_u2_ne _ _ _ (by omega), g_u2_self, va_up_self]
              · rw [va_up_self]
                have r3' := r3.2.2
                rw [a6] at r3'
                have r4 : cdR d (w.2.2.2.1 + 1) y.2.2.2.1 kv y o C1 := r3'
                exact r4.kp (fun b c1 c2 => ⟨g_u2_ne _ _ _ (by omega), rfl, by show g_u2 _ _ _ _ b = _; rw [g_u2_ne _ _ _ (by omega), g_u2_ne _ _ _ (by omega)]⟩)
              · by_cases ek : k = i + 1
                · rw [ek, up1]; omega
                · rw [up2 k (by omega)]
                  have := alt k (by omega)
                  omega
              · show g_u2 (g_u2 y.2.1 w.2.2.2.1 0 (some o)) (Ad i) 2 (some w.2.2.2.1) w.2.2.2.1 2 = _
                rw [g_u2_ne _ _ _ (by omega), g_u2_self, va_up_ne _ _ (by decide), rN, if_neg (by omega)]
            · obtain ⟨c1, c2, c3, c4, ⟨oj, Tj, Ej, c5, c6, c7, c8, c9⟩, c10⟩ := hC.1 j (by omega)
              have oj' := old (Ad j) (by omega) c2
              rw [up2 j (by omega)]
              refine ⟨c1, by show _ < y.2.2.2.1; omega, by show y.1 _ = _; rw [oj'.2.1]; exact c3, by rw [g_u2_ne _ _ _ (by omega), oj'.1]; exact c4, ⟨oj, Tj, Ej, ?_, c6, by show _ ≤ y.2.2.2.1; omega, ?_, fun k hk => ?_⟩, ?_⟩
              · show g_u2 (g_u2 y.2.1 w.2.2.2.1 0 (some o)) (Ad i) 2 (some w.2.2.2.1) (Ad j) 0 = _
                by_cases eji : Ad j = Ad i
                · rw [eji, g_u2_self, va_up_ne _ _ (by decide), g_u2_ne _ _ _ (by omega), ← eji, oj'.2.2]; exact c5
                · rw [g_u2_ne _ _ _ eji, g_u2_ne _ _ _ (by omega), oj'.2.2]; exact c5
              · rw [va_up_ne _ _ ej]
                refine c8.kp (fun b e1 e2 => ?_)
                have ob := old b (by omega) (by omega)
                have hbi : b ≠ Ad i := fun q => by
                  have := c9 i (by omega)
                  omega
                exact ⟨by rw [g_u2_ne _ _ _ (by omega), ob.1], ob.2.1, by show g_u2 _ _ _ _ b = _; rw [g_u2_ne _ _ _ hbi, g_u2_ne _ _ _ (by omega), ob.2.2]⟩
              · by_cases ek : k = i + 1
                · rw [ek, up1]; omega
                · rw [up2 k (by omega)]
                  exact c9 k (by omega)
              · show g_u2 (g_u2 y.2.1 w.2.2.2.1 0 (some o)) (Ad i) 2 (some w.2.2.2.1) (Ad j) 2 = _
                by_cases eji : j = i
                · rw [eji, g_u2_self, va_up_self, if_pos (by omega), up1]
                · have := hC.2 j i (by omega) (Nat.le_refl _)
                  rw [g_u2_ne _ _ _ (by omega), g_u2_ne _ _ _ (by omega), oj'.2.2, c10, if_pos (by omega), if_pos (by omega), up2 (j + 1) (by omega)]
          · by_cases ek : k = i + 1
            · rw [ek, up1, up2 j (by omega)]
              exact alt j (by omega)
            · rw [up2 k (by omega), up2 j (by omega)]
              exact hC.2 j k hjk (by omega)
        have up0 : va_up Ad (i + 1) w.2.2.2.1 0 = Ad 0 := va_up_ne _ _ (by omega)
        have upi : va_up Ad (i + 1) w.2.2.2.1 (i + 1) = w.2.2.2.1 := va_up_self _ _ _
        have := ih _ _ (i + 1) (va_up Ad (i + 1) w.2.2.2.1) (va_up D (i + 1) C1) (fun F => if al = true then C F && C1 F else C F || C1 F) q _ N s3 (by omega) (by omega) hq.2 (by omega) (by omega) (by omega) hnew ?_ h1 h2
        · rw [up0, upi] at this
          exact this
        · funext F
          have hlow : ∀ m : Nat, m ≤ i → foB al (fun j => va_up D (i + 1) C1 j F) m = foB al (fun j => D j F) m := by
            intro m
            induction m with
            | zero =>
              intro _
              show va_up D (i + 1) C1 0 F = D 0 F
              rw [va_up_ne _ _ (by omega)]
            | succ m ihm =>
              intro hm
              rw [foB, foB, ihm (by omega), va_up_ne _ _ (by omega)]
          rw [foB, hlow i (Nat.le_refl _), hCe]
          dsimp only
          rw [va_up_self]
      · rw [hr] at h2
        refine ⟨fun c hc => (by cases hc), fun z hz => ?_⟩
        cases hz
        exact h2 f rfl kv y _ (s1.trF r1) (by omega)
    · rw [if_neg tt] at h1
      unfold f_X2_row_81
      rw [bI_f tt, gW_ift rfl, gW_ret, kT_f tt]
      have s0 : QS x iv u (aT x jv (kB B e p')) w (kB B e p') n := (q1.tr (QS.att (p := kB B e p'))).le (by omega)
      refine h1 _ _ rfl _ w (Ad 0) n s0 (by omega) ?_
      rw [hCe]
      exact (hC.cd (by omega)).nr (Nr.att (x := x)) (by omega)
/-- a row of conditions -/
theorem w_row {al : Bool} {A : Nat → gPR sCs} (hA : okA B e A) {d dp s k0 : Nat} (hs : 1 ≤ s) {R1 : Nat → Int32 → gM (Nat ⊕ gE)} {R2 : Nat → gM (Nat ⊕ gE)} (hg : okR x B e d dp s k0 A (if al = true then R2 (x + 1) else R1 (x + 1) 1)) : okR x B e (d + 1) dp (s - 1) (k0 + 1) (pRow B e al A) (f_X2_row R1 R2 (x + 1) (bI (al = true))) := by
  intro iv u p h hat hp h9 P h1 h2
  have hx := h.2.2.2.2.2
  have h4 := h.e4
  unfold pRow at h1 h2
  unfold f_X2_row gNew
  rw [gW_B]
  refine w_al (fun j1 w1 A1 => ?_)
  have q1 := A1.qs (by decide) hat hx
  have hj1 := h.qs q1
  obtain ⟨a1, a2, a3, a4, a5, a6, a7⟩ := A1
  refine w_br hj1.X ?_
  refine hg j1 w1 p hj1 q1.1 hp (by rw [q1.2.1 9 (by decide)]; exact h9) _ (fun C1 q hr kv y o n1 r1 r2 r3 => ⟨fun c hc => ?_, fun z hz => by cases hz⟩) (fun f hr kv y n1 r1 r2 => ⟨fun c hc => (by cases hc), fun z hz => ?_⟩)
  · cases hc
    rw [hr] at h1 h2
    dsimp only at h1 h2
    have hq := hA _ _ _ hp hr
    have s2 := q1.tr r1
    have nle1 := r1.2.2.2.1.2.2
    have sN : y.1 u.2.2.2.1 = some (.inr 8) := by rw [(r1.2.2.2.1.1 _ (by omega)).1]; exact a1
    have rN : ∀ j : Nat, y.2.1 u.2.2.2.1 j = none := fun j => by rw [(r1.2.2.2.1.1 _ (by omega)).2]; exact a3 j
    unfold f_X2_row_20 f_X9_init
    rw [gW_B, gW_B, gW_PQ sN, gW_B, gW_PZ (u := (y.1, g_u2 y.2.1 u.2.2.2.1 0 (some o), y.2.2)) sN bI_o, gW_ret]
    have s3 : QS x iv u (g_u2 kv u.2.2.2.1 1 (bI (al = true))) (y.1, g_u2 y.2.1 u.2.2.2.1 0 (some o), y.2.2) q (1 + n1) := s2.new (fun a ha => ⟨g_u2_ne _ _ _ (by omega), rfl, g_u2_ne _ _ _ (by omega)⟩) (by omega) rfl
    refine w_row_27 hA hs hg (p := p) h h9 401 _ _ 0 (fun _ => u.2.2.2.1) (fun _ => C1) C1 q (1 + n1) gN s3 (by omega) (by omega) hq.2 (by omega) (by omega) (by rw [gN_eq]; omega) ⟨fun j hj => ?_, fun j k hjk hk => by omega⟩ rfl h1 h2
    dsimp only
    refine ⟨Nat.le_refl _, by omega, sN, by rw [g_u2_self, va_up_self], ⟨o, u.2.2.2.1 + 1, y.2.2.2.1, ?_, by omega, Nat.le_refl _, ?_, fun k _ => by omega⟩, ?_⟩
    · show g_u2 y.2.1 u.2.2.2.1 0 (some o) u.2.2.2.1 0 = _
      rw [g_u2_self, va_up_self]
    · have r3' := r3.2.2
      rw [a6] at r3'
      have r4 : cdR d (u.2.2.2.1 + 1) y.2.2.2.1 kv y o C1 := r3'
      exact r4.kp (fun b c1 c2 => ⟨g_u2_ne _ _ _ (by omega), rfl, g_u2_ne _ _ _ (by omega)⟩)
    · show g_u2 y.2.1 u.2.2.2.1 0 (some o) u.2.2.2.1 2 = _
      rw [g_u2_self, va_up_ne _ _ (by decide), rN, if_neg (by omega)]
  · cases hz
    rw [hr] at h2
    exact h2 f rfl kv y _ (q1.trF r1) (by omega)
/-- by the recursion of the component -/
theorem w_rec : ∀ r : Nat, r ≤ 6 → (∀ dd : Nat, 3 * r + 1 ≤ dd → okR x B e (2 * r + 1) (6 - r) 3 4 (pAtm B e r) (f_X2_atom_r dd (x + 1))) ∧ ∀ dd : Nat, 3 * r + 3 ≤ dd → okR x B e (2 * r + 3) (6 - r) 1 6 (pCnd B e (pAtm B e r)) (f_X2_row_r dd (x + 1) 0) := by
  have rows : ∀ r : Nat, (∀ dd : Nat, 3 * r + 1 ≤ dd → okR x B e (2 * r + 1) (6 - r) 3 4 (pAtm B e r) (f_X2_atom_r dd (x + 1))) → ∀ dd : Nat, 3 * r + 3 ≤ dd → okR x B e (2 * r + 3) (6 - r) 1 6 (pCnd B e (pAtm B e r)) (f_X2_row_r dd (x + 1) 0) := by
    intro r hat dd hd
    obtain ⟨dd, rfl⟩ : ∃ d', dd = d' + 1 + 1 := ⟨dd - 2, by omega⟩
    have h1 : okR x B e (2 * r + 2) (6 - r) 2 5 (pRow B e true (pAtm B e r)) (f_X2_row (f_recA dd).1 (f_recA dd).2 (x + 1) (bI (true = true))) := w_row (al := true) (okA.atm r) (s := 3) (k0 := 4) (by decide) (hat dd (by omega))
    rw [bI_t rfl] at h1
    have h2 : okR x B e (2 * r + 3) (6 - r) 1 6 (pRow B e false (pRow B e true (pAtm B e r))) (f_X2_row (f_recA (dd + 1)).1 (f_recA (dd + 1)).2 (x + 1) (bI (false = true))) := w_row (al := false) ((okA.atm r).row) (s := 2) (k0 := 5) (by decide) h1
    rw [bI_f (by decide)] at h2
    exact h2
  intro r
  induction r with
  | zero =>
    intro _
    have h0 : ∀ dd : Nat, 3 * 0 + 1 ≤ dd → okR x B e (2 * 0 + 1) (6 - 0) 3 4 (pAtm B e 0) (f_X2_atom_r dd (x + 1)) := by
      intro dd hd
      obtain ⟨dd, rfl⟩ : ∃ d', dd = d' + 1 := ⟨dd - 1, by omega⟩
      exact w_atom0
    exact ⟨h0, rows 0 h0⟩
  | succ r ih =>
    intro hr
    obtain ⟨i1, i2⟩ := ih (by omega)
    have h0 : ∀ dd : Nat, 3 * (r + 1) + 1 ≤ dd → okR x B e (2 * (r + 1) + 1) (6 - (r + 1)) 3 4 (pAtm B e (r + 1)) (f_X2_atom_r dd (x + 1)) := by
      intro dd hd
      obtain ⟨dd, rfl⟩ : ∃ d', dd = d' + 1 := ⟨dd - 1, by omega⟩
      have e6 : 6 - r = 6 - (r + 1) + 1 := by omega
      have j1 := i1 dd (by omega)
      have j2 := i2 dd (by omega)
      rw [e6] at j1 j2
      exact w_atom (d := 2 * r + 1) (dp := 6 - (r + 1)) (by omega) j2 j1
    exact ⟨h0, rows (r + 1) h0⟩
end CO
