/-! OPS: swap -/
section SWP
variable {iv jv kv lv : gV} {u v : gU} {x z b n t : Nat} {V : Nat → Int32} {pn on : Nat} {L : gLw}
/-- two slots change -/
def trS (a c s : Nat) : Nat := if s = a then c else if s = c then a else s
theorem trS2 {a c s : Nat} : trS a c (trS a c s) = s := by
  unfold trS
  by_cases h1 : s = a
  · rw [if_pos h1]
    by_cases h2 : c = a
    · rw [if_pos h2]; omega
    · rw [if_neg h2, if_pos rfl]; omega
  · rw [if_neg h1]
    by_cases h2 : s = c
    · rw [if_pos h2, if_pos rfl]; omega
    · rw [if_neg h2, if_neg h1, if_neg h2]
theorem trS_lt {a c s : Nat} (ha : a < 10) (hc : c < 10) (hs : s < 10) : trS a c s < 10 := by
  unfold trS
  split
  · exact hc
  · split
    · exact ha
    · exact hs
/-- the court behind it -/
def swV (V : Nat → Int32) (pn a c : Nat) : Nat → Int32 := fun k => if 12 ≤ k ∧ k < 12 + 4 * pn ∧ k % 4 = 0 then (if V k = iN a then iN c else if V k = iN c then iN a else V k) else V k
theorem sw_o {a c k : Nat} (h : ¬ (12 ≤ k ∧ k < 12 + 4 * pn ∧ k % 4 = 0)) : swV V pn a c k = V k := if_neg h
theorem sw_p {a c p : Nat} (h : p < pn) : swV V pn a c (9 + 4 * p + 3) = (if V (9 + 4 * p + 3) = iN a then iN c else if V (9 + 4 * p + 3) = iN c then iN a else V (9 + 4 * p + 3)) := if_pos ⟨by omega, by omega, by omega⟩
theorem sw_back {a c : Nat} (ha : a < 10) (hc : c < 10) : swV (swV V pn a c) pn a c = V := by
  funext k
  unfold swV
  by_cases h : 12 ≤ k ∧ k < 12 + 4 * pn ∧ k % 4 = 0
  · simp only [if_pos h]
    by_cases h1 : V k = iN a
    · rw [if_pos h1]
      by_cases h2 : iN c = iN a
      · rw [if_pos h2, h1, h2]
      · rw [if_neg h2, if_pos rfl, h1]
    · rw [if_neg h1]
      by_cases h2 : V k = iN c
      · rw [if_pos h2, if_pos rfl, h2]
      · rw [if_neg h2, if_neg h1, if_neg h2]
  · simp only [if_neg h]
theorem sIn_iff2 {W W' : Nat → Int32} {y y' : Int32} (h : ∀ p : Nat, p < pn → (W' (9 + 4 * p + 3) = y' ↔ W (9 + 4 * p + 3) = y)) : sIn W' pn y' = sIn W pn y := by
  unfold sIn
  have : ∀ k i : Nat, i + k = pn → sInF W' y' k i = sInF W y k i := by
    intro k
    induction k with
    | zero => exact fun _ _ => rfl
    | succ k ih =>
      intro i hi
      rw [sInF, sInF, ih (i + 1) (by omega)]
      by_cases c : W (9 + 4 * i + 3) = y
      · rw [if_pos c, if_pos ((h i (by omega)).mpr c)]
      · rw [if_neg c, if_neg (fun q => c ((h i (by omega)).mp q))]
  exact this pn 0 (by omega)
theorem iNe {a c : Nat} (ha : a < 10) (hc : c < 10) : (iN a = iN c) = (a = c) := propext (iN_eq (by omega) (by omega))
theorem sw_sIn (hW : WI V pn on) {a c s : Nat} (ha : a < 10) (hc : c < 10) (hs : s < 10) : sIn (swV V pn a c) pn (iN s) = sIn V pn (iN (trS a c s)) := by
  refine sIn_iff2 (fun p hp => ?_)
  rw [sw_p hp]
  rcases (hW.2.1 p hp).1 with e | ⟨r, hr, e⟩
  · rw [e]
    have m : ∀ k : Nat, k < 10 → ¬ (-1 : Int32) = iN k := fun k hk q => iN_eqm (by omega) q.symm
    rw [if_neg (m a ha), if_neg (m c hc)]
    exact ⟨fun q => absurd q (m s hs), fun q => absurd q (m _ (trS_lt ha hc hs))⟩
  · rw [e]
    simp only [iNe hr ha, iNe hr hc, iNe hr (trS_lt ha hc hs)]
    unfold trS
    by_cases h1 : r = a
    · rw [if_pos h1, iNe hc hs]
      by_cases h2 : s = a
      · rw [if_pos h2]; omega
      · rw [if_neg h2]
        by_cases h3 : s = c
        · rw [if_pos h3]; omega
        · rw [if_neg h3]; omega
    · rw [if_neg h1]
      by_cases h4 : r = c
      · rw [if_pos h4, iNe ha hs]
        by_cases h2 : s = a
        · rw [if_pos h2]; omega
        · rw [if_neg h2]
          by_cases h3 : s = c
          · rw [if_pos h3]; omega
          · rw [if_neg h3]; omega
      · rw [if_neg h4, iNe hr hs]
        by_cases h2 : s = a
        · rw [if_pos h2]; omega
        · rw [if_neg h2]
          by_cases h3 : s = c
          · rw [if_pos h3]; omega
          · rw [if_neg h3]
theorem sw_WI (hW : WI V pn on) {a c : Nat} (ha : a < 10) (hc : c < 10) : WI (swV V pn a c) pn on := by
  have h8 := hW.1.2.1
  have h6 := hW.1.2.2.2
  have o : ∀ k : Nat, ¬ (12 ≤ k ∧ k < 12 + 4 * pn ∧ k % 4 = 0) → swV V pn a c k = V k := fun k h => sw_o h
  have dz := hW.2.1
  have dd := hW.2.2.1
  obtain ⟨⟨a1, a2, a3, a4⟩, b, c', d, f1, f2, f3, f4, f5⟩ := hW
  refine ⟨⟨by rw [o 0 (by omega)]; exact a1, a2, by rw [o 1 (by omega)]; exact a3, a4⟩, fun p hp => ?_, fun p q hp hq => ?_, fun o' ho' => ?_, ?_, ?_, ?_, ?_, ?_⟩
  · obtain ⟨d3, d0, d1, d2⟩ := b p hp
    refine ⟨?_, by rw [o _ (by omega)]; exact d0, by rw [o _ (by omega)]; exact d1, by rw [o _ (by omega)]; exact d2⟩
    rw [sw_p hp]
    split
    · exact Or.inr ⟨c, hc, rfl⟩
    · split
      · exact Or.inr ⟨a, ha, rfl⟩
      · exact d3
  · intro e hne
    have m : ∀ k : Nat, k < 10 → ¬ (-1 : Int32) = iN k := fun k hk q => iN_eqm (by omega) q.symm
    have both : ∀ p : Nat, p < pn → (V (9 + 4 * p + 3) = -1 ∧ swV V pn a c (9 + 4 * p + 3) = -1) ∨ ∃ r : Nat, r < 10 ∧ V (9 + 4 * p + 3) = iN r ∧ swV V pn a c (9 + 4 * p + 3) = iN (trS a c r) := by
      intro p hp
      rw [sw_p hp]
      rcases (dz p hp).1 with e | ⟨r, hr, e⟩
      · exact Or.inl ⟨e, by rw [e, if_neg (m a ha), if_neg (m c hc)]⟩
      · refine Or.inr ⟨r, hr, e, ?_⟩
        rw [e]
        simp only [iNe hr ha, iNe hr hc]
        unfold trS
        split
        · rfl
        · split
          · rfl
          · rfl
    rcases both p hp with ⟨p1, p2⟩ | ⟨r, r1, r2, r3⟩
    · exact (hne p2).elim
    · rcases both q hq with ⟨q1, q2⟩ | ⟨s, s1, s2, s3⟩
      · exact (hne (e.trans q2)).elim
      · rw [r3, s3, iNe (trS_lt ha hc r1) (trS_lt ha hc s1)] at e
        have : r = s := by
          have := congrArg (trS a c) e
          rw [trS2, trS2] at this
          exact this
        exact dd p q hp hq (by rw [r2, s2, this]) (by rw [r2]; exact fun h => m r r1 h.symm)
  · rw [o _ (by omega), o _ (by omega), o _ (by omega), o _ (by omega)]; exact d o' ho'
  · rw [o 2 (by omega)]; exact f1
  · rw [o 4 (by omega)]; exact f2
  · rw [o 5 (by omega)]; exact f3
  · rw [o 6 (by omega)]; exact f4
  · rw [o 3 (by omega)]; exact f5
/-- the component's slots are others: a weak court -/
theorem CI.slo (hC : CI x iv u V pn on L) {V' : Nat → Int32} (hW : WI V' pn on) (hV : ∀ k : Nat, ¬ (12 ≤ k ∧ k < 12 + 4 * pn ∧ k % 4 = 0) → V' k = V k) (hk : ∀ c : Nat, c ≠ x + 28 + 4 → kv c = iv c) (hs : ∀ s : Nat, s < 10 → kv (x + 28 + 4) s = sIn V' pn (iN s)) : CI x kv u V' pn on L := by
  obtain ⟨c1, ⟨s1, s2, s3, s4, s5, sp, so, sl⟩, c3, c4, c5⟩ := hC
  have h8 := hW.1.2.1
  have h6 := hW.1.2.2.2
  refine ⟨c1, ⟨by rw [hk _ (by omega)]; exact s1, by rw [hk _ (by omega)]; exact s2, by rw [hk _ (by omega), hV 5 (by omega)]; exact s3, by rw [hk _ (by omega), hV 6 (by omega)]; exact s4, by rw [hk _ (by omega), hV 8 (by omega)]; exact s5, fun p hp f hf => ?_, fun o ho f hf => ?_, hs⟩, hW, c4.fr Ux.rf (fun a _ _ => hk a (by omega)) (by rw [hk _ (by omega)]) (by omega), c5⟩
  · rw [hk _ (by omega), hV _ (by omega)]; exact sp p hp f hf
  · rw [hk _ (by omega), hV _ (by omega)]; exact so o ho f hf
theorem MI.slo (hM : MI x iv u V pn on L) {V' : Nat → Int32} (hW : WI V' pn on) (hV : ∀ k : Nat, ¬ (12 ≤ k ∧ k < 12 + 4 * pn ∧ k % 4 = 0) → V' k = V k) (e : kv (x + 353 + 1) = V') : MI x kv u V' pn on L := by
  have h8 := hW.1.2.1
  exact ⟨hM.1, e, hW, mL.h3 hM.lL (fun k hk => hV k (by omega))⟩
theorem c_chg (HX : XS u x) {a c : Nat} (ha : a < 10) (hc : c < 10) {P : Unit → g_H → Prop} (hP : ∀ kv : gV, (∀ d : Nat, d ≠ x + 28 + 4 → kv d = iv d) → (∀ s : Nat, kv (x + 28 + 4) s = iv (x + 28 + 4) (trS a c s)) → P () (kv, u)) : gW (f_X1_changes x (iN a) (iN c)) (iv, u) P := by
  unfold f_X1_changes
  rw [gW_B, rXr1 HX, gW_B, rSr3 HX.nw, gW_B, rSa3 HX.nw ha, gW_B, rXr1 HX, gW_B, rSr3 HX.nw, gW_B, rXr1 HX, gW_B, rSr3 HX.nw, gW_B, rSa3 HX.nw hc, gW_B, rSs3 HX.nw ha, gW_B, rXr1 HX, gW_B, rSr3 HX.nw, gW_B, rSs3 HX.nw hc, gW_ret]
  refine hP _ (fun d hd => by rw [g_u2_ne _ _ _ hd, g_u2_ne _ _ _ hd]) (fun s => ?_)
  rw [g_u2_self, g_u2_self]
  unfold trS
  by_cases h1 : s = c
  · rw [h1, va_up_self]
    by_cases h2 : c = a
    · rw [if_pos h2, h2]
    · rw [if_neg h2, if_pos rfl]
  · rw [va_up_ne _ _ h1]
    by_cases h2 : s = a
    · rw [h2, va_up_self, if_pos rfl]
    · rw [va_up_ne _ _ h2, if_neg h2, if_neg h1]
theorem m_chg (hM : MI x iv u V pn on L) {a c : Nat} (ha : a < 10) (hc : c < 10) {P : Unit → g_H → Prop} (hP : ∀ kv : gV, (∀ d : Nat, d ≠ x + 353 + 1 → kv d = iv d) → kv (x + 353 + 1) = swV V pn a c → P () (kv, u)) : gW (f_X8_changes (x + 353) (iN a) (iN c)) (iv, u) P := by
  have H := hM.M
  have h8 := hM.p8
  have hW := hM.W
  have m : ∀ k : Nat, k < 10 → iN k ≠ (-1 : Int32) := fun k hk => iN_eqm (by omega)
  unfold f_X8_changes f_X8_changes_29 f_X8_changes_47
  rw [gW_B, rMc H, gW_B, w_propIn H hM.pN h8, gW_B, rMc H, gW_B, w_propIn H hM.pN h8, hM.vE]
  -- what a write is, by the court
  have uni : ∀ (y : Nat), y < 10 → ∀ p q : Nat, p < pn → q < pn → V (9 + 4 * p + 3) = iN y → V (9 + 4 * q + 3) = iN y → p = q := fun y hy p q hp hq e1 e2 => hW.2.2.1 p q hp hq (e1.trans e2.symm) (by rw [e1]; exact m y hy)
  rcases sIn_or V pn (iN a) with e1 | ⟨p, hp, e1, e3⟩
  · have n1 := sIn_none hW e1 (m a ha)
    rw [gW_ift e1]
    rcases sIn_or V pn (iN c) with e2 | ⟨q, hq, e2, e4⟩
    · have n2 := sIn_none hW e2 (m c hc)
      rw [gW_ift e2, gW_ret]
      refine hP iv (fun _ _ => rfl) ?_
      rw [hM.vE]
      funext k
      unfold swV
      by_cases hk : 12 ≤ k ∧ k < 12 + 4 * pn ∧ k % 4 = 0
      · obtain ⟨p, hp, rfl⟩ : ∃ p, p < pn ∧ k = 9 + 4 * p + 3 := ⟨(k - 12) / 4, by omega, by omega⟩
        rw [if_pos hk, if_neg (n1 p hp), if_neg (n2 p hp)]
      · rw [if_neg hk]
    · rw [gW_iff (by rw [e2]; exact iN_eqm (by omega)), e2, gW_B, rMr0 H, gW_B, wpA.2.2.2, gW_B, rMs0 H (by omega), gW_ret]
      refine hP _ (fun d hd => g_u2_ne _ _ _ hd) ?_
      rw [g_u2_self, hM.vE]
      funext k
      unfold swV
      by_cases hk : 12 ≤ k ∧ k < 12 + 4 * pn ∧ k % 4 = 0
      · obtain ⟨r, hr, rfl⟩ : ∃ p, p < pn ∧ k = 9 + 4 * p + 3 := ⟨(k - 12) / 4, by omega, by omega⟩
        rw [if_pos hk, if_neg (n1 r hr)]
        by_cases er : r = q
        · rw [er, va_up_self, if_pos e4]
        · rw [va_up_ne _ _ (by omega), if_neg (fun h => er (uni c hc r q hr hq h e4))]
      · rw [if_neg hk, va_up_ne _ _ (by omega)]
  · rw [gW_iff (by rw [e1]; exact iN_eqm (by omega)), e1, gW_B, rMr0 H, gW_B, wpA.2.2.2, gW_B, rMs0 H (by omega)]
    rcases sIn_or V pn (iN c) with e2 | ⟨q, hq, e2, e4⟩
    · have n2 := sIn_none hW e2 (m c hc)
      rw [gW_ift e2, gW_ret]
      refine hP _ (fun d hd => g_u2_ne _ _ _ hd) ?_
      rw [g_u2_self, hM.vE]
      funext k
      unfold swV
      by_cases hk : 12 ≤ k ∧ k < 12 + 4 * pn ∧ k % 4 = 0
      · obtain ⟨r, hr, rfl⟩ : ∃ p, p < pn ∧ k = 9 + 4 * p + 3 := ⟨(k - 12) / 4, by omega, by omega⟩
        rw [if_pos hk]
        by_cases er : r = p
        · rw [er, va_up_self, if_pos e3]
        · rw [va_up_ne _ _ (by omega), if_neg (fun h => er (uni a ha r p hr hp h e3)), if_neg (n2 r hr)]
      · rw [if_neg hk, va_up_ne _ _ (by omega)]
    · rw [gW_iff (by rw [e2]; exact iN_eqm (by omega)), e2, gW_B, rMr0 H, gW_B, wpA.2.2.2, gW_B, rMs0 H (by omega), gW_ret]
      refine hP _ (fun d hd => by rw [g_u2_ne _ _ _ hd, g_u2_ne _ _ _ hd]) ?_
      rw [g_u2_self, g_u2_self, hM.vE]
      funext k
      unfold swV
      by_cases hk : 12 ≤ k ∧ k < 12 + 4 * pn ∧ k % 4 = 0
      · obtain ⟨r, hr, rfl⟩ : ∃ p, p < pn ∧ k = 9 + 4 * p + 3 := ⟨(k - 12) / 4, by omega, by omega⟩
        rw [if_pos hk]
        by_cases er : r = q
        · rw [er, va_up_self]
          by_cases h : V (9 + 4 * q + 3) = iN a
          · rw [if_pos h]
            exact h.symm.trans e4
          · rw [if_neg h, if_pos e4]
        · rw [va_up_ne _ _ (by omega)]
          by_cases er2 : r = p
          · rw [er2, va_up_self, if_pos e3]
          · rw [va_up_ne _ _ (by omega), if_neg (fun h => er2 (uni a ha r p hr hp h e3)), if_neg (fun h => er (uni c hc r q hr hq h e4))]
      · rw [if_neg hk, va_up_ne _ _ (by omega), va_up_ne _ _ (by omega)]
/-- the component tries two slots -/
theorem c_try (hC : CI x iv u V pn on L) {a c : Nat} (ha : a < 10) (hc : c < 10) {k : Int32 → gM Int32} {P : Int32 → g_H → Prop} (hP : ∀ kv : gV, cQ x iv kv → CI x kv u V pn on L → gW (k (gapS (swV V pn a c) pn on L)) (kv, u) P) : gW (gB (gCk x 0) fun _ => gB (f_X1_changes x (iN a) (iN c)) fun _ => gB (gCk x 0) fun _ => gB (f_X1_gap x) fun r102 => gB (gCk x 0) fun _ => gB (f_X1_changes x (iN a) (iN c)) fun _ => k r102) (iv, u) P := by
  have HX := hC.X
  rw [gW_B, rXc HX, gW_B]
  refine c_chg HX ha hc (fun k1 a1 b1 => ?_)
  have hC1 : CI x k1 u (swV V pn a c) pn on L := hC.slo (sw_WI hC.W ha hc) (fun k hk => sw_o hk) a1 (fun s hs => by rw [b1 s, hC.s (trS_lt ha hc hs), sw_sIn hC.W ha hc hs])
  rw [gW_B, rXc HX, gW_B]
  refine c_gap hC1 (fun k2 a2 hC2 => ?_)
  rw [gW_B, rXc HX, gW_B]
  refine c_chg HX ha hc (fun k3 a3 b3 => ?_)
  have q : cQ x iv k3 := fun d d1 d2 => by
    by_cases e : d = x + 28 + 4
    · subst e
      funext s
      rw [b3 s, a2 _ (by omega) (by omega), b1, trS2]
    · rw [a3 d e, a2 d d1 d2, a1 d e]
  exact hP k3 q (hC.fr q.S)
theorem m_try (hM : MI x iv u V pn on L) (hL : lS L) {a c : Nat} (ha : a < 10) (hc : c < 10) {k : Int32 → gM Int32} {P : Int32 → g_H → Prop} (hP : ∀ kv : gV, Sm x iv kv → MI x kv u V pn on L → gW (k (gapS (swV V pn a c) pn on L)) (kv, u) P) : gW (gB (gCk (x + 353) 7) fun _ => gB (f_X8_changes (x + 353) (iN a) (iN c)) fun _ => gB (gCk (x + 353) 7) fun _ => gB (f_X8_gapNow (x + 353)) fun r102 => gB (gCk (x + 353) 7) fun _ => gB (f_X8_changes (x + 353) (iN a) (iN c)) fun _ => k r102) (iv, u) P := by
  have H := hM.M
  rw [gW_B, rMc H, gW_B]
  refine m_chg hM ha hc (fun k1 a1 b1 => ?_)
  have hM1 : MI x k1 u (swV V pn a c) pn on L := hM.slo (sw_WI hM.W ha hc) (fun k hk => sw_o hk) b1
  rw [gW_B, rMc H, gW_B]
  refine m_gap hM1 hL (fun k2 a2 hM2 => ?_)
  rw [gW_B, rMc H, gW_B]
  refine m_chg hM2 ha hc (fun k3 a3 b3 => ?_)
  rw [sw_back ha hc] at b3
  have q : Sm x iv k3 := ⟨fun i hi => by rw [a3 _ (by omega), a2.1 i hi, a1 _ (by omega)], fun d hd => by
    by_cases e : d = x + 353 + 1
    · subst e
      rw [b3, hM.vE]
    · rw [a3 d e, a2.a hd, a1 d e]⟩
  exact hP k3 q (hM.fr q.S)
noncomputable def swB (V : Nat → Int32) (pn on : Nat) (L : gLw) (a : Nat) : Nat → Nat → Int32 → Int32 → Int32 × Int32
  | 0, _, m, f => (m, f)
  | k + 1, c, m, f => if m < gapS (swV V pn a c) pn on L then swB V pn on L a k (c + 1) (gapS (swV V pn a c) pn on L) ((10 : Int32) * iN a + iN c) else swB V pn on L a k (c + 1) m f
noncomputable def swA (V : Nat → Int32) (pn on : Nat) (L : gLw) : Nat → Nat → Int32 → Int32 → Int32
  | 0, _, _, f => f
  | k + 1, a, m, f => swA V pn on L k (a + 1) (swB V pn on L a (9 - a) (a + 1) m f).1 (swB V pn on L a (9 - a) (a + 1) m f).2
theorem c_swap_20 {a : Nat} (ha : a < 10) {k9 : Nat → Int32 → Int32 → Int32 → gM Int32} {P : Int32 → g_H → Prop} : ∀ (k c N : Nat) (m f : Int32) (iv : gV), c + k = 10 → k < N → CI x iv u V pn on L → (∀ kv : gV, cQ x iv kv → CI x kv u V pn on L → gW (k9 x (swB V pn on L a k c m f).1 (swB V pn on L a k c m f).2 (iN (a + 1))) (kv, u) P) → gW (f_X1_swap_20 k9 N x m f (iN a) (iN c)) (iv, u) P := by
  intro k
  induction k with
  | zero =>
    intro c N m f iv h1 h2 hC hP
    obtain ⟨N, rfl⟩ : ∃ N', N = N' + 1 := ⟨N - 1, by omega⟩
    have : c = 10 := by omega
    subst this
    unfold f_X1_swap_20 f_X1_swap_73
    rw [gW_ift (by decide), iNp1]
    exact hP iv cQ.rf hC
  | succ k ih =>
    intro c N m f iv h1 h2 hC hP
    obtain ⟨N, rfl⟩ : ∃ N', N = N' + 1 := ⟨N - 1, by omega⟩
    rw [f_X1_swap_20, gW_iff (by rw [show (10 : Int32) = iN 10 from rfl, iN_le (by omega) (by omega)]; omega)]
    rw [swB] at hP
    refine c_try hC ha (show c < 10 by omega) (fun kv g1 g2 => ?_)
    unfold f_X1_swap_67
    by_cases e : m < gapS (swV V pn a c) pn on L
    · rw [if_pos e] at hP
      rw [gW_ift e, iNp1]
      exact ih (c + 1) N _ _ kv (by omega) (by omega) g2 (fun lv q1 q2 => hP lv (g1.tr q1) q2)
    · rw [if_neg e] at hP
      rw [gW_iff e, iNp1]
      exact ih (c + 1) N _ _ kv (by omega) (by omega) g2 (fun lv q1 q2 => hP lv (g1.tr q1) q2)
theorem c_swap_9 {P : Int32 → g_H → Prop} : ∀ (k a N : Nat) (m f : Int32) (iv : gV), a + k = 10 → k < N → CI x iv u V pn on L → (∀ kv : gV, cQ x iv kv → CI x kv u V pn on L → P (swA V pn on L k a m f) (kv, u)) → gW (f_X1_swap_9 N x m f (iN a)) (iv, u) P := by
  intro k
  induction k with
  | zero =>
    intro a N m f iv h1 h2 hC hP
    obtain ⟨N, rfl⟩ : ∃ N', N = N' + 1 := ⟨N - 1, by omega⟩
    have : a = 10 := by omega
    subst this
    unfold f_X1_swap_9 f_X1_swap_79
    rw [gW_ift (by decide), gW_ret]
    exact hP iv cQ.rf hC
  | succ k ih =>
    intro a N m f iv h1 h2 hC hP
    obtain ⟨N, rfl⟩ : ∃ N', N = N' + 1 := ⟨N - 1, by omega⟩
    rw [f_X1_swap_9, gW_iff (by rw [show (10 : Int32) = iN 10 from rfl, iN_le (by omega) (by omega)]; omega), iNp1]
    rw [swA] at hP
    refine c_swap_20 (show a < 10 by omega) (9 - a) (a + 1) gN m f iv (by omega) (by rw [gN_eq]; omega) hC (fun kv g1 g2 => ?_)
    exact ih (a + 1) N _ _ kv (by omega) (by omega) g2 (fun lv q1 q2 => hP lv (g1.tr q1) q2)
theorem m_swap_25 (hL : lS L) {a : Nat} (ha : a < 10) {k9 : Nat → Int32 → Int32 → Int32 → gM Int32} {P : Int32 → g_H → Prop} : ∀ (k c N : Nat) (m f : Int32) (iv : gV), c + k = 10 → k < N → MI x iv u V pn on L → (∀ kv : gV, Sm x iv kv → MI x kv u V pn on L → gW (k9 (x + 353) (swB V pn on L a k c m f).2 (swB V pn on L a k c m f).1 (iN (a + 1))) (kv, u) P) → gW (f_X8_swap_25 k9 N (x + 353) f m (iN a) (iN c)) (iv, u) P := by
  intro k
  induction k with
  | zero =>
    intro c N m f iv h1 h2 hM hP
    obtain ⟨N, rfl⟩ : ∃ N', N = N' + 1 := ⟨N - 1, by omega⟩
    have : c = 10 := by omega
    subst this
    unfold f_X8_swap_25 f_X8_swap_83
    rw [gW_ift (by decide), iNp1]
    exact hP iv Sm.rf hM
  | succ k ih =>
    intro c N m f iv h1 h2 hM hP
    obtain ⟨N, rfl⟩ : ∃ N', N = N' + 1 := ⟨N - 1, by omega⟩
    rw [f_X8_swap_25, gW_iff (by rw [show (10 : Int32) = iN 10 from rfl, iN_le (by omega) (by omega)]; omega)]
    rw [swB] at hP
    refine m_try hM hL ha (show c < 10 by omega) (fun kv g1 g2 => ?_)
    unfold f_X8_swap_69
    by_cases e : m < gapS (swV V pn a c) pn on L
    · rw [if_pos e] at hP
      rw [gW_iff (Int32.not_le.mpr e), gW_B, w_max, show mX m (gapS (swV V pn a c) pn on L) = gapS (swV V pn a c) pn on L from if_pos e, iNp1]
      exact ih (c + 1) N _ _ kv (by omega) (by omega) g2 (fun lv q1 q2 => hP lv (g1.tr q1) q2)
    · rw [if_neg e] at hP
      rw [gW_ift (Int32.not_lt.mp e), gW_B, w_max, show mX m (gapS (swV V pn a c) pn on L) = m from if_neg e, iNp1]
      exact ih (c + 1) N _ _ kv (by omega) (by omega) g2 (fun lv q1 q2 => hP lv (g1.tr q1) q2)
theorem m_swap_14 (hL : lS L) {P : Int32 → g_H → Prop} : ∀ (k a N : Nat) (m f : Int32) (iv : gV), a + k = 10 → k < N → MI x iv u V pn on L → (∀ kv : gV, Sm x iv kv → MI x kv u V pn on L → P (swA V pn on L k a m f) (kv, u)) → gW (f_X8_swap_14 N (x + 353) f m (iN a)) (iv, u) P := by
  intro k
  induction k with
  | zero =>
    intro a N m f iv h1 h2 hM hP
    obtain ⟨N, rfl⟩ : ∃ N', N = N' + 1 := ⟨N - 1, by omega⟩
    have : a = 10 := by omega
    subst this
    unfold f_X8_swap_14 f_X8_swap_89
    rw [gW_ift (by decide), gW_ret]
    exact hP iv Sm.rf hM
  | succ k ih =>
    intro a N m f iv h1 h2 hM hP
    obtain ⟨N, rfl⟩ : ∃ N', N = N' + 1 := ⟨N - 1, by omega⟩
    rw [f_X8_swap_14, gW_iff (by rw [show (10 : Int32) = iN 10 from rfl, iN_le (by omega) (by omega)]; omega), iNp1]
    rw [swA] at hP
    refine m_swap_25 hL (show a < 10 by omega) (9 - a) (a + 1) gN m f iv (by omega) (by rw [gN_eq]; omega) hM (fun kv g1 g2 => ?_)
    exact ih (a + 1) N _ _ kv (by omega) (by omega) g2 (fun lv q1 q2 => hP lv (g1.tr q1) q2)
theorem o_swap : gOp1 x z b n t (f_X1_swap x) (f_X8_swap (x + 353)) := by
  intro iv u hR
  obtain ⟨pn, on, rm, L, hC, hM, h1⟩ := hR.get
  have HX := hC.X
  unfold f_X1_swap
  rw [gW_B, rXc HX, gW_B]
  refine c_gap hC (fun k1 a1 hC1 => ?_)
  show gW (f_X1_swap_9 gN x _ (-1) (iN 0)) _ _
  refine c_swap_9 10 0 gN _ _ k1 (by omega) (by rw [gN_eq]; omega) hC1 (fun kv g1 g2 => ?_)
  have S := (a1.tr g1).S
  refine op_end1 hR S ?_
  unfold f_X8_swap
  refine m_z (hM.fr S) (fun lv z1 z2 z3 hM2 => ?_)
  have H := hM2.M
  rw [gW_B, rMc H, gW_B]
  refine m_gap hM2 hC.lS (fun mv m1 hM3 => ?_)
  show gW (f_X8_swap_14 gN (x + 353) (-1) _ (iN 0)) _ _
  exact m_swap_14 hC.lS 10 0 gN _ _ mv (by omega) (by rw [gN_eq]; omega) hM3 (fun mw m2 m3 => ⟨rfl, rfl, z1.tr (m1.tr m2).S⟩)
end SWP
