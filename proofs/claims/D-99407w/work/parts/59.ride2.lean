/-! A RIDE OF THE COMPONENT -/
section CW
variable {iv iv0 : gV} {u : gU} {x : Nat}
def cRd (iv0 iv : gV) (x : Nat) (q : gRq) (scr : Int32) : Prop := iv (x + 28) = va_up (iv0 (x + 28)) 13 q.2.2.1 ∧ iv x 14 = scr ∧ iv x 16 = q.2.1 ∧ iv (x + 98) = q.2.2.2 ∧ (∀ k : Nat, k ≠ 14 → k ≠ 15 → k ≠ 16 → iv x k = iv0 x k) ∧ ∀ a : Nat, a ≠ x → a ≠ x + 28 → a ≠ x + 33 → a ≠ x + 98 → iv a = iv0 a
theorem rdLoop_stop (fr wr : Nat → Int32 → Int32) (on : Nat → Int32) (calm nerve : Int32) (dr te : Bool) (es : Int32) : ∀ (k s : Nat) (z : gRz), ¬ z.2.1 = -1 → (rdLoop fr wr on calm nerve dr te es k s z).1 = z.1 ∧ (rdLoop fr wr on calm nerve dr te es k s z).2.1 = z.2.1 := by
  intro k
  induction k with
  | zero => exact fun s z _ => ⟨rfl, rfl⟩
  | succ k ih =>
    intro s z hz
    rw [rdLoop, if_neg hz]
    exact ih (s + 1) _ hz
def eSet (ez : Int32) : Int32 := if ez = -1 then 0 else (1 : Int32) <<< (ez &&& 31)
theorem eSet_b {ez : Int32} (he : ez = -1 ∨ ∃ e : Nat, e < 8 ∧ ez = iN e) {p : Nat} (hp : p < 8) : ((eSet ez >>> (iN p &&& 31)) &&& 1 = 1) ↔ iN p = ez := by
  have h0 : ∀ p : Nat, p < 8 → ¬ (((0 : Int32) >>> (iN p &&& 31)) &&& 1 = 1) := by decide
  have h1 : ∀ e : Nat, e < 8 → ∀ p : Nat, p < 8 → (((((1 : Int32) <<< (iN e &&& 31)) >>> (iN p &&& 31)) &&& 1 = 1) ↔ p = e) := by decide
  rcases he with rfl | ⟨e, he, rfl⟩
  · unfold eSet
    rw [if_pos rfl]
    exact ⟨fun h => (h0 p hp h).elim, fun h => (iN_eqm (by omega) h).elim⟩
  · unfold eSet
    rw [if_neg (iN_eqm (by omega)), h1 e he p hp, iN_eq (by omega) (by omega)]
abbrev cFr (W : Nat → Int32) (lm : Nat) (K N : Nat → Int32) (C : Nat → (Nat → Int32) → Bool) (d n k : Int32) (p : Nat) (t : Int32) : Int32 := sFr W lm K N C p (sF W p t d n k)
abbrev cWr (W : Nat → Int32) (lm : Nat) (K N : Nat → Int32) (C : Nat → (Nat → Int32) → Bool) (d n k : Int32) (p : Nat) (t : Int32) : Int32 := sWr lm K N C (sF W p t d n k)
/-- who rides, and on what: at the start of a ride -/
def cRs (u : gU) (iv0 : gV) (x n1 top o lm : Nat) (K N : Nat → Int32) (C : Nat → (Nat → Int32) → Bool) (W : Nat → Int32) (d n k : Int32) : Prop := x + 101 ≤ n1 ∧ cL n1 top iv0 u (x + 28) lm K N C ∧ cOk C ∧ u.1 o = some (.inr 4) ∧ iv0 o 1 = n ∧ (iv0 x 17 = -1 ∨ ∃ e : Nat, e < 8 ∧ iv0 x 17 = iN e) ∧ ∀ s : Nat, s < 10 → iv0 (x + 32) s = -1 ∨ ∃ p : Nat, p < 8 ∧ cF iv0 (x + 28) o W p s d n k
theorem XS.oNe (H : XS u x) {o : Nat} (ho : u.1 o = some (.inr 4)) : o ≠ x ∧ o ≠ x + 28 ∧ o ≠ x + 33 ∧ o ≠ x + 98 := by
  refine ⟨fun e => ?_, fun e => ?_, fun e => ?_, fun e => ?_⟩
  · rw [e, H.1.1] at ho; cases ho
  · rw [e, H.nw.1] at ho; cases ho
  · rw [e, show x + 33 = x + 28 + 1 + 4 by omega, (H.nw.2.1 4 (by decide)).2] at ho; cases ho
  · rw [e, H.2.2.2.1.2.2.1] at ho; cases ho
theorem w_rides2_15 (H : XS u x) {n1 top o lm : Nat} {K N : Nat → Int32} {C : Nat → (Nat → Int32) → Bool} {W : Nat → Int32} {d n k : Int32} (hR : cRs u iv0 x n1 top o lm K N C W d n k) {dr : Bool} {P : Unit → g_H → Prop} :
    ∀ (j s f : Nat) (iv : gV) (z : gRz), s + j = 10 → j < f → cRd iv0 iv x z.1 z.2.1 →
      (∀ iv', cRd iv0 iv' x (rdLoop (cFr W lm K N C d n k) (cWr W lm K N C d n k) (iv0 (x + 32)) (iv0 (x + 28) 11) n dr false (eSet (iv0 x 17)) j s z).1 (rdLoop (cFr W lm K N C d n k) (cWr W lm K N C d n k) (iv0 (x + 32)) (iv0 (x + 28) 11) n dr false (eSet (iv0 x 17)) j s z).2.1 → iv' x 15 = (rdLoop (cFr W lm K N C d n k) (cWr W lm K N C d n k) (iv0 (x + 32)) (iv0 (x + 28) 11) n dr false (eSet (iv0 x 17)) j s z).1.1 → P () (iv', u)) →
      gW (f_X1_rides_15 f x o (bI (dr = true)) z.1.1 (iN s)) (iv, u) P := by
  obtain ⟨hn1, hL, hC, ho, hn, hez, hcF⟩ := hR
  obtain ⟨o1, o2, o3, o4⟩ := H.oNe ho
  have fin : ∀ (iv : gV) (q : gRq) (scr : Int32), cRd iv0 iv x q scr → cRd iv0 (g_u2 iv x 15 q.1) x q scr ∧ g_u2 iv x 15 q.1 x 15 = q.1 := by
    intro iv q scr ⟨a1, a2, a3, a4, a5, a6⟩
    have k1 : ∀ a, a ≠ x → g_u2 iv x 15 q.1 a = iv a := fun a h => g_u2_ne _ _ _ h
    have k2 : ∀ j, j ≠ 15 → g_u2 iv x 15 q.1 x j = iv x j := fun j h => by rw [g_u2_self, va_up_ne _ _ h]
    exact ⟨⟨by rw [k1 _ (by omega)]; exact a1, by rw [k2 _ (by decide)]; exact a2, by rw [k2 _ (by decide)]; exact a3, by rw [k1 _ (by omega)]; exact a4, fun j h1 h2 h3 => by rw [k2 j h2]; exact a5 j h1 h2 h3, fun a h1 h2 h3 h4 => by rw [k1 a h1]; exact a6 a h1 h2 h3 h4⟩, by rw [g_u2_self, va_up_self]⟩
  intro j
  induction j with
  | zero =>
    intro s f iv z h1 h2 hM hP
    obtain ⟨f, rfl⟩ : ∃ f', f = f' + 1 := ⟨f - 1, by omega⟩
    rw [f_X1_rides_15, gW_ift (by rw [show (10 : Int32) = iN 10 from rfl, iN_le (by omega) (by omega)]; omega)]
    unfold f_X1_rides_163
    simp (disch := omega) only [gW_B, gW_ret, gW_tr, gW_fa, iN_add, iN_mul, iN_sub, iN_m1, iNp1, iNp2, iNp3, iNp4, iNp5, iNp6, iNp8, iNp12, iNp16, iNp20, iNp305, iNl1, iNl6, iNl9, iNl12, iNl41, iNl65, iNl305, iNl306, iNl354, iNl1154, iNl1155, iNl1203, iNm2, iNm4, iNm6, iNm8, iNm10, iNm12, iNm60, iNm305, iNs1, iNs4, iNs8, rXi H, rXp H, rXc H, rXsi H, rXsp H, rXr0 H, rXr1 H, rXr2 H, rXr3 H, rXr4 H, rXr5 H, rXr6 H, rXr7 H, rXr8 H, rXr9 H, rXr10 H, rXa97 H, rXa98 H, rXa99 H, rXa100 H, rXs97 H, rXs98 H, rXs99 H, rXs100 H, rSi (H.nw), rSp (H.nw), rSc (H.nw), rSP (H.nw), rSO (H.nw), rSPi (H.nw), rSPp (H.nw), rSPc (H.nw), rSOi (H.nw), rSOp (H.nw), rSOc (H.nw), rSr0 (H.nw), rSr1 (H.nw), rSr2 (H.nw), rSr3 (H.nw), rSr4 (H.nw), rSr5 (H.nw), rSa3 (H.nw), rSa4 (H.nw), rSa5 (H.nw), rSs3 (H.nw), rSs4 (H.nw), rSs5 (H.nw), rSf0 (H.nw), rSf1 (H.nw), rSf2 (H.nw), rSf3 (H.nw), rSf4 (H.nw), rSf5 (H.nw), rSf6 (H.nw), rSf7 (H.nw)]
    exact hP _ (fin iv z.1 z.2.1 hM).1 (fin iv z.1 z.2.1 hM).2
  | succ j ih =>
    intro s f iv z h1 h2 hM hP
    obtain ⟨f, rfl⟩ : ∃ f', f = f' + 1 := ⟨f - 1, by omega⟩
    obtain ⟨a1, a2, a3, a4, a5, a6⟩ := id hM
    rw [f_X1_rides_15, gW_iff (by rw [show (10 : Int32) = iN 10 from rfl, iN_le (by omega) (by omega)]; omega)]
    simp (disch := omega) only [gW_B, gW_ret, gW_tr, gW_fa, iN_add, iN_mul, iN_sub, iN_m1, iNp1, iNp2, iNp3, iNp4, iNp5, iNp6, iNp8, iNp12, iNp16, iNp20, iNp305, iNl1, iNl6, iNl9, iNl12, iNl41, iNl65, iNl305, iNl306, iNl354, iNl1154, iNl1155, iNl1203, iNm2, iNm4, iNm6, iNm8, iNm10, iNm12, iNm60, iNm305, iNs1, iNs4, iNs8, rXi H, rXp H, rXc H, rXsi H, rXsp H, rXr0 H, rXr1 H, rXr2 H, rXr3 H, rXr4 H, rXr5 H, rXr6 H, rXr7 H, rXr8 H, rXr9 H, rXr10 H, rXa97 H, rXa98 H, rXa99 H, rXa100 H, rXs97 H, rXs98 H, rXs99 H, rXs100 H, rSi (H.nw), rSp (H.nw), rSc (H.nw), rSP (H.nw), rSO (H.nw), rSPi (H.nw), rSPp (H.nw), rSPc (H.nw), rSOi (H.nw), rSOp (H.nw), rSOc (H.nw), rSr0 (H.nw), rSr1 (H.nw), rSr2 (H.nw), rSr3 (H.nw), rSr4 (H.nw), rSr5 (H.nw), rSa3 (H.nw), rSa4 (H.nw), rSa5 (H.nw), rSs3 (H.nw), rSs4 (H.nw), rSs5 (H.nw), rSf0 (H.nw), rSf1 (H.nw), rSf2 (H.nw), rSf3 (H.nw), rSf4 (H.nw), rSf5 (H.nw), rSf6 (H.nw), rSf7 (H.nw), a2]
    by_cases hz : z.2.1 = -1
    · rw [gW_ift hz]
      rw [rdLoop, if_pos hz] at hP
      have es : iv (x + 28 + 4) = iv0 (x + 32) := a6 _ (by omega) (by omega) (by omega) (by omega)
      simp (disch := omega) only [gW_B, gW_ret, gW_tr, gW_fa, iN_add, iN_mul, iN_sub, iN_m1, iNp1, iNp2, iNp3, iNp4, iNp5, iNp6, iNp8, iNp12, iNp16, iNp20, iNp305, iNl1, iNl6, iNl9, iNl12, iNl41, iNl65, iNl305, iNl306, iNl354, iNl1154, iNl1155, iNl1203, iNm2, iNm4, iNm6, iNm8, iNm10, iNm12, iNm60, iNm305, iNs1, iNs4, iNs8, rXi H, rXp H, rXc H, rXsi H, rXsp H, rXr0 H, rXr1 H, rXr2 H, rXr3 H, rXr4 H, rXr5 H, rXr6 H, rXr7 H, rXr8 H, rXr9 H, rXr10 H, rXa97 H, rXa98 H, rXa99 H, rXa100 H, rXs97 H, rXs98 H, rXs99 H, rXs100 H, rSi (H.nw), rSp (H.nw), rSc (H.nw), rSP (H.nw), rSO (H.nw), rSPi (H.nw), rSPp (H.nw), rSPc (H.nw), rSOi (H.nw), rSOp (H.nw), rSOc (H.nw), rSr0 (H.nw), rSr1 (H.nw), rSr2 (H.nw), rSr3 (H.nw), rSr4 (H.nw), rSr5 (H.nw), rSa3 (H.nw), rSa4 (H.nw), rSa5 (H.nw), rSs3 (H.nw), rSs4 (H.nw), rSs5 (H.nw), rSf0 (H.nw), rSf1 (H.nw), rSf2 (H.nw), rSf3 (H.nw), rSf4 (H.nw), rSf5 (H.nw), rSf6 (H.nw), rSf7 (H.nw), es]
      -- the end of a slot, told how tense one is behind it
      have e142 : ∀ (q : gRq) (kv : gV), cRd iv0 kv x q (-1) → (rdStep (cFr W lm K N C d n k) (cWr W lm K N C d n k) (iv0 (x + 32) s) (iv0 (x + 28) 11) dr (eSet (iv0 x 17)) z.1).1 = q → gW (f_X1_rides_142 (f_X1_rides_15 f) x o (bI (dr = true)) (iN s) q.1) (kv, u) P := by
        intro q kv hk hq
        rw [hq] at hP
        unfold f_X1_rides_142 f_X1_rides_157
        have ko : kv o 1 = n := by rw [hk.2.2.2.2.2 o o1 o2 o3 o4]; exact hn
        rw [gW_B, gW_FI ho, ko]
        by_cases hle : q.1 ≤ n
        · rw [gW_ift hle]
          rw [if_neg (fun y => Int32.not_lt.mpr hle y.1)] at hP
          simp (disch := omega) only [iN_add, iN_mul, iN_sub, iN_m1, iNp1, iNp2, iNp3, iNp4, iNp5, iNp6, iNp8, iNp12, iNp16, iNp20, iNp305, iNl1, iNl6, iNl9, iNl12, iNl41, iNl65, iNl305, iNl306, iNl354, iNl1154, iNl1155, iNl1203, iNm2, iNm4, iNm6, iNm8, iNm10, iNm12, iNm60, iNm305, iNs1, iNs4, iNs8]
          exact ih (s + 1) f kv (q, -1, _, _) (by omega) (by omega) hk hP
        · rw [gW_iff hle]
          rw [if_pos ⟨Int32.not_le.mp hle, rfl⟩] at hP
          simp (disch := omega) only [gW_B, gW_ret, gW_tr, gW_fa, iN_add, iN_mul, iN_sub, iN_m1, iNp1, iNp2, iNp3, iNp4, iNp5, iNp6, iNp8, iNp12, iNp16, iNp20, iNp305, iNl1, iNl6, iNl9, iNl12, iNl41, iNl65, iNl305, iNl306, iNl354, iNl1154, iNl1155, iNl1203, iNm2, iNm4, iNm6, iNm8, iNm10, iNm12, iNm60, iNm305, iNs1, iNs4, iNs8, rXi H, rXp H, rXc H, rXsi H, rXsp H, rXr0 H, rXr1 H, rXr2 H, rXr3 H, rXr4 H, rXr5 H, rXr6 H, rXr7 H, rXr8 H, rXr9 H, rXr10 H, rXa97 H, rXa98 H, rXa99 H, rXa100 H, rXs97 H, rXs98 H, rXs99 H, rXs100 H, rSi (H.nw), rSp (H.nw), rSc (H.nw), rSP (H.nw), rSO (H.nw), rSPi (H.nw), rSPp (H.nw), rSPc (H.nw), rSOi (H.nw), rSOp (H.nw), rSOc (H.nw), rSr0 (H.nw), rSr1 (H.nw), rSr2 (H.nw), rSr3 (H.nw), rSr4 (H.nw), rSr5 (H.nw), rSa3 (H.nw), rSa4 (H.nw), rSa5 (H.nw), rSs3 (H.nw), rSs4 (H.nw), rSs5 (H.nw), rSf0 (H.nw), rSf1 (H.nw), rSf2 (H.nw), rSf3 (H.nw), rSf4 (H.nw), rSf5 (H.nw), rSf6 (H.nw), rSf7 (H.nw)]
          refine ih (s + 1) f _ (q, iN s, _, _) (by omega) (by omega) ?_ hP
          obtain ⟨b1, b2, b3, b4, b5, b6⟩ := hk
          have k1 : ∀ a, a ≠ x → g_u2 kv x 14 (iN s) a = kv a := fun a h => g_u2_ne _ _ _ h
          have k2 : ∀ j, j ≠ 14 → g_u2 kv x 14 (iN s) x j = kv x j := fun j h => by rw [g_u2_self, va_up_ne _ _ h]
          exact ⟨by rw [k1 _ (by omega)]; exact b1, by rw [g_u2_self, va_up_self], by rw [k2 _ (by decide)]; exact b3, by rw [k1 _ (by omega)]; exact b4, fun j h1 h2 h3 => by rw [k2 j h1]; exact b5 j h1 h2 h3, fun a h1 h2 h3 h4 => by rw [k1 a h1]; exact b6 a h1 h2 h3 h4⟩
      -- what holds of any heap of this ride
      have hcL : ∀ (kv : gV) (q : gRq) (sc : Int32), cRd iv0 kv x q sc → cL n1 top kv u (x + 28) lm K N C := by
        intro kv q sc hk
        refine hL.up (fun a h1 h2 => ⟨hk.2.2.2.2.2 a (by omega) (by omega) (by omega) (by omega), rfl, rfl⟩) ?_ rfl
        rw [hk.1, va_up_ne _ _ (by decide)]
      have hcf : ∀ (kv : gV) (q : gRq) (sc : Int32), cRd iv0 kv x q sc → kv (x + 28 + 4) s = -1 ∨ ∃ p : Nat, p < 8 ∧ cF kv (x + 28) o W p s d n k := by
        intro kv q sc hk
        have g := hk.2.2.2.2.2
        rw [g (x + 28 + 4) (by omega) (by omega) (by omega) (by omega)]
        rcases hcF s (by omega) with h | ⟨p, hp, c1, c2, c3, c4, c5, c6, c7, c8⟩
        · exact Or.inl h
        · have g7 : kv (x + 28 + 7 + p) = iv0 (x + 28 + 7 + p) := g _ (by omega) (by omega) (by omega) (by omega)
          have go : kv o = iv0 o := g o o1 o2 o3 o4
          have g4 : kv (x + 28 + 4) = iv0 (x + 28 + 4) := g _ (by omega) (by omega) (by omega) (by omega)
          exact Or.inr ⟨p, hp, by rw [g4]; exact c1, by rw [g7]; exact c2, by rw [g7]; exact c3, by rw [g7]; exact c4, c5, by rw [go]; exact c6, by rw [go]; exact c7, by rw [go]; exact c8⟩
      have hfac : ∀ (kv : gV) (q : gRq) (sc : Int32) (g : Nat → Int32), cRd iv0 kv x q sc → cRd iv0 (va_up kv (x + 33) g) x q sc := by
        intro kv q sc g ⟨b1, b2, b3, b4, b5, b6⟩
        have k1 : ∀ a, a ≠ x + 33 → va_up kv (x + 33) g a = kv a := fun a h => va_up_ne _ _ h
        exact ⟨by rw [k1 _ (by omega)]; exact b1, by rw [k1 _ (by omega)]; exact b2, by rw [k1 _ (by omega)]; exact b3, by rw [k1 _ (by omega)]; exact b4, fun j h1 h2 h3 => by rw [k1 _ (by omega)]; exact b5 j h1 h2 h3, fun a h1 h2 h3 h4 => by rw [k1 a h3]; exact b6 a h1 h2 h3 h4⟩
      have e129 : ∀ (q : gRq) (kv : gV) (t jo : Int32), cRd iv0 kv x q (-1) → q.1 = (if iv0 (x + 32) s = -1 then mX 0 (t - iv0 (x + 28) 11) else t + sFr W lm K N C (iv0 (x + 32) s).toNatClampNeg (sF W (iv0 (x + 32) s).toNatClampNeg t d n k) + jo) → (rdStep (cFr W lm K N C d n k) (cWr W lm K N C d n k) (iv0 (x + 32) s) (iv0 (x + 28) 11) dr (eSet (iv0 x 17)) z.1).1 = q → gW (f_X1_rides_129 (f_X1_rides_15 f) x o (bI (dr = true)) t (iN s) jo) (kv, u) P := by
        intro q kv t jo hk ht hq
        unfold f_X1_rides_129
        simp (disch := omega) only [gW_B, gW_ret, gW_tr, gW_fa, iN_add, iN_mul, iN_sub, iN_m1, iNp1, iNp2, iNp3, iNp4, iNp5, iNp6, iNp8, iNp12, iNp16, iNp20, iNp305, iNl1, iNl6, iNl9, iNl12, iNl41, iNl65, iNl305, iNl306, iNl354, iNl1154, iNl1155, iNl1203, iNm2, iNm4, iNm6, iNm8, iNm10, iNm12, iNm60, iNm305, iNs1, iNs4, iNs8, rXi H, rXp H, rXc H, rXsi H, rXsp H, rXr0 H, rXr1 H, rXr2 H, rXr3 H, rXr4 H, rXr5 H, rXr6 H, rXr7 H, rXr8 H, rXr9 H, rXr10 H, rXa97 H, rXa98 H, rXa99 H, rXa100 H, rXs97 H, rXs98 H, rXs99 H, rXs100 H, rSi (H.nw), rSp (H.nw), rSc (H.nw), rSP (H.nw), rSO (H.nw), rSPi (H.nw), rSPp (H.nw), rSPc (H.nw), rSOi (H.nw), rSOp (H.nw), rSOc (H.nw), rSr0 (H.nw), rSr1 (H.nw), rSr2 (H.nw), rSr3 (H.nw), rSr4 (H.nw), rSr5 (H.nw), rSa3 (H.nw), rSa4 (H.nw), rSa5 (H.nw), rSs3 (H.nw), rSs4 (H.nw), rSs5 (H.nw), rSf0 (H.nw), rSf1 (H.nw), rSf2 (H.nw), rSf3 (H.nw), rSf4 (H.nw), rSf5 (H.nw), rSf6 (H.nw), rSf7 (H.nw)]
        refine w_behind H.nw (by omega) (hcL kv q _ hk) hC ho (by omega) (by omega) (hcf kv q _ hk) (fun g => ?_)
        have g4 : kv (x + 28 + 4) s = iv0 (x + 32) s := by rw [hk.2.2.2.2.2 _ (by omega) (by omega) (by omega) (by omega)]
        have g11 : kv (x + 28) 11 = iv0 (x + 28) 11 := by rw [hk.1, va_up_ne _ _ (by decide)]
        rw [g4, g11, ← ht]
        exact e142 q _ (hfac kv q _ g hk) hq
      rcases hcF s (by omega) with hsl | ⟨p, hp, hcf0⟩
      · rw [hsl, gW_ift rfl]
        unfold f_X1_rides_79 f_X1_rides_105
        rw [gW_ift rfl, gW_ift rfl]
        have hst : (rdStep (cFr W lm K N C d n k) (cWr W lm K N C d n k) (iv0 (x + 32) s) (iv0 (x + 28) 11) dr (eSet (iv0 x 17)) z.1).1 = (mX 0 (z.1.1 - iv0 (x + 28) 11), z.1.2.1, z.1.2.2.1, z.1.2.2.2) := by
          unfold rdStep
          rw [if_pos hsl]
        refine e129 _ iv z.1.1 0 ?_ ?_ hst
        · exact ⟨a1, by rw [a2, hz], a3, a4, a5, a6⟩
        · rw [if_pos hsl]
      · have hsl : iv0 (x + 32) s = iN p := hcf0.1
        have hne : ¬ iN p = (-1 : Int32) := iN_eqm (by omega)
        have hpc : (iN p).toNatClampNeg = p := iN_c (by omega)
        rw [hsl, gW_iff hne]
        simp (disch := omega) only [gW_B, gW_ret, gW_tr, gW_fa, iN_add, iN_mul, iN_sub, iN_m1, iNp1, iNp2, iNp3, iNp4, iNp5, iNp6, iNp8, iNp12, iNp16, iNp20, iNp305, iNl1, iNl6, iNl9, iNl12, iNl41, iNl65, iNl305, iNl306, iNl354, iNl1154, iNl1155, iNl1203, iNm2, iNm4, iNm6, iNm8, iNm10, iNm12, iNm60, iNm305, iNs1, iNs4, iNs8, rXi H, rXp H, rXc H, rXsi H, rXsp H, rXr0 H, rXr1 H, rXr2 H, rXr3 H, rXr4 H, rXr5 H, rXr6 H, rXr7 H, rXr8 H, rXr9 H, rXr10 H, rXa97 H, rXa98 H, rXa99 H, rXa100 H, rXs97 H, rXs98 H, rXs99 H, rXs100 H, rSi (H.nw), rSp (H.nw), rSc (H.nw), rSP (H.nw), rSO (H.nw), rSPi (H.nw), rSPp (H.nw), rSPc (H.nw), rSOi (H.nw), rSOp (H.nw), rSOc (H.nw), rSr0 (H.nw), rSr1 (H.nw), rSr2 (H.nw), rSr3 (H.nw), rSr4 (H.nw), rSr5 (H.nw), rSa3 (H.nw), rSa4 (H.nw), rSa5 (H.nw), rSs3 (H.nw), rSs4 (H.nw), rSs5 (H.nw), rSf0 (H.nw), rSf1 (H.nw), rSf2 (H.nw), rSf3 (H.nw), rSf4 (H.nw), rSf5 (H.nw), rSf6 (H.nw), rSf7 (H.nw)]
        have hcf1 : cF iv (x + 28) o W p s d n k := by
          rcases hcf iv z.1 z.2.1 hM with h | ⟨p', hp', h⟩
          · rw [es, hsl] at h
            exact (hne h).elim
          · have e := h.1
            rw [es, hsl, iN_eq (by omega) (by omega)] at e
            subst e
            exact h
        refine w_wears H.nw (by omega) (hcL iv z.1 z.2.1 hM) hC ho (by omega) (by omega) hp hcf1 (fun g => ?_)
        have hj0 := hfac iv z.1 z.2.1 g hM
        generalize hj : va_up iv (x + 28 + 5) g = jv
        have hjM : cRd iv0 jv x z.1 z.2.1 := by rw [← hj]; exact hj0
        obtain ⟨b1, b2, b3, b4, b5, b6⟩ := hjM
        have e98 : ∀ v, g_u2 jv (x + 98) p v x = jv x := fun v => g_u2_ne _ _ _ (by omega)
        simp (disch := omega) only [gW_B, gW_ret, gW_tr, gW_fa, iN_add, iN_mul, iN_sub, iN_m1, iNp1, iNp2, iNp3, iNp4, iNp5, iNp6, iNp8, iNp12, iNp16, iNp20, iNp305, iNl1, iNl6, iNl9, iNl12, iNl41, iNl65, iNl305, iNl306, iNl354, iNl1154, iNl1155, iNl1203, iNm2, iNm4, iNm6, iNm8, iNm10, iNm12, iNm60, iNm305, iNs1, iNs4, iNs8, rXi H, rXp H, rXc H, rXsi H, rXsp H, rXr0 H, rXr1 H, rXr2 H, rXr3 H, rXr4 H, rXr5 H, rXr6 H, rXr7 H, rXr8 H, rXr9 H, rXr10 H, rXa97 H, rXa98 H, rXa99 H, rXa100 H, rXs97 H, rXs98 H, rXs99 H, rXs100 H, rSi (H.nw), rSp (H.nw), rSc (H.nw), rSP (H.nw), rSO (H.nw), rSPi (H.nw), rSPp (H.nw), rSPc (H.nw), rSOi (H.nw), rSOp (H.nw), rSOc (H.nw), rSr0 (H.nw), rSr1 (H.nw), rSr2 (H.nw), rSr3 (H.nw), rSr4 (H.nw), rSr5 (H.nw), rSa3 (H.nw), rSa4 (H.nw), rSa5 (H.nw), rSs3 (H.nw), rSs4 (H.nw), rSs5 (H.nw), rSf0 (H.nw), rSf1 (H.nw), rSf2 (H.nw), rSf3 (H.nw), rSf4 (H.nw), rSf5 (H.nw), rSf6 (H.nw), rSf7 (H.nw), e98, b3]
        generalize hj2 : g_u2 (g_u2 jv (x + 98) p (sWr lm K N C (sF W p z.1.1 d n k))) x 16 (z.1.2.1 ||| ((1 : Int32) <<< (iN p &&& 31))) = lv
        have l1 : ∀ a, a ≠ x → a ≠ x + 98 → lv a = jv a := fun a h h' => by rw [← hj2, g_u2_ne _ _ _ h, g_u2_ne _ _ _ h']
        have l98 : lv (x + 98) = va_up z.1.2.2.2 p (cWr W lm K N C d n k p z.1.1) := by rw [← hj2, g_u2_ne _ _ _ (by omega), g_u2_self, b4]
        have lx : ∀ j, j ≠ 16 → lv x j = jv x j := fun j h => by rw [← hj2, g_u2_self, va_up_ne _ _ h, e98]
        have l16 : lv x 16 = z.1.2.1 ||| ((1 : Int32) <<< (iN p &&& 31)) := by rw [← hj2, g_u2_self, va_up_self]
        -- behind the draw
        have main : ∀ (sd jo t' : Int32) (kv : gV), kv (x + 28) = va_up (iv0 (x + 28)) 13 sd → (∀ a, a ≠ x + 28 → kv a = lv a) → (rdStep (cFr W lm K N C d n k) (cWr W lm K N C d n k) (iv0 (x + 32) s) (iv0 (x + 28) 11) dr (eSet (iv0 x 17)) z.1).1 = (t', z.1.2.1 ||| ((1 : Int32) <<< (iN p &&& 31)), sd, va_up z.1.2.2.2 p (cWr W lm K N C d n k p z.1.1)) → t' = z.1.1 + ((if iN p = iv0 x 17 then 0 else cFr W lm K N C d n k p z.1.1) + jo) → gW (f_X1_rides_105 (f_X1_rides_15 f) x o (bI (dr = true)) z.1.1 (iN s) (iN p) jo) (kv, u) P := by
          intro sd jo t' kv c1 c2 hst ht
          have hk : cRd iv0 kv x (t', z.1.2.1 ||| ((1 : Int32) <<< (iN p &&& 31)), sd, va_up z.1.2.2.2 p (cWr W lm K N C d n k p z.1.1)) (-1) := by
            refine ⟨c1, ?_, ?_, ?_, fun j h1 h2 h3 => ?_, fun a h1 h2 h3 h4 => ?_⟩
            · rw [c2 _ (by omega), lx _ (by decide), b2, hz]
            · rw [c2 _ (by omega), l16]
            · rw [c2 _ (by omega), l98]
            · rw [c2 _ (by omega), lx j h3]; exact b5 j h1 h2 h3
            · rw [c2 a h2, l1 a h1 h4]; exact b6 a h1 h2 h3 h4
          have k17 : kv x 17 = iv0 x 17 := hk.2.2.2.2.1 17 (by decide) (by decide) (by decide)
          unfold f_X1_rides_105
          rw [gW_iff hne]
          simp (disch := omega) only [gW_B, gW_ret, gW_tr, gW_fa, iN_add, iN_mul, iN_sub, iN_m1, iNp1, iNp2, iNp3, iNp4, iNp5, iNp6, iNp8, iNp12, iNp16, iNp20, iNp305, iNl1, iNl6, iNl9, iNl12, iNl41, iNl65, iNl305, iNl306, iNl354, iNl1154, iNl1155, iNl1203, iNm2, iNm4, iNm6, iNm8, iNm10, iNm12, iNm60, iNm305, iNs1, iNs4, iNs8, rXi H, rXp H, rXc H, rXsi H, rXsp H, rXr0 H, rXr1 H, rXr2 H, rXr3 H, rXr4 H, rXr5 H, rXr6 H, rXr7 H, rXr8 H, rXr9 H, rXr10 H, rXa97 H, rXa98 H, rXa99 H, rXa100 H, rXs97 H, rXs98 H, rXs99 H, rXs100 H, rSi (H.nw), rSp (H.nw), rSc (H.nw), rSP (H.nw), rSO (H.nw), rSPi (H.nw), rSPp (H.nw), rSPc (H.nw), rSOi (H.nw), rSOp (H.nw), rSOc (H.nw), rSr0 (H.nw), rSr1 (H.nw), rSr2 (H.nw), rSr3 (H.nw), rSr4 (H.nw), rSr5 (H.nw), rSa3 (H.nw), rSa4 (H.nw), rSa5 (H.nw), rSs3 (H.nw), rSs4 (H.nw), rSs5 (H.nw), rSf0 (H.nw), rSf1 (H.nw), rSf2 (H.nw), rSf3 (H.nw), rSf4 (H.nw), rSf5 (H.nw), rSf6 (H.nw), rSf7 (H.nw), k17]
          by_cases he : iN p = iv0 x 17
          · rw [gW_ift he]
            rw [if_pos he] at ht
            have := e142 _ kv hk hst
            rw [show (t', z.1.2.1 ||| ((1 : Int32) <<< (iN p &&& 31)), sd, va_up z.1.2.2.2 p (cWr W lm K N C d n k p z.1.1)).1 = z.1.1 + jo from by rw [ht]; simp] at this
            exact this
          · rw [gW_iff he]
            rw [if_neg he] at ht
            refine e129 _ kv z.1.1 jo hk ?_ hst
            rw [if_neg (by rw [hsl]; exact hne), hsl, hpc]
            show t' = _
            rw [ht, Int32.add_assoc]
        have hes := eSet_b hez hp
        unfold f_X1_rides_79
        rw [gW_iff hne]
        have hstG : ∀ (sd jo : Int32), (if dr = true then (sDr z.1.2.2.1).1 else z.1.2.2.1) = sd → (if dr = true then (sDr z.1.2.2.1).2 else 1) = jo → (rdStep (cFr W lm K N C d n k) (cWr W lm K N C d n k) (iv0 (x + 32) s) (iv0 (x + 28) 11) dr (eSet (iv0 x 17)) z.1).1 = (z.1.1 + ((if iN p = iv0 x 17 then 0 else cFr W lm K N C d n k p z.1.1) + jo), z.1.2.1 ||| ((1 : Int32) <<< (iN p &&& 31)), sd, va_up z.1.2.2.2 p (cWr W lm K N C d n k p z.1.1)) := by
          intro sd jo h1 h2
          unfold rdStep
          rw [hsl, if_neg hne, hpc, h1, h2]
          by_cases he : iN p = iv0 x 17
          · rw [if_pos (hes.mpr he), if_pos he]
          · rw [if_neg (fun y => he (hes.mp y)), if_neg he]
        have l28 : lv (x + 28) = va_up (iv0 (x + 28)) 13 z.1.2.2.1 := by rw [l1 _ (by omega) (by omega)]; exact b1
        cases dr with
        | false =>
          rw [bI_f (by decide), gW_ift rfl]
          have m0 := main z.1.2.2.1 1 _ lv l28 (fun _ _ => rfl) (hstG _ _ rfl rfl) rfl
          rw [bI_f (by decide)] at m0
          exact m0
        | true =>
          rw [bI_t rfl, gW_iff (by decide)]
          simp (disch := omega) only [gW_B, gW_ret, gW_tr, gW_fa, iN_add, iN_mul, iN_sub, iN_m1, iNp1, iNp2, iNp3, iNp4, iNp5, iNp6, iNp8, iNp12, iNp16, iNp20, iNp305, iNl1, iNl6, iNl9, iNl12, iNl41, iNl65, iNl305, iNl306, iNl354, iNl1154, iNl1155, iNl1203, iNm2, iNm4, iNm6, iNm8, iNm10, iNm12, iNm60, iNm305, iNs1, iNs4, iNs8, rXi H, rXp H, rXc H, rXsi H, rXsp H, rXr0 H, rXr1 H, rXr2 H, rXr3 H, rXr4 H, rXr5 H, rXr6 H, rXr7 H, rXr8 H, rXr9 H, rXr10 H, rXa97 H, rXa98 H, rXa99 H, rXa100 H, rXs97 H, rXs98 H, rXs99 H, rXs100 H, rSi (H.nw), rSp (H.nw), rSc (H.nw), rSP (H.nw), rSO (H.nw), rSPi (H.nw), rSPp (H.nw), rSPc (H.nw), rSOi (H.nw), rSOp (H.nw), rSOc (H.nw), rSr0 (H.nw), rSr1 (H.nw), rSr2 (H.nw), rSr3 (H.nw), rSr4 (H.nw), rSr5 (H.nw), rSa3 (H.nw), rSa4 (H.nw), rSa5 (H.nw), rSs3 (H.nw), rSs4 (H.nw), rSs5 (H.nw), rSf0 (H.nw), rSf1 (H.nw), rSf2 (H.nw), rSf3 (H.nw), rSf4 (H.nw), rSf5 (H.nw), rSf6 (H.nw), rSf7 (H.nw), w_draw H.nw, l28, va_up_self]
          have m1 := main (sDr z.1.2.2.1).1 (sDr z.1.2.2.1).2 _ (g_u2 lv (x + 28) 13 (sDr z.1.2.2.1).1) (by rw [g_u2_self, l28, va_up_up]) (fun a h => g_u2_ne _ _ _ h) (hstG _ _ rfl rfl) rfl
          rw [bI_t rfl] at m1
          exact m1
    · rw [gW_iff hz]
      obtain ⟨s1, s2⟩ := rdLoop_stop (cFr W lm K N C d n k) (cWr W lm K N C d n k) (iv0 (x + 32)) (iv0 (x + 28) 11) n dr false (eSet (iv0 x 17)) (j + 1) s z hz
      rw [s1, s2] at hP
      unfold f_X1_rides_163
      simp (disch := omega) only [gW_B, gW_ret, gW_tr, gW_fa, iN_add, iN_mul, iN_sub, iN_m1, iNp1, iNp2, iNp3, iNp4, iNp5, iNp6, iNp8, iNp12, iNp16, iNp20, iNp305, iNl1, iNl6, iNl9, iNl12, iNl41, iNl65, iNl305, iNl306, iNl354, iNl1154, iNl1155, iNl1203, iNm2, iNm4, iNm6, iNm8, iNm10, iNm12, iNm60, iNm305, iNs1, iNs4, iNs8, rXi H, rXp H, rXc H, rXsi H, rXsp H, rXr0 H, rXr1 H, rXr2 H, rXr3 H, rXr4 H, rXr5 H, rXr6 H, rXr7 H, rXr8 H, rXr9 H, rXr10 H, rXa97 H, rXa98 H, rXa99 H, rXa100 H, rXs97 H, rXs98 H, rXs99 H, rXs100 H, rSi (H.nw), rSp (H.nw), rSc (H.nw), rSP (H.nw), rSO (H.nw), rSPi (H.nw), rSPp (H.nw), rSPc (H.nw), rSOi (H.nw), rSOp (H.nw), rSOc (H.nw), rSr0 (H.nw), rSr1 (H.nw), rSr2 (H.nw), rSr3 (H.nw), rSr4 (H.nw), rSr5 (H.nw), rSa3 (H.nw), rSa4 (H.nw), rSa5 (H.nw), rSs3 (H.nw), rSs4 (H.nw), rSs5 (H.nw), rSf0 (H.nw), rSf1 (H.nw), rSf2 (H.nw), rSf3 (H.nw), rSf4 (H.nw), rSf5 (H.nw), rSf6 (H.nw), rSf7 (H.nw)]
      exact hP _ (fin iv z.1 z.2.1 hM).1 (fin iv z.1 z.2.1 hM).2
end CW
