/-! THE COMPONENT'S RIDE, WHOLE; what a ride does not stand on -/
section CX
variable {iv iv0 : gV} {u : gU} {x : Nat}
def cZ0 (iv0 : gV) (x : Nat) (tA fA : Nat → Int32) : gRz := ((0, 0, iv0 (x + 28) 13, iv0 (x + 98)), -1, tA, fA)
def cRide (iv0 : gV) (x lm : Nat) (K N : Nat → Int32) (C : Nat → (Nat → Int32) → Bool) (W : Nat → Int32) (d n k : Int32) (dr : Bool) (tA fA : Nat → Int32) : gRz := rdLoop (cFr W lm K N C d n k) (cWr W lm K N C d n k) (iv0 (x + 32)) (iv0 (x + 28) 11) n dr false (eSet (iv0 x 17)) 10 0 (cZ0 iv0 x tA fA)
theorem w_rides2 (H : XS u x) {n1 top o lm : Nat} {K N : Nat → Int32} {C : Nat → (Nat → Int32) → Bool} {W : Nat → Int32} {d n k : Int32} (hR : cRs u iv0 x n1 top o lm K N C W d n k) {dr : Bool} (tA fA : Nat → Int32) {P : Unit → g_H → Prop} (hP : ∀ iv', cRd iv0 iv' x (cRide iv0 x lm K N C W d n k dr tA fA).1 (cRide iv0 x lm K N C W d n k dr tA fA).2.1 → iv' x 15 = (cRide iv0 x lm K N C W d n k dr tA fA).1.1 → P () (iv', u)) : gW (f_X1_rides x o (bI (dr = true))) (iv0, u) P := by
  unfold f_X1_rides
  simp (disch := omega) only [gW_B, gW_ret, gW_tr, gW_fa, iN_add, iN_mul, iN_sub, iN_m1, iNp1, iNp2, iNp3, iNp4, iNp5, iNp6, iNp8, iNp12, iNp16, iNp20, iNp305, iNl1, iNl6, iNl9, iNl12, iNl41, iNl65, iNl305, iNl306, iNl354, iNl1154, iNl1155, iNl1203, iNm2, iNm4, iNm6, iNm8, iNm10, iNm12, iNm60, iNm305, iNs1, iNs4, iNs8, rXi H, rXp H, rXc H, rXsi H, rXsp H, rXr0 H, rXr1 H, rXr2 H, rXr3 H, rXr4 H, rXr5 H, rXr6 H, rXr7 H, rXr8 H, rXr9 H, rXr10 H, rXa97 H, rXa98 H, rXa99 H, rXa100 H, rXs97 H, rXs98 H, rXs99 H, rXs100 H, rSi (H.nw), rSp (H.nw), rSc (H.nw), rSP (H.nw), rSO (H.nw), rSPi (H.nw), rSPp (H.nw), rSPc (H.nw), rSOi (H.nw), rSOp (H.nw), rSOc (H.nw), rSr0 (H.nw), rSr1 (H.nw), rSr2 (H.nw), rSr3 (H.nw), rSr4 (H.nw), rSr5 (H.nw), rSa3 (H.nw), rSa4 (H.nw), rSa5 (H.nw), rSs3 (H.nw), rSs4 (H.nw), rSs5 (H.nw), rSf0 (H.nw), rSf1 (H.nw), rSf2 (H.nw), rSf3 (H.nw), rSf4 (H.nw), rSf5 (H.nw), rSf6 (H.nw), rSf7 (H.nw)]
  unfold cRide at hP
  refine w_rides2_15 H hR 10 0 gN (g_u2 (g_u2 iv0 x 16 0) x 14 (-1)) (cZ0 iv0 x tA fA) (by omega) (by rw [gN_eq]; omega) ?_ hP
  refine ⟨?_, ?_, ?_, ?_, fun j h1 h2 h3 => ?_, fun a h1 h2 h3 h4 => ?_⟩
  · rw [g_u2_ne _ _ _ (by omega), g_u2_ne _ _ _ (by omega)]
    funext j
    by_cases hj : j = 13
    · subst hj; rw [va_up_self]; rfl
    · rw [va_up_ne _ _ hj]
  · rw [g_u2_self, va_up_self]; rfl
  · rw [g_u2_self, va_up_ne _ _ (by decide), g_u2_self, va_up_self]; rfl
  · rw [g_u2_ne _ _ _ (by omega), g_u2_ne _ _ _ (by omega)]; rfl
  · rw [g_u2_self, va_up_ne _ _ h1, g_u2_self, va_up_ne _ _ h3]
  · rw [g_u2_ne _ _ _ h1, g_u2_ne _ _ _ h1]
/-- alike but for what was worn by props not come to, and the arrays -/
def rdSim (z z' : gRz) : Prop := z.1.1 = z'.1.1 ∧ z.1.2.1 = z'.1.2.1 ∧ z.1.2.2.1 = z'.1.2.2.1 ∧ z.2.1 = z'.2.1 ∧ ∀ p : Nat, p < 8 → (z.1.2.1 >>> (iN p &&& 31)) &&& 1 = 1 → z.1.2.2.2 p = z'.1.2.2.2 p
theorem bit_or {c : Int32} {p q : Nat} (hp : p < 8) (hq : q < 8) (h : ((c ||| ((1 : Int32) <<< (iN q &&& 31))) >>> (iN p &&& 31)) &&& 1 = 1) : p = q ∨ (c >>> (iN p &&& 31)) &&& 1 = 1 := by
  have e : ∀ p : Nat, p < 8 → ∀ v : Int32, ((v >>> (iN p &&& 31)) &&& 1 = 1) ↔ v.toBitVec.getLsbD p = true := by
    intro p hp v
    have hk : (iN p &&& 31) = iN p := by
      have : ∀ p : Nat, p < 8 → (iN p &&& 31) = iN p := by decide
      exact this p hp
    have hs : (iN p).toBitVec.smod 32 = BitVec.ofNat 32 p := by
      have : ∀ p : Nat, p < 8 → (iN p).toBitVec.smod 32 = BitVec.ofNat 32 p := by decide
      exact this p hp
    have h2 : (BitVec.ofNat 32 p).toNat = p := by rw [BitVec.toNat_ofNat]; omega
    have hb : (v.toBitVec.sshiftRight p).getLsbD 0 = v.toBitVec.getLsbD p := by
      rw [BitVec.getLsbD_sshiftRight, if_pos (by omega), Nat.add_zero]
      rfl
    rw [hk, ← Int32.toBitVec_inj]
    show (v.toBitVec.sshiftRight ((iN p).toBitVec.smod 32).toNat) &&& 1#32 = 1#32 ↔ _
    rw [hs, h2, BitVec.and_one_eq_setWidth_ofBool_getLsbD, hb]
    cases v.toBitVec.getLsbD p <;> decide
  rw [e p hp] at h ⊢
  have ho : (c ||| ((1 : Int32) <<< (iN q &&& 31))).toBitVec = c.toBitVec ||| ((1 : Int32) <<< (iN q &&& 31)).toBitVec := rfl
  rw [ho, BitVec.getLsbD_or] at h
  rcases Bool.or_eq_true_iff.mp h with h | h
  · exact Or.inr h
  · refine Or.inl ?_
    have : ∀ q : Nat, q < 8 → ∀ p : Nat, p < 8 → ((1 : Int32) <<< (iN q &&& 31)).toBitVec.getLsbD p = true → p = q := by decide
    exact this q hq p hp h
theorem rdLoop_sim (fr wr : Nat → Int32 → Int32) (calm nerve : Int32) (dr te : Bool) {es es' : Int32} {on on' : Nat → Int32} : ∀ (k s : Nat), (∀ j : Nat, j < s + k → on j = on' j ∧ (on j = -1 ∨ ∃ p : Nat, p < 8 ∧ on j = iN p ∧ (((es >>> (iN p &&& 31)) &&& 1 = 1) ↔ ((es' >>> (iN p &&& 31)) &&& 1 = 1)))) → ∀ z z' : gRz, rdSim z z' → rdSim (rdLoop fr wr on calm nerve dr te es k s z) (rdLoop fr wr on' calm nerve dr te es' k s z') := by
  intro k
  induction k with
  | zero => exact fun s _ z z' h => h
  | succ k ih =>
    intro s hon z z' h
    rw [rdLoop, rdLoop]
    refine ih (s + 1) (fun j hj => hon j (by omega)) _ _ ?_
    obtain ⟨h1, h2, h3, h4, h5⟩ := h
    rw [← h4]
    by_cases hz : z.2.1 = -1
    · rw [if_pos hz, if_pos hz]
      obtain ⟨e, ho⟩ := hon s (by omega)
      rw [← e]
      rcases ho with ho | ⟨p, hp, ho, hes⟩
      · have a1 : rdStep fr wr (on s) calm dr es z.1 = ((mX 0 (z.1.1 - calm), z.1.2.1, z.1.2.2.1, z.1.2.2.2), 0) := if_pos ho
        have a2 : rdStep fr wr (on s) calm dr es' z'.1 = ((mX 0 (z'.1.1 - calm), z'.1.2.1, z'.1.2.2.1, z'.1.2.2.2), 0) := if_pos ho
        rw [a1, a2, ← h1]
        exact ⟨rfl, h2, h3, rfl, h5⟩
      · have hne : ¬ on s = -1 := by rw [ho]; exact iN_eqm (by omega)
        have hpc : (iN p).toNatClampNeg = p := iN_c (by omega)
        have a1 : rdStep fr wr (on s) calm dr es z.1 = ((z.1.1 + ((if (es >>> (iN p &&& 31)) &&& 1 = 1 then 0 else fr p z.1.1) + (if dr = true then (sDr z.1.2.2.1).2 else 1)), z.1.2.1 ||| ((1 : Int32) <<< (iN p &&& 31)), (if dr = true then (sDr z.1.2.2.1).1 else z.1.2.2.1), va_up z.1.2.2.2 p (wr p z.1.1)), (if (es >>> (iN p &&& 31)) &&& 1 = 1 then 0 else fr p z.1.1)) := by
          unfold rdStep
          rw [if_neg hne, ho, hpc]
        have a2 : rdStep fr wr (on s) calm dr es' z'.1 = ((z'.1.1 + ((if (es' >>> (iN p &&& 31)) &&& 1 = 1 then 0 else fr p z'.1.1) + (if dr = true then (sDr z'.1.2.2.1).2 else 1)), z'.1.2.1 ||| ((1 : Int32) <<< (iN p &&& 31)), (if dr = true then (sDr z'.1.2.2.1).1 else z'.1.2.2.1), va_up z'.1.2.2.2 p (wr p z'.1.1)), (if (es' >>> (iN p &&& 31)) &&& 1 = 1 then 0 else fr p z'.1.1)) := by
          unfold rdStep
          rw [if_neg hne, ho, hpc]
        have hf : (if (es >>> (iN p &&& 31)) &&& 1 = 1 then 0 else fr p z.1.1) = (if (es' >>> (iN p &&& 31)) &&& 1 = 1 then 0 else fr p z.1.1) := by
          by_cases hb : (es >>> (iN p &&& 31)) &&& 1 = 1
          · rw [if_pos hb, if_pos (hes.mp hb)]
          · rw [if_neg hb, if_neg (fun y => hb (hes.mpr y))]
        rw [a1, a2, hf, ← h1, ← h2, ← h3]
        refine ⟨rfl, rfl, rfl, rfl, fun p' hp' hb => ?_⟩
        show va_up z.1.2.2.2 p (wr p z.1.1) p' = va_up z'.1.2.2.2 p (wr p z.1.1) p'
        by_cases e : p' = p
        · subst e; rw [va_up_self, va_up_self]
        · rw [va_up_ne _ _ e, va_up_ne _ _ e]
          rcases bit_or hp' hp hb with h | h
          · exact (e h).elim
          · exact h5 p' hp' h
    · rw [if_neg hz, if_neg hz]
      exact ⟨h1, h2, h3, rfl, h5⟩
end CX
