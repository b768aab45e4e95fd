/-! BOUNDS; HOW TENSE ONE IS, SLOT BY SLOT; RIDES OF BOTH -/
section BN
theorem iZ_N (k : Nat) : Int32.ofInt (k : Int) = iN k := rfl
theorem iZ_t {y : Int} (h : -1073741824 ≤ y ∧ y < 1073741824) : (Int32.ofInt y).toInt = y := by
  rw [Int32.toInt_ofInt_of_le] <;> omega
theorem mX_Z {y : Int} (h : -1073741824 ≤ y ∧ y < 1073741824) : mX 0 (Int32.ofInt y) = iN y.toNat := by
  unfold mX
  have z : (0 : Int32).toInt = 0 := by decide
  by_cases h0 : 0 < y
  · rw [if_pos (by rw [Int32.lt_iff_toInt_lt, iZ_t h, z]; exact h0)]
    rw [← iZ_N]
    congr 1
    omega
  · rw [if_neg (by rw [Int32.lt_iff_toInt_lt, iZ_t h, z]; exact h0)]
    rw [show y.toNat = 0 by omega]
    rfl
theorem mX_sub {a c : Nat} (ha : a < 1000000) (hc : c < 1000000) : mX 0 (iN a - iN c) = iN (a - c) := by
  rw [← iZ_N, ← iZ_N, ← Int32.ofInt_sub, mX_Z (by omega)]
  congr 1
  omega
theorem sSum_n {K N : Nat → Int32} {C : Nat → (Nat → Int32) → Bool} {F : Nat → Int32} {kd : Int32} : ∀ m : Nat, (∀ k : Nat, k < m → ∃ v : Nat, v ≤ 30 ∧ N k = iN v) → ∃ s : Nat, s ≤ 30 * m ∧ sSum K N C F kd m = iN s := by
  intro m
  induction m with
  | zero => exact fun _ => ⟨0, by omega, rfl⟩
  | succ m ih =>
    intro h
    obtain ⟨s, h1, h2⟩ := ih (fun k hk => h k (by omega))
    obtain ⟨v, h3, h4⟩ := h m (by omega)
    rw [sSum, h2, h4]
    by_cases hc : K m = kd ∧ C m F = true
    · rw [if_pos hc, iN_add]
      exact ⟨_, by omega, rfl⟩
    · rw [if_neg hc]
      exact ⟨_, by omega, rfl⟩
variable {V : Nat → Int32} {pn on : Nat} {L : gLw}
/-- the law's numbers are small -/
def lS (L : gLw) : Prop := L.1 ≤ 12 ∧ ∀ k : Nat, k < L.1 → ∃ n : Nat, n ≤ 30 ∧ L.2.2.1 k = iN n
abbrev fR (V : Nat → Int32) (L : gLw) (d n k : Int32) (p : Nat) (t : Int32) : Int32 := cFr V L.1 L.2.1 L.2.2.1 L.2.2.2 d n k p t
abbrev wR (V : Nat → Int32) (L : gLw) (d n k : Int32) (p : Nat) (t : Int32) : Int32 := cWr V L.1 L.2.1 L.2.2.1 L.2.2.2 d n k p t
theorem fR_n (hW : WI V pn on) (hL : lS L) {p : Nat} (hp : p < pn) {d n k t : Int32} : ∃ f : Nat, f ≤ 380 ∧ fR V L d n k p t = iN f := by
  obtain ⟨-, -, ⟨j, hj, h1⟩, w, hw, h2⟩ := hW.2.1 p hp
  obtain ⟨s0, h3, h4⟩ := sSum_n (K := L.2.1) (C := L.2.2.2) (F := sF V p t d n k) (kd := 0) L.1 hL.2
  obtain ⟨s1, h5, h6⟩ := sSum_n (K := L.2.1) (C := L.2.2.2) (F := sF V p t d n k) (kd := 1) L.1 hL.2
  have hl := hL.1
  have hd : ∀ w : Nat, w < 100 → iN w / 10 = iN (w / 10) := by decide
  show ∃ f : Nat, f ≤ 380 ∧ mX 0 (((V (9 + 4 * p + 1) - V (9 + 4 * p + 2) / 10) + sSum L.2.1 L.2.2.1 L.2.2.2 (sF V p t d n k) 0 L.1) - sSum L.2.1 L.2.2.1 L.2.2.2 (sF V p t d n k) 1 L.1) = iN f
  rw [h1, h2, h4, h6, hd w (by omega)]
  rw [← iZ_N, ← iZ_N, ← iZ_N, ← iZ_N, ← Int32.ofInt_sub, ← Int32.ofInt_add, ← Int32.ofInt_sub, mX_Z (by omega)]
  exact ⟨_, by omega, rfl⟩
theorem wR_n (hL : lS L) {p : Nat} {d n k t : Int32} : ∃ f : Nat, f ≤ 361 ∧ wR V L d n k p t = iN f := by
  obtain ⟨s0, h3, h4⟩ := sSum_n (K := L.2.1) (C := L.2.2.2) (F := sF V p t d n k) (kd := 2) L.1 hL.2
  have hl := hL.1
  show ∃ f : Nat, f ≤ 361 ∧ 1 + sSum L.2.1 L.2.2.1 L.2.2.2 (sF V p t d n k) 2 L.1 = iN f
  rw [h4, show (1 : Int32) = iN 1 from rfl, iN_add]
  exact ⟨_, by omega, rfl⟩
/-- by how much one is frighted in a slot -/
def fS (V : Nat → Int32) (pn : Nat) (L : gLw) (d n k : Int32) (s : Nat) (t : Int32) : Int32 := if sIn V pn (iN s) = -1 then 0 else fR V L d n k (sIn V pn (iN s)).toNatClampNeg t
/-- how tense one is behind a slot -/
def bS (V : Nat → Int32) (pn : Nat) (L : gLw) (d n k : Int32) (s : Nat) (t j : Int32) : Int32 := if sIn V pn (iN s) = -1 then mX 0 (t - V 5) else (t + fR V L d n k (sIn V pn (iN s)).toNatClampNeg t) + j
def tS (V : Nat → Int32) (pn : Nat) (L : gLw) (d n k : Int32) : Nat → Int32
  | 0 => 0
  | s + 1 => bS V pn L d n k s (tS V pn L d n k s) 1
/-- one has not screamed ahead of a slot -/
def aS (V : Nat → Int32) (pn : Nat) (L : gLw) (d n k : Int32) : Nat → Bool
  | 0 => true
  | s + 1 => aS V pn L d n k s && decide (tS V pn L d n k (s + 1) ≤ n)
theorem fS_n (hW : WI V pn on) (hL : lS L) {s : Nat} {d n k t : Int32} : ∃ f : Nat, f ≤ 380 ∧ fS V pn L d n k s t = iN f := by
  unfold fS
  rcases sIn_or V pn (iN s) with h | ⟨p, hp, h, -⟩
  · rw [if_pos h]; exact ⟨0, by omega, rfl⟩
  · have := hW.1.2.1
    rw [h, if_neg (iN_eqm (by omega)), iN_c (by omega)]
    exact fR_n hW hL hp
theorem bS_n (hW : WI V pn on) (hL : lS L) {s t j : Nat} (ht : t < 100000) (hj : j ≤ 2) {d n k : Int32} : ∃ r : Nat, r ≤ t + 380 + j ∧ bS V pn L d n k s (iN t) (iN j) = iN r := by
  unfold bS
  obtain ⟨c, hc, h5⟩ := hW.2.2.2.2.2.2.1
  rcases sIn_or V pn (iN s) with h | ⟨p, hp, h, -⟩
  · rw [if_pos h, h5, mX_sub (by omega) (by omega)]
    exact ⟨_, by omega, rfl⟩
  · have := hW.1.2.1
    obtain ⟨f, hf, h1⟩ := fR_n (d := d) (n := n) (k := k) (t := iN t) hW hL hp
    rw [h, if_neg (iN_eqm (by omega)), iN_c (by omega), h1, iN_add, iN_add]
    exact ⟨_, by omega, rfl⟩
theorem tS_n (hW : WI V pn on) (hL : lS L) {d n k : Int32} : ∀ s : Nat, s ≤ 10 → ∃ r : Nat, r ≤ 381 * s ∧ tS V pn L d n k s = iN r := by
  intro s
  induction s with
  | zero => exact fun _ => ⟨0, by omega, rfl⟩
  | succ s ih =>
    intro hs
    obtain ⟨r, h1, h2⟩ := ih (by omega)
    obtain ⟨q, h3, h4⟩ := bS_n (d := d) (n := n) (k := k) (s := s) (j := 1) hW hL (show r < 100000 by omega) (by omega)
    rw [tS, h2]
    exact ⟨q, by omega, h4⟩
/-! a straight ride, by these -/
/-- behind s slots of a straight ride -/
def rI (V : Nat → Int32) (pn : Nat) (L : gLw) (d n k : Int32) (te : Bool) (s : Nat) (z : gRz) : Prop := (z.2.1 = -1 ↔ (te = true ∨ aS V pn L d n k s = true)) ∧ (z.2.1 = -1 → z.1.1 = tS V pn L d n k s) ∧ ∀ j : Nat, j < s → z.2.2.1 j = (if te = true ∨ aS V pn L d n k j = true then tS V pn L d n k (j + 1) else -1) ∧ z.2.2.2 j = (if te = true ∨ aS V pn L d n k j = true then fS V pn L d n k j (tS V pn L d n k j) else 0)
theorem rd_rI (hW : WI V pn on) {d n k : Int32} {te : Bool} {on' : Nat → Int32} (hon : ∀ s : Nat, s < 10 → on' s = sIn V pn (iN s)) : ∀ (j s : Nat) (z : gRz), s + j ≤ 10 → rI V pn L d n k te s z → rI V pn L d n k te (s + j) (rdLoop (fR V L d n k) (wR V L d n k) on' (V 5) n false te 0 j s z) := by
  intro j
  induction j with
  | zero => exact fun s z _ h => h
  | succ j ih =>
    intro s z hs h
    rw [rdLoop, show s + (j + 1) = s + 1 + j by omega]
    refine ih (s + 1) _ (by omega) ?_
    obtain ⟨h1, h2, h3⟩ := h
    have h0 : ∀ p : Nat, p < 8 → ¬ (((0 : Int32) >>> (iN p &&& 31)) &&& 1 = 1) := by decide
    have hstep : z.2.1 = -1 → (rdStep (fR V L d n k) (wR V L d n k) (on' s) (V 5) false 0 z.1).1.1 = tS V pn L d n k (s + 1) ∧ (rdStep (fR V L d n k) (wR V L d n k) (on' s) (V 5) false 0 z.1).2 = fS V pn L d n k s (tS V pn L d n k s) := by
      intro hz
      rw [hon s (by omega), tS]
      unfold rdStep bS fS
      rw [h2 hz]
      rcases sIn_or V pn (iN s) with e | ⟨p, hp, e, -⟩
      · rw [if_pos e, if_pos e, if_pos e]
        exact ⟨rfl, rfl⟩
      · have := hW.1.2.1
        have hne : ¬ iN p = (-1 : Int32) := iN_eqm (by omega)
        rw [e, if_neg hne, if_neg hne, if_neg hne, if_neg (h0 p (by omega))]
        refine ⟨?_, rfl⟩
        show tS V pn L d n k s + (fR V L d n k _ _ + 1) = _
        rw [Int32.add_assoc]
    by_cases hz : z.2.1 = -1
    · rw [if_pos hz]
      obtain ⟨e1, e2⟩ := hstep hz
      rw [e1, e2]
      have ha := h1.mp hz
      refine ⟨?_, fun _ => e1, fun i hi => ?_⟩
      · show (if n < tS V pn L d n k (s + 1) ∧ te = false then iN s else -1) = -1 ↔ _
        by_cases hc : n < tS V pn L d n k (s + 1) ∧ te = false
        · rw [if_pos hc]
          refine ⟨fun q => (iN_eqm (by omega) q).elim, fun q => ?_⟩
          rcases q with q | q
          · rw [hc.2] at q; cases q
          · rw [aS, Bool.and_eq_true, decide_eq_true_eq] at q
            exact (Int32.not_lt.mpr q.2 hc.1).elim
        · rw [if_neg hc]
          refine ⟨fun _ => ?_, fun _ => rfl⟩
          cases te with
          | true => exact Or.inl rfl
          | false =>
            refine Or.inr ?_
            rw [aS, Bool.and_eq_true, decide_eq_true_eq]
            refine ⟨?_, Int32.not_lt.mp (fun q => hc ⟨q, rfl⟩)⟩
            rcases ha with q | q
            · cases q
            · exact q
      · show va_up z.2.2.1 s _ i = _ ∧ va_up z.2.2.2 s _ i = _
        by_cases e : i = s
        · subst e
          rw [va_up_self, va_up_self, if_pos ha, if_pos ha]
          exact ⟨rfl, rfl⟩
        · rw [va_up_ne _ _ e, va_up_ne _ _ e]
          exact h3 i (by omega)
    · rw [if_neg hz]
      have ha : ¬ (te = true ∨ aS V pn L d n k s = true) := fun q => hz (h1.mpr q)
      refine ⟨⟨fun q => (hz q).elim, fun q => ?_⟩, fun q => (hz q).elim, fun i hi => ?_⟩
      · exfalso
        rcases q with q | q
        · exact ha (Or.inl q)
        · rw [aS, Bool.and_eq_true] at q
          exact ha (Or.inr q.1)
      · show va_up z.2.2.1 s _ i = _ ∧ va_up z.2.2.2 s _ i = _
        by_cases e : i = s
        · subst e
          rw [va_up_self, va_up_self, if_neg ha, if_neg ha]
          exact ⟨rfl, rfl⟩
        · rw [va_up_ne _ _ e, va_up_ne _ _ e]
          exact h3 i (by omega)
end BN
section RW
variable {iv jv kv : gV} {u v : gU} {x : Nat} {V : Nat → Int32} {pn on : Nat} {L : gLw}
theorem CI.lS (hC : CI x iv u V pn on L) : lS L := ⟨hC.2.2.2.1.1.1, hC.2.2.2.1.2.2⟩
theorem CI.sO (hC : CI x iv u V pn on L) {o : Nat} (ho : o < on) : u.1 (x + 28 + 15 + o) = some (.inr 4) := (hC.X.nw.2.2.2 o (by have := hC.o6; omega)).2
theorem c_frights (hC : CI x iv u V pn on L) {o s : Nat} (ho : u.1 o = some (.inr 4)) (hs : s < 10) {t : Int32} {P : Int32 → g_H → Prop} (hP : ∀ f : Nat → Int32, P (fS V pn L (iv o 0) (iv o 1) (iv o 2) s t) (va_up iv (x + 33) f, u)) : gW (f_X3_frights (x + 28) o (iN s) t) (iv, u) P := by
  have H := hC.X
  rcases hC.cF o hs with h | ⟨p, hp, h⟩
  · unfold f_X3_frights
    simp (disch := omega) only [gW_B, gW_ret, gW_tr, gW_fa, iN_add, iN_mul, iN_sub, iN_m1, iNp1, iNp2, iNp3, iNp4, iNp5, iNp6, iNp8, iNp12, iNp16, iNp20, iNp305, iNl1, iNl6, iNl9, iNl12, iNl41, iNl65, iNl305, iNl306, iNl354, iNl1154, iNl1155, iNl1203, iNm2, iNm4, iNm6, iNm8, iNm10, iNm12, iNm60, iNm305, iNs1, iNs4, iNs8, rXi H, rXp H, rXc H, rXsi H, rXsp H, rXr0 H, rXr1 H, rXr2 H, rXr3 H, rXr4 H, rXr5 H, rXr6 H, rXr7 H, rXr8 H, rXr9 H, rXr10 H, rXa97 H, rXa98 H, rXa99 H, rXa100 H, rXs97 H, rXs98 H, rXs99 H, rXs100 H, rSi (H.nw), rSp (H.nw), rSc (H.nw), rSP (H.nw), rSO (H.nw), rSPi (H.nw), rSPp (H.nw), rSPc (H.nw), rSOi (H.nw), rSOp (H.nw), rSOc (H.nw), rSr0 (H.nw), rSr1 (H.nw), rSr2 (H.nw), rSr3 (H.nw), rSr4 (H.nw), rSr5 (H.nw), rSa3 (H.nw), rSa4 (H.nw), rSa5 (H.nw), rSs3 (H.nw), rSs4 (H.nw), rSs5 (H.nw), rSf0 (H.nw), rSf1 (H.nw), rSf2 (H.nw), rSf3 (H.nw), rSf4 (H.nw), rSf5 (H.nw), rSf6 (H.nw), rSf7 (H.nw), h]
    have e := hC.s hs
    have := hP (iv (x + 33))
    unfold fS at this
    rw [if_pos (e.symm.trans h), va_up_id] at this
    exact this
  · refine w_frights H.nw (by omega) hC.2.2.2.1.1 hC.2.2.2.1.2.1 ho (H.oNe ho).2.2.1 hs hp h (fun f => ?_)
    have := hP f
    have e := (hC.s hs).symm.trans h.1
    unfold fS at this
    rw [e, if_neg (iN_eqm (by omega)), iN_c (by omega)] at this
    exact this
theorem c_wears (hC : CI x iv u V pn on L) {o s p : Nat} (ho : u.1 o = some (.inr 4)) (hs : s < 10) (hp : p < 8) (hin : sIn V pn (iN s) = iN p) {t : Int32} {P : Int32 → g_H → Prop} (hP : ∀ f : Nat → Int32, P (wR V L (iv o 0) (iv o 1) (iv o 2) p t) (va_up iv (x + 33) f, u)) : gW (f_X3_wears (x + 28) o (iN s) t) (iv, u) P := by
  have H := hC.X
  rcases hC.cF o hs with h | ⟨p', hp', h⟩
  · rw [(hC.s hs).symm.trans h] at hin
    exact (iN_eqm (by omega) hin.symm).elim
  · have e := (hC.s hs).symm.trans h.1
    rw [hin, iN_eq (by omega) (by omega)] at e
    subst e
    exact w_wears H.nw (by omega) hC.2.2.2.1.1 hC.2.2.2.1.2.1 ho (H.oNe ho).2.2.1 hs hp' h (fun f => hP f)
theorem c_behind (hC : CI x iv u V pn on L) {o s : Nat} (ho : u.1 o = some (.inr 4)) (hs : s < 10) {t j : Int32} {P : Int32 → g_H → Prop} (hP : ∀ f : Nat → Int32, P (bS V pn L (iv o 0) (iv o 1) (iv o 2) s t j) (va_up iv (x + 33) f, u)) : gW (f_X3_behind (x + 28) o (iN s) t j) (iv, u) P := by
  have H := hC.X
  refine w_behind H.nw (by omega) hC.2.2.2.1.1 hC.2.2.2.1.2.1 ho (H.oNe ho).2.2.1 hs (hC.cF o hs) (fun f => ?_)
  have := hP f
  unfold bS at this
  rw [hC.s hs, hC.ca]
  exact this
/-- a ride as both see it: o rides in the court V; taken: props that are down, es: where one is eased -/
def rW (V : Nat → Int32) (pn : Nat) (L : gLw) (d n k : Int32) (dr te : Bool) (tk es : Int32) : gRz := rdLoop (fR V L d n k) (wR V L d n k) (sOn V pn tk) (V 5) n dr te es 10 0 ((0, 0, V 8, fun _ => 0), -1, fun _ => 0, fun _ => 0)
theorem sim0 {q : Int32} {w w' tA tA' fA fA' : Nat → Int32} : rdSim ((0, 0, q, w), -1, tA, fA) ((0, 0, q, w'), -1, tA', fA') := ⟨rfl, rfl, rfl, rfl, fun p hp h => by
  have h0 : ∀ p : Nat, p < 8 → ¬ (((0 : Int32) >>> (iN p &&& 31)) &&& 1 = 1) := by decide
  exact (h0 p hp h).elim⟩
theorem rdLoop_sd (fr wr : Nat → Int32 → Int32) (on' : Nat → Int32) (calm nerve : Int32) (te : Bool) (es : Int32) : ∀ (k s : Nat) (z : gRz), (rdLoop fr wr on' calm nerve false te es k s z).1.2.2.1 = z.1.2.2.1 := by
  intro k
  induction k with
  | zero => exact fun _ _ => rfl
  | succ k ih =>
    intro s z
    rw [rdLoop, ih]
    by_cases hz : z.2.1 = -1
    · rw [if_pos hz]
      show (rdStep fr wr (on' s) calm false es z.1).1.2.2.1 = _
      unfold rdStep
      by_cases h : on' s = -1
      · rw [if_pos h]
      · rw [if_neg h]; rfl
    · rw [if_neg hz]
theorem bor_or {c : Int32} {p q : Nat} (hp : p < 8) (hq : q < 8) (h : p = q ∨ (c >>> (iN p &&& 31)) &&& 1 = 1) : ((c ||| ((1 : Int32) <<< (iN q &&& 31))) >>> (iN p &&& 31)) &&& 1 = 1 := by
  have e : ∀ p : Nat, p < 8 → ∀ v : Int32, ((v >>> (iN p &&& 31)) &&& 1 = 1) ↔ v.toBitVec.getLsbD p = true := by
    intro p hp v
    have hk : (iN p &&& 31) = iN p := by
      have : ∀ p : Nat, p < 8 → (iN p &&& 31) = iN p := by decide
      exact this p hp
    have hs : (iN p).toBitVec.smod 32 = BitVec.ofNat 32 p := by
      have : ∀ p : Nat, p < 8 → (iN p).toBitVec.smod 32 = BitVec.ofNat 32 p := by decide
      exact this p hp
    have h2 : (BitVec.ofNat 32 p).toNat = p := by rw [BitVec.toNat_ofNat]; omega
    have hb : (v.toBitVec.sshiftRight p).getLsbD 0 = v.toBitVec.getLsbD p := by
      rw [BitVec.getLsbD_sshiftRight, if_pos (by omega), Nat.add_zero]
      rfl
    rw [hk, ← Int32.toBitVec_inj]
    show (v.toBitVec.sshiftRight ((iN p).toBitVec.smod 32).toNat) &&& 1#32 = 1#32 ↔ _
    rw [hs, h2, BitVec.and_one_eq_setWidth_ofBool_getLsbD, hb]
    cases v.toBitVec.getLsbD p <;> decide
  rw [e p hp] at h ⊢
  have ho : (c ||| ((1 : Int32) <<< (iN q &&& 31))).toBitVec = c.toBitVec ||| ((1 : Int32) <<< (iN q &&& 31)).toBitVec := rfl
  rw [ho, BitVec.getLsbD_or]
  rcases h with rfl | h
  · have : ∀ q : Nat, q < 8 → ((1 : Int32) <<< (iN q &&& 31)).toBitVec.getLsbD q = true := by decide
    rw [this p hq, Bool.or_true]
  · rw [h, Bool.true_or]
/-- a ride of the component; the court that it leaves -/
def cB (x : Nat) (iv jv : gV) (r : gRz) : Prop := Sx x (g_u2 iv (x + 28) 13 r.1.2.2.1) jv ∧ jv x 14 = r.2.1 ∧ jv x 15 = r.1.1 ∧ jv x 16 = r.1.2.1 ∧ (∀ p : Nat, p < 8 → (r.1.2.1 >>> (iN p &&& 31)) &&& 1 = 1 → jv (x + 98) p = r.1.2.2.2 p) ∧ ∀ a : Nat, a ≠ x → a ≠ x + 28 → a ≠ x + 33 → a ≠ x + 98 → jv a = iv a
theorem c_rides (hC : CI x iv u V pn on L) (h17 : iv x 17 = -1 ∨ ∃ e : Nat, e < 8 ∧ iv x 17 = iN e) {o : Nat} (ho : u.1 o = some (.inr 4)) {dr : Bool} {P : Unit → g_H → Prop} (hP : ∀ jv, cB x iv jv (rW V pn L (iv o 0) (iv o 1) (iv o 2) dr false 0 (eSet (iv x 17))) → P () (jv, u)) : gW (f_X1_rides x o (bI (dr = true))) (iv, u) P := by
  have H := hC.X
  have h8 := hC.p8
  refine w_rides2 (n1 := x + 370) (top := u.2.2.2.1) H ⟨by omega, hC.2.2.2.1.1, hC.2.2.2.1.2.1, ho, rfl, h17, fun s hs => hC.cF o hs⟩ (fun _ => 0) (fun _ => 0) (fun jv hj ht => ?_)
  have hsim : rdSim (cRide iv x L.1 L.2.1 L.2.2.1 L.2.2.2 V (iv o 0) (iv o 1) (iv o 2) dr (fun _ => 0) (fun _ => 0)) (rW V pn L (iv o 0) (iv o 1) (iv o 2) dr false 0 (eSet (iv x 17))) := by
    unfold cRide rW
    rw [hC.ca]
    refine rdLoop_sim _ _ _ _ _ _ 10 0 (fun j hj => ?_) _ _ ?_
    · rw [sOn_0 h8, show iv (x + 32) j = iv (x + 28 + 4) j from rfl, hC.s (by omega)]
      refine ⟨rfl, ?_⟩
      rcases sIn_or V pn (iN j) with e | ⟨p, hp, e, -⟩
      · exact Or.inl e
      · exact Or.inr ⟨p, by omega, e, Iff.rfl⟩
    · unfold cZ0
      rw [hC.sd]
      exact sim0
  obtain ⟨s1, s2, s3, s4, s5⟩ := hsim
  obtain ⟨a1, a2, a3, a4, a5, a6⟩ := hj
  refine hP jv ⟨⟨fun k h1 h2 h3 => ?_, ?_, fun k _ => ?_, fun k _ => ?_, fun a ha => ?_⟩, a2.trans s4, ht.trans s1, a3.trans s2, fun p hp hb => ?_, a6⟩
  · rw [g_u2_ne _ _ _ (by omega)]; exact a5 k h1 h2 h3
  · rw [g_u2_ne _ _ _ (by omega), a6 _ (by omega) (by omega) (by omega) (by omega)]
  · rw [g_u2_ne _ _ _ (by omega), a6 _ (by omega) (by omega) (by omega) (by omega)]
  · rw [g_u2_ne _ _ _ (by omega), a6 _ (by omega) (by omega) (by omega) (by omega)]
  · by_cases e : a = x + 28
    · subst e
      rw [g_u2_self, a1, s3]
    · rw [g_u2_ne _ _ _ e, a6 _ (by omega) e (by omega) (by omega)]
  · rw [a4]
    exact s5 p hp (by rw [s2]; exact hb)
theorem va_up_g {α : Type} (f : Nat → α) (k : Nat) : va_up f k (f k) = f := by
  funext j
  by_cases h : j = k
  · subst h; exact va_up_self _ _ _
  · exact va_up_ne _ _ h
theorem g_u2_id (f : gV) (a k : Nat) {y : Int32} (h : f a k = y) : g_u2 f a k y = f := by
  unfold g_u2
  rw [← h, va_up_g, va_up_id]
/-- a straight ride: only what is not kept changes -/
theorem cB.S {te : Bool} {tk es d n k : Int32} (h : cB x iv jv (rW V pn L d n k false te tk es)) (hC : CI x iv u V pn on L) : Sx x iv jv := by
  have e : (rW V pn L d n k false te tk es).1.2.2.1 = V 8 := by unfold rW; rw [rdLoop_sd]
  have := h.1
  rw [e, g_u2_id _ _ _ hC.sd] at this
  exact this
/-- a ride of the model -/
def mB (x : Nat) (iv jv : gV) (r : gRz) : Prop := Sm x (g_u2 iv (x + 353 + 1) 8 r.1.2.2.1) jv ∧ jv (x + 353) 28 = r.2.1 ∧ jv (x + 353) 30 = r.1.1 ∧ jv (x + 353) 29 = r.1.2.1 ∧ (∀ p : Nat, p < 8 → (r.1.2.1 >>> (iN p &&& 31)) &&& 1 = 1 → jv (x + 353 + 11) p = r.1.2.2.2 p) ∧ (∀ k : Nat, k ≠ 21 → k ≠ 22 → k ≠ 28 → k ≠ 29 → k ≠ 30 → jv (x + 353) k = iv (x + 353) k) ∧ (∀ a : Nat, a ≠ x + 353 → a ≠ x + 353 + 1 → a ≠ x + 353 + 8 → a ≠ x + 353 + 9 → a ≠ x + 353 + 10 → a ≠ x + 353 + 11 → jv a = iv a)
theorem m_rides (hM : MI x iv u V pn on L) {dr te : Bool} {d n k tk es : Int32} (e18 : iv (x + 353) 18 = d) (e19 : iv (x + 353) 19 = n) (e20 : iv (x + 353) 20 = k) (e23 : iv (x + 353) 23 = tk) (e24 : iv (x + 353) 24 = es) {r : gRz} (hr : rW V pn L d n k dr te tk es = r) {P : Int32 → g_H → Prop} (hP : ∀ jv, mB x iv jv r → (dr = false → tk = 0 → es = 0 → ∀ j : Nat, j < 10 → jv (x + 353 + 9) j = (if te = true ∨ aS V pn L d n k j = true then tS V pn L d n k (j + 1) else -1) ∧ jv (x + 353 + 10) j = (if te = true ∨ aS V pn L d n k j = true then fS V pn L d n k j (tS V pn L d n k j) else 0)) → P r.2.1 (jv, u)) : gW (f_X8_rides (x + 353) (bI (dr = true)) (bI (te = true))) (iv, u) P := by
  have h8 := hM.p8
  refine w_rides hM.M hM.pN h8 hM.mL (fun jv hj => ?_)
  have hV := hM.vE
  have hsim : rdSim (mRide iv (x + 353) pn L.1 L.2.1 L.2.2.1 L.2.2.2 dr te) r := by
    rw [← hr]
    unfold mRide rW mZ0 mFr mWr fR wR cFr cWr
    rw [hV, e18, e19, e20, e23, e24]
    refine rdLoop_sim _ _ _ _ _ _ 10 0 (fun j hj => ⟨rfl, ?_⟩) _ _ sim0
    rcases sOn_or V pn tk j with e | ⟨p, hp, e, -⟩
    · exact Or.inl e
    · exact Or.inr ⟨p, by omega, e, Iff.rfl⟩
  have hI : dr = false → tk = 0 → es = 0 → rI V pn L d n k te 10 (mRide iv (x + 353) pn L.1 L.2.1 L.2.2.1 L.2.2.2 dr te) := by
    intro h1 h2 h3
    unfold mRide mFr mWr
    rw [hV, e18, e19, e20, e23, e24, h1, h2, h3]
    refine rd_rI hM.W (fun s hs => sOn_0 h8) 10 0 _ (by omega) ⟨⟨fun _ => Or.inr rfl, fun _ => rfl⟩, fun _ => rfl, fun j hj => by omega⟩
  generalize mRide iv (x + 353) pn L.1 L.2.1 L.2.2.1 L.2.2.2 dr te = r0 at hj hsim hI ⊢
  obtain ⟨s1, s2, s3, s4, s5⟩ := hsim
  obtain ⟨a1, a2, a3, a4, a5, a6, a7, a8, a9⟩ := hj
  rw [s4]
  refine hP jv ⟨⟨fun k hk => ?_, fun a ha => ?_⟩, a5.trans s4, a7.trans s1, a6.trans s2, fun p hp hb => ?_, a8, a9⟩ (fun h1 h2 h3 j hj => ?_)
  · rw [g_u2_ne _ _ _ (by omega)]; exact a8 k (by omega) (by omega) (by omega) (by omega) (by omega)
  · by_cases e : a = x + 353 + 1
    · subst e
      rw [g_u2_self, a1, s3]
    · rw [g_u2_ne _ _ _ e, a9 _ (by omega) e (by omega) (by omega) (by omega) (by omega)]
  · rw [a4]
    exact s5 p hp (by rw [s2]; exact hb)
  · rw [a2, a3]
    exact (hI h1 h2 h3).2.2 j hj
theorem mB.S {te : Bool} {tk es d n k : Int32} {r : gRz} (hr : rW V pn L d n k false te tk es = r) (h : mB x iv jv r) (hM : MI x iv u V pn on L) : Sm x iv jv := by
  have e : r.1.2.2.1 = V 8 := by rw [← hr]; unfold rW; rw [rdLoop_sd]
  have := h.1
  rw [e, g_u2_id _ _ _ (by rw [hM.vE])] at this
  exact this
theorem m_looksAt (hM : MI x iv u V pn on L) {o : Nat} (ho : o < on) {P : Unit → g_H → Prop} (hP : ∀ jv, Sm x iv jv → MI x jv u V pn on L → (∀ k : Nat, k ≠ 18 → k ≠ 19 → k ≠ 20 → jv (x + 353) k = iv (x + 353) k) → (∀ a : Nat, a ≠ x + 353 → jv a = iv a) → jv (x + 353) 18 = V (41 + 4 * o + 0) → jv (x + 353) 19 = V (41 + 4 * o + 1) → jv (x + 353) 20 = V (41 + 4 * o + 2) → P () (jv, u)) : gW (f_X8_looksAt (x + 353) (iN o)) (iv, u) P := by
  have := hM.o6
  rw [w_looksAt hM.M (by omega), hM.vE]
  have hS : Sm x iv (g_u2 (g_u2 (g_u2 iv (x + 353) 18 (V (41 + 4 * o + 0))) (x + 353) 19 (V (41 + 4 * o + 1))) (x + 353) 20 (V (41 + 4 * o + 2))) := ((Sm.um (by omega)).tr (Sm.um (by omega))).tr (Sm.um (by omega))
  refine hP _ hS (hM.fr hS.S) (fun k h1 h2 h3 => ?_) (fun a ha => ?_) ?_ ?_ ?_
  · simp [g_u2, va_up, h1, h2, h3]
  · rw [g_u2_ne _ _ _ ha, g_u2_ne _ _ _ ha, g_u2_ne _ _ _ ha]
  · simp [g_u2, va_up]
  · simp [g_u2, va_up]
  · simp [g_u2, va_up]
/-- what a ride leaves in the model -/
def mS (x : Nat) (jv : gV) (r : gRz) (n : Int32) : Prop := jv (x + 353) 30 = r.1.1 ∧ jv (x + 353) 29 = r.1.2.1 ∧ jv (x + 353) 19 = n ∧ ∀ p : Nat, p < 8 → (r.1.2.1 >>> (iN p &&& 31)) &&& 1 = 1 → jv (x + 353 + 11) p = r.1.2.2.2 p
abbrev rO (V : Nat → Int32) (pn : Nat) (L : gLw) (o : Nat) (dr te : Bool) (tk es : Int32) : gRz := rW V pn L (V (41 + 4 * o + 0)) (V (41 + 4 * o + 1)) (V (41 + 4 * o + 2)) dr te tk es
abbrev tO (V : Nat → Int32) (pn : Nat) (L : gLw) (o : Nat) : Nat → Int32 := tS V pn L (V (41 + 4 * o + 0)) (V (41 + 4 * o + 1)) (V (41 + 4 * o + 2))
abbrev aO (V : Nat → Int32) (pn : Nat) (L : gLw) (o : Nat) : Nat → Bool := aS V pn L (V (41 + 4 * o + 0)) (V (41 + 4 * o + 1)) (V (41 + 4 * o + 2))
abbrev fO (V : Nat → Int32) (pn : Nat) (L : gLw) (o : Nat) : Nat → Int32 → Int32 := fS V pn L (V (41 + 4 * o + 0)) (V (41 + 4 * o + 1)) (V (41 + 4 * o + 2))
abbrev bO (V : Nat → Int32) (pn : Nat) (L : gLw) (o : Nat) : Nat → Int32 → Int32 → Int32 := bS V pn L (V (41 + 4 * o + 0)) (V (41 + 4 * o + 1)) (V (41 + 4 * o + 2))
/-- a straight ride of an accused, in the model -/
theorem m_straight (hM : MI x iv u V pn on L) {o : Nat} (ho : o < on) {r : gRz} (hr : rO V pn L o false false (iv (x + 353) 23) (iv (x + 353) 24) = r) {P : Int32 → g_H → Prop} (hP : ∀ jv, Sm x iv jv → mS x jv r (V (41 + 4 * o + 1)) → (iv (x + 353) 23 = 0 → iv (x + 353) 24 = 0 → ∀ j : Nat, j < 10 → jv (x + 353 + 9) j = (if aO V pn L o j = true then tO V pn L o (j + 1) else -1) ∧ jv (x + 353 + 10) j = (if aO V pn L o j = true then fO V pn L o j (tO V pn L o j) else 0)) → P r.2.1 (jv, u)) : gW (f_X8_ridesStraight (x + 353) (iN o)) (iv, u) P := by
  have H := hM.M
  unfold f_X8_ridesStraight
  simp only [gW_B, rMc H]
  refine m_looksAt hM ho (fun jv hS hM2 hk ha e18 e19 e20 => ?_)
  simp only [rMc H, gW_ret]
  have key := m_rides (dr := false) (te := false) (P := P) hM2 e18 e19 e20 (hk 23 (by decide) (by decide) (by decide)) (hk 24 (by decide) (by decide) (by decide)) hr (fun kv hB hj => ?_)
  · rw [bI_f (by decide)] at key
    exact key
  · have hS2 := mB.S hr hB hM2
    obtain ⟨b1, b2, b3, b4, b5, b6, b7⟩ := hB
    refine hP kv (hS.tr hS2) ⟨b3, b4, ?_, b5⟩ (fun h1 h2 j hj' => ?_)
    · rw [b6 19 (by decide) (by decide) (by decide) (by decide) (by decide), e19]
    · have := hj rfl h1 h2 j hj'
      simp only [Bool.false_eq_true, false_or] at this
      exact this
/-- a straight ride of an accused, in the component -/
theorem c_straight (hC : CI x iv u V pn on L) (h17 : iv x 17 = -1 ∨ ∃ e : Nat, e < 8 ∧ iv x 17 = iN e) {o : Nat} (ho : o < on) {P : Unit → g_H → Prop} (hP : ∀ jv, Sx x iv jv → cB x iv jv (rO V pn L o false false 0 (eSet (iv x 17))) → P () (jv, u)) : gW (f_X1_rides x (x + 28 + 15 + o) (0 : Int32)) (iv, u) P := by
  have key := c_rides (dr := false) (P := P) hC h17 (hC.sO ho) (fun jv h => ?_)
  · rw [bI_f (by decide)] at key
    exact key
  · rw [hC.o ho (by decide), hC.o ho (by decide), hC.o ho (by decide)] at h
    exact hP jv (h.S hC) h
theorem eSet_m1 : eSet (-1) = 0 := if_pos rfl
end RW
