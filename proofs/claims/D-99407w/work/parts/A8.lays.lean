/-! WHAT A RIDE LAYS ON PROPS, of both -/
section LAY
variable {iv jv kv lv : gV} {u v : gU} {x z b n t : Nat} {V : Nat → Int32} {pn on rm : Nat} {L : gLw}
abbrev bit (c : Int32) (p : Nat) : Prop := (c >>> (iN p &&& 31)) &&& 1 = 1
theorem iOr (a c : Nat) : iN a ||| iN c = iN (a ||| c) := by
  apply Int32.toBitVec_inj.mp
  show BitVec.ofNat 32 a ||| BitVec.ofNat 32 c = BitVec.ofNat 32 (a ||| c)
  exact BitVec.ofNat_or.symm
theorem iAnd (a c : Nat) : iN a &&& iN c = iN (a &&& c) := by
  apply Int32.toBitVec_inj.mp
  show BitVec.ofNat 32 a &&& BitVec.ofNat 32 c = BitVec.ofNat 32 (a &&& c)
  exact BitVec.ofNat_and.symm
/-- what can be said of a ride -/
def rdI (r : gRz) : Prop := (∃ c : Nat, c < 256 ∧ r.1.2.1 = iN c) ∧ (∀ p : Nat, p < 8 → bit r.1.2.1 p → ∃ f : Nat, f ≤ 361 ∧ r.1.2.2.2 p = iN f) ∧ (r.2.1 = -1 ∨ ∃ s : Nat, s < 10 ∧ r.2.1 = iN s)
theorem bit0 : ∀ p : Nat, p < 8 → ¬ bit 0 p := by decide
theorem rdLoop_I {fr wr : Nat → Int32 → Int32} {on' : Nat → Int32} {calm nerve : Int32} {dr te : Bool} {es : Int32} (hw : ∀ (p : Nat) (t : Int32), p < 8 → ∃ f : Nat, f ≤ 361 ∧ wr p t = iN f) (hon : ∀ s : Nat, on' s = -1 ∨ ∃ p : Nat, p < 8 ∧ on' s = iN p) : ∀ (k s : Nat) (z : gRz), s + k = 10 → rdI z → rdI (rdLoop fr wr on' calm nerve dr te es k s z) := by
  intro k
  induction k with
  | zero => intro s z _ h; rw [rdLoop]; exact h
  | succ k ih =>
    intro s z hs h
    rw [rdLoop]
    refine ih (s + 1) _ (by omega) ?_
    by_cases hz : z.2.1 = -1
    · rw [if_pos hz]
      have key : (∃ c : Nat, c < 256 ∧ (rdStep fr wr (on' s) calm dr es z.1).1.2.1 = iN c) ∧ (∀ p : Nat, p < 8 → bit (rdStep fr wr (on' s) calm dr es z.1).1.2.1 p → ∃ f : Nat, f ≤ 361 ∧ (rdStep fr wr (on' s) calm dr es z.1).1.2.2.2 p = iN f) := by
        unfold rdStep
        rcases hon s with e | ⟨p, hp, e⟩
        · rw [if_pos e]; exact ⟨h.1, h.2.1⟩
        · have ne : ¬ iN p = (-1 : Int32) := iN_eqm (by omega)
          rw [e, if_neg ne, iN_c (by omega)]
          obtain ⟨⟨c, c1, c2⟩, h2, -⟩ := h
          refine ⟨?_, fun p' hp' hb => ?_⟩
          · have e1 : (1 : Int32) <<< (iN p &&& 31) = iN (2 ^ p) := (sh2 p (by omega)).1
            refine ⟨c ||| 2 ^ p, ?_, ?_⟩
            · exact Nat.or_lt_two_pow (n := 8) c1 (Nat.pow_lt_pow_right (by decide) hp)
            · show z.1.2.1 ||| ((1 : Int32) <<< (iN p &&& 31)) = _
              rw [e1, c2, iOr]
          · show ∃ f : Nat, f ≤ 361 ∧ va_up z.1.2.2.2 p (wr p z.1.1) p' = iN f
            by_cases ep : p' = p
            · rw [ep, va_up_self]; exact hw p z.1.1 hp
            · rw [va_up_ne _ _ ep]
              have hb : ((z.1.2.1 ||| ((1 : Int32) <<< (iN p &&& 31))) >>> (iN p' &&& 31)) &&& 1 = 1 := hb
              rcases bit_or hp' hp hb with q | q
              · exact absurd q ep
              · exact h2 p' hp' q
      refine ⟨key.1, key.2, ?_⟩
      show (if _ then iN s else -1) = -1 ∨ _
      split
      · exact Or.inr ⟨s, by omega, rfl⟩
      · exact Or.inl rfl
    · rw [if_neg hz]
      exact ⟨h.1, h.2.1, h.2.2⟩
theorem rW_I (hW : WI V pn on) (hL : lS L) {d n k tk es : Int32} {dr te : Bool} {r : gRz} (hr : rW V pn L d n k dr te tk es = r) : rdI r := by
  have h8 := hW.1.2.1
  rw [← hr]
  unfold rW
  refine rdLoop_I (fun p t _ => wR_n hL) (fun s => ?_) 10 0 _ (by omega) ⟨⟨0, by omega, rfl⟩, fun p hp hb => absurd hb (bit0 p hp), Or.inl rfl⟩
  rcases sOn_or V pn tk s with e | ⟨p, hp, e, -⟩
  · exact Or.inl e
  · exact Or.inr ⟨p, by omega, e⟩
/-- worn, behind j props -/
def laS (V : Nat → Int32) (c : Int32) (w : Nat → Int32) : Nat → Nat → Int32
  | 0 => V
  | j + 1 => if bit c j then va_up (laS V c w j) (9 + 4 * j + 2) (mN 99 (V (9 + 4 * j + 2) + w j)) else laS V c w j
theorem la_o {c : Int32} {w : Nat → Int32} : ∀ (j k : Nat), ¬ (11 ≤ k ∧ k < 11 + 4 * j ∧ k % 4 = 3) → laS V c w j k = V k := by
  intro j
  induction j with
  | zero => exact fun _ _ => rfl
  | succ j ih =>
    intro k h
    rw [laS]
    split
    · rw [va_up_ne _ _ (by omega)]; exact ih k (by omega)
    · exact ih k (by omega)
theorem la_u {c : Int32} {w : Nat → Int32} {i : Nat} {y : Int32} : ∀ j : Nat, ¬ (11 ≤ i ∧ i < 11 + 4 * j ∧ i % 4 = 3) → laS (va_up V i y) c w j = va_up (laS V c w j) i y := by
  intro j
  induction j with
  | zero => exact fun _ => rfl
  | succ j ih =>
    intro h
    rw [laS, laS, ih (by omega), va_up_ne V _ (show 9 + 4 * j + 2 ≠ i by omega)]
    split
    · funext k
      by_cases e1 : k = 9 + 4 * j + 2
      · rw [e1, va_up_self, va_up_ne _ _ (by omega), va_up_self]
      · rw [va_up_ne _ _ e1]
        by_cases e2 : k = i
        · rw [e2, va_up_self, va_up_self]
        · rw [va_up_ne _ _ e2, va_up_ne _ _ e2, va_up_ne _ _ e1]
    · rfl
theorem mN99 {a f : Nat} (ha : a ≤ 99) (hf : f ≤ 361) : ∃ q : Nat, q ≤ 99 ∧ mN 99 (iN a + iN f) = iN q := by
  unfold mN
  rw [iN_add]
  split
  · rename_i h
    rw [show (99 : Int32) = iN 99 from rfl, iN_lt (by omega) (by omega)] at h
    exact ⟨_, by omega, rfl⟩
  · exact ⟨99, by omega, rfl⟩
/-- a worn that is a number -/
theorem la_n (hW : WI V pn on) {c : Int32} {w : Nat → Int32} {p : Nat} (hp : p < pn) (hw : ∀ p : Nat, p < 8 → bit c p → ∃ f : Nat, f ≤ 361 ∧ w p = iN f) (hb : bit c p) : ∃ q : Nat, q ≤ 99 ∧ mN 99 (V (9 + 4 * p + 2) + w p) = iN q := by
  have h8 := hW.1.2.1
  obtain ⟨-, -, -, a, a1, a2⟩ := hW.2.1 p hp
  obtain ⟨f, f1, f2⟩ := hw p (by omega) hb
  rw [a2, f2]
  exact mN99 a1 f1
theorem la_WI (hW : WI V pn on) {c : Int32} {w : Nat → Int32} (hw : ∀ p : Nat, p < 8 → bit c p → ∃ f : Nat, f ≤ 361 ∧ w p = iN f) : ∀ j : Nat, j ≤ pn → WI (laS V c w j) pn on := by
  intro j
  induction j with
  | zero => exact fun _ => hW
  | succ j ih =>
    intro hj
    rw [laS]
    split
    · rename_i hb
      obtain ⟨q, q1, q2⟩ := la_n hW (show j < pn by omega) hw hb
      rw [q2]
      exact (ih (by omega)).prp (by omega) q1
    · exact ih (by omega)
/-- one write into what the component rides on -/
theorem CI.wr (hC : CI x iv u V pn on L) {p q : Nat} (hp : p < pn) (hq : q ≤ 99) : CI x (g_u2 iv (x + 28 + 7 + p) 2 (iN q)) u (va_up V (9 + 4 * p + 2) (iN q)) pn on L := by
  obtain ⟨c1, ⟨s1, s2, s3, s4, s5, sp, so, sl⟩, c3, c4, c5⟩ := hC
  have h8 := c3.1.2.1
  have h6 := c3.1.2.2.2
  refine ⟨c1, ⟨?_, ?_, ?_, ?_, ?_, fun p' hp' f hf => ?_, fun o ho f hf => ?_, fun s hs => ?_⟩, c3.prp hp hq, c4.fr Ux.rf (fun a _ _ => g_u2_ne _ _ _ (by omega)) (by rw [g_u2_ne _ _ _ (by omega)]) (by omega), c5⟩
  · rw [g_u2_ne _ _ _ (by omega)]; exact s1
  · rw [g_u2_ne _ _ _ (by omega)]; exact s2
  · rw [g_u2_ne _ _ _ (by omega), va_up_ne _ _ (by omega)]; exact s3
  · rw [g_u2_ne _ _ _ (by omega), va_up_ne _ _ (by omega)]; exact s4
  · rw [g_u2_ne _ _ _ (by omega), va_up_ne _ _ (by omega)]; exact s5
  · by_cases ep : p' = p
    · rw [ep, g_u2_self]
      by_cases ef : f = 2
      · rw [ef, va_up_self, va_up_self]
      · rw [va_up_ne _ _ ef, va_up_ne _ _ (by omega)]; exact sp p hp f hf
    · rw [g_u2_ne _ _ _ (by omega), va_up_ne _ _ (by omega)]; exact sp p' hp' f hf
  · rw [g_u2_ne _ _ _ (by omega), va_up_ne _ _ (by omega)]; exact so o ho f hf
  · rw [g_u2_ne _ _ _ (by omega), sIn_c (fun p hp => va_up_ne _ _ (by omega))]; exact sl s hs
theorem CI.kn (hC : CI x iv u V pn on L) {o q : Nat} (ho : o < on) (hq : q < 256) : CI x (g_u2 iv (x + 28 + 15 + o) 2 (iN q)) u (va_up V (41 + 4 * o + 2) (iN q)) pn on L := by
  obtain ⟨c1, ⟨s1, s2, s3, s4, s5, sp, so, sl⟩, c3, c4, c5⟩ := hC
  have h8 := c3.1.2.1
  have h6 := c3.1.2.2.2
  refine ⟨c1, ⟨?_, ?_, ?_, ?_, ?_, fun p' hp' f hf => ?_, fun o' ho' f hf => ?_, fun s hs => ?_⟩, c3.one ho (Or.inl rfl) ⟨fun _ => ⟨q, hq, rfl⟩, fun h => absurd h (by decide)⟩, c4.fr Ux.rf (fun a _ _ => g_u2_ne _ _ _ (by omega)) (by rw [g_u2_ne _ _ _ (by omega)]) (by omega), c5⟩
  · rw [g_u2_ne _ _ _ (by omega)]; exact s1
  · rw [g_u2_ne _ _ _ (by omega)]; exact s2
  · rw [g_u2_ne _ _ _ (by omega), va_up_ne _ _ (by omega)]; exact s3
  · rw [g_u2_ne _ _ _ (by omega), va_up_ne _ _ (by omega)]; exact s4
  · rw [g_u2_ne _ _ _ (by omega), va_up_ne _ _ (by omega)]; exact s5
  · rw [g_u2_ne _ _ _ (by omega), va_up_ne _ _ (by omega)]; exact sp p' hp' f hf
  · by_cases eo : o' = o
    · rw [eo, g_u2_self]
      by_cases ef : f = 2
      · rw [ef, va_up_self, va_up_self]
      · rw [va_up_ne _ _ ef, va_up_ne _ _ (by omega)]; exact so o ho f hf
    · rw [g_u2_ne _ _ _ (by omega), va_up_ne _ _ (by omega)]; exact so o' ho' f hf
  · rw [g_u2_ne _ _ _ (by omega), sIn_c (fun p hp => va_up_ne _ _ (by omega))]; exact sl s hs
theorem CI.re (hC : CI x iv u V pn on L) {V' : Nat → Int32} (h : V = V') : CI x iv u V' pn on L := h ▸ hC
/-- the component wears props out -/
theorem c_wears_2 {c : Int32} {w : Nat → Int32} (hW : WI V pn on) (hw : ∀ p : Nat, p < 8 → bit c p → ∃ f : Nat, f ≤ 361 ∧ w p = iN f) {P : Unit → g_H → Prop} : ∀ (k p N : Nat) (jv : gV), p + k = pn → k < N → CI x jv u (laS V c w p) pn on L → jv x 16 = c → (∀ p : Nat, p < 8 → bit c p → jv (x + 98) p = w p) → (∀ kv : gV, (∀ a : Nat, (a < x + 28 + 7 ∨ x + 28 + 15 ≤ a) → kv a = jv a) → (∀ (a f : Nat), f ≠ 2 → kv a f = jv a f) → CI x kv u (laS V c w pn) pn on L → P () (kv, u)) → gW (f_X1_wearsOut_2 N x (iN p)) (jv, u) P := by
  have h8 := hW.1.2.1
  intro k
  induction k with
  | zero =>
    intro p N jv h1 h2 hC e16 e98 hP
    obtain ⟨N, rfl⟩ : ∃ N', N = N' + 1 := ⟨N - 1, by omega⟩
    have HX := hC.X
    have : p = pn := by omega
    subst this
    rw [f_X1_wearsOut_2, gW_B, rXr1 HX, gW_B, rSi HX.nw, hC.pN, gW_ift (Int32.le_refl _), gW_ret]
    exact hP jv (fun _ _ => rfl) (fun _ _ _ => rfl) hC
  | succ k ih =>
    intro p N jv h1 h2 hC e16 e98 hP
    obtain ⟨N, rfl⟩ : ∃ N', N = N' + 1 := ⟨N - 1, by omega⟩
    have HX := hC.X
    have hp : p < pn := by omega
    unfold f_X1_wearsOut_2 f_X1_wearsOut_61
    rw [gW_B, rXr1 HX, gW_B, rSi HX.nw, hC.pN, gW_iff (by rw [iN_le (by omega) (by omega)]; omega), gW_B, rXi HX, e16]
    by_cases hb : bit c p
    · obtain ⟨q, q1, q2⟩ := la_n hW hp hw hb
      have hb0 : (c >>> (iN p &&& 31)) &&& 1 = 1 := hb
      have e1 : jv (x + 28 + 7 + p) 2 = V (9 + 4 * p + 2) := by rw [hC.p hp (by decide), la_o p _ (by omega)]
      rw [gW_ift hb0, gW_B, rXr1 HX, gW_B, rSr0 HX.nw, gW_B, rSP HX.nw (by omega), gW_B, rXr1 HX, gW_B, rSr0 HX.nw, gW_B, rSP HX.nw (by omega), gW_B, rSPi HX.nw (by omega), e1, gW_B, rXr8 HX, gW_B, rXa98 HX (by omega), e98 p (by omega) hb, gW_B, w_min, q2, gW_B, rSPp HX.nw (by omega), iNp1]
      have C2 := (hC.wr hp q1).re (V' := laS V c w (p + 1)) (by rw [laS, if_pos hb, q2])
      refine ih (p + 1) N _ (by omega) (by omega) C2 (by rw [g_u2_ne _ _ _ (by omega)]; exact e16) (fun p' hp' hb' => by rw [g_u2_ne _ _ _ (by omega)]; exact e98 p' hp' hb') (fun kv g1 g2 g3 => hP kv (fun a ha => by rw [g1 a ha, g_u2_ne _ _ _ (by omega)]) (fun a f hf => ?_) g3)
      rw [g2 a f hf]
      by_cases ea : a = x + 28 + 7 + p
      · rw [ea, g_u2_self, va_up_ne _ _ hf]
      · rw [g_u2_ne _ _ _ ea]
    · have hb0 : ¬ (c >>> (iN p &&& 31)) &&& 1 = 1 := hb
      rw [gW_iff hb0, iNp1]
      exact ih (p + 1) N jv (by omega) (by omega) (hC.re (by rw [laS, if_neg hb])) e16 e98 hP
theorem c_wearsOut (hC : CI x iv u V pn on L) {c : Int32} {w : Nat → Int32} (hw : ∀ p : Nat, p < 8 → bit c p → ∃ f : Nat, f ≤ 361 ∧ w p = iN f) (e16 : iv x 16 = c) (e98 : ∀ p : Nat, p < 8 → bit c p → iv (x + 98) p = w p) {P : Unit → g_H → Prop} (hP : ∀ kv : gV, (∀ a : Nat, (a < x + 28 + 7 ∨ x + 28 + 15 ≤ a) → kv a = iv a) → (∀ (a f : Nat), f ≠ 2 → kv a f = iv a f) → CI x kv u (laS V c w pn) pn on L → P () (kv, u)) : gW (f_X1_wearsOut x) (iv, u) P := by
  have h8 := hC.p8
  unfold f_X1_wearsOut
  show gW (f_X1_wearsOut_2 gN x (iN 0)) _ _
  exact c_wears_2 hC.W hw pn 0 gN iv (by omega) (by rw [gN_eq]; omega) hC e16 e98 hP
/-! the model -/
theorem MI.wr (hM : MI x iv u V pn on L) {i : Nat} {y : Int32} (hW : WI (va_up V i y) pn on) (hi : i ≠ 3 ∧ i < 305) : MI x (g_u2 iv (x + 353 + 1) i y) u (va_up V i y) pn on L := ⟨hM.1, by rw [g_u2_self, hM.vE], hW, mL.h3 hM.lL (fun k hk => va_up_ne _ _ (by omega))⟩
theorem MI.re (hM : MI x iv u V pn on L) {V' : Nat → Int32} (h : V = V') : MI x iv u V' pn on L := h ▸ hM
theorem m_lays_19 {c : Int32} {w : Nat → Int32} (hW : WI V pn on) (hw : ∀ p : Nat, p < 8 → bit c p → ∃ f : Nat, f ≤ 361 ∧ w p = iN f) {P : Unit → g_H → Prop} : ∀ (k p N : Nat) (jv : gV), p + k = pn → k < N → MI x jv u (laS V c w p) pn on L → jv (x + 353) 29 = c → (∀ p : Nat, p < 8 → bit c p → jv (x + 353 + 11) p = w p) → (∀ kv : gV, (∀ a : Nat, a ≠ x + 353 + 1 → kv a = jv a) → MI x kv u (laS V c w pn) pn on L → P () (kv, u)) → gW (f_X8_laysOn_19 N (x + 353) (iN p)) (jv, u) P := by
  have h8 := hW.1.2.1
  intro k
  induction k with
  | zero =>
    intro p N jv h1 h2 hM e29 e11 hP
    obtain ⟨N, rfl⟩ : ∃ N', N = N' + 1 := ⟨N - 1, by omega⟩
    have H := hM.M
    have : p = pn := by omega
    subst this
    rw [f_X8_laysOn_19, gW_B, rMc H, gW_B, w_props H, hM.pN, gW_ift (Int32.le_refl _), gW_ret]
    exact hP jv (fun _ _ => rfl) hM
  | succ k ih =>
    intro p N jv h1 h2 hM e29 e11 hP
    obtain ⟨N, rfl⟩ : ∃ N', N = N' + 1 := ⟨N - 1, by omega⟩
    have H := hM.M
    have hp : p < pn := by omega
    unfold f_X8_laysOn_19 f_X8_laysOn_66
    rw [gW_B, rMc H, gW_B, w_props H, hM.pN, gW_iff (by rw [iN_le (by omega) (by omega)]; omega), gW_B, rMi H, e29, gW_B, w_has]
    by_cases hb : bit c p
    · obtain ⟨q, q1, q2⟩ := la_n hW hp hw hb
      have hb0 : (c >>> (iN p &&& 31)) &&& 1 = 1 := hb
      have e1 : jv (x + 353 + 1) (9 + 4 * p + 2) = V (9 + 4 * p + 2) := by rw [hM.vE, la_o p _ (by omega)]
      rw [bI_t hb0, gW_iff (by decide), gW_B, rMr0 H, gW_B, wpA.2.2.1, gW_B, rMc H, gW_B, w_ofProp2 H (by omega), e1, gW_B, rMr10 H, gW_B, rMa10 H (by omega), e11 p (by omega) hb, gW_B, w_min, q2, gW_B, rMs0 H (by omega), iNp1]
      have M2 := (hM.wr (i := 9 + 4 * p + 2) (y := iN q) ((la_WI hW hw p (by omega)).prp hp q1) (by omega)).re (V' := laS V c w (p + 1)) (by rw [laS, if_pos hb, q2])
      exact ih (p + 1) N _ (by omega) (by omega) M2 (by rw [g_u2_ne _ _ _ (by omega)]; exact e29) (fun p' hp' hb' => by rw [g_u2_ne _ _ _ (by omega)]; exact e11 p' hp' hb') (fun kv g1 g2 => hP kv (fun a ha => by rw [g1 a ha, g_u2_ne _ _ _ ha]) g2)
    · have hb0 : ¬ (c >>> (iN p &&& 31)) &&& 1 = 1 := hb
      rw [bI_f hb0, gW_ift rfl, iNp1]
      exact ih (p + 1) N jv (by omega) (by omega) (hM.re (by rw [laS, if_neg hb])) e29 e11 hP
/-- all that a ride lays: props, and what one knows -/
def laV (V : Nat → Int32) (pn : Nat) (c : Int32) (w : Nat → Int32) (o : Nat) : Nat → Int32 := va_up (laS V c w pn) (41 + 4 * o + 2) (V (41 + 4 * o + 2) ||| c)
theorem kn_n (hW : WI V pn on) {o c : Nat} (ho : o < on) (hc : c < 256) : ∃ q : Nat, q < 256 ∧ V (41 + 4 * o + 2) ||| iN c = iN q := by
  obtain ⟨k, k1, k2⟩ := (hW.2.2.2.1 o ho).2.2.1
  rw [k2, iOr]
  exact ⟨_, Nat.or_lt_two_pow (n := 8) k1 hc, rfl⟩
theorem m_laysOn (hM : MI x iv u V pn on L) {o c : Nat} {w : Nat → Int32} (ho : o < on) (hc : c < 256) (hw : ∀ p : Nat, p < 8 → bit (iN c) p → ∃ f : Nat, f ≤ 361 ∧ w p = iN f) (e29 : iv (x + 353) 29 = iN c) (e11 : ∀ p : Nat, p < 8 → bit (iN c) p → iv (x + 353 + 11) p = w p) {P : Unit → g_H → Prop} (hP : ∀ kv : gV, (∀ a : Nat, a ≠ x + 353 + 1 → kv a = iv a) → MI x kv u (laV V pn (iN c) w o) pn on L → P () (kv, u)) : gW (f_X8_laysOn (x + 353) (iN o)) (iv, u) P := by
  have H := hM.M
  have h8 := hM.p8
  have h6 := hM.o6
  obtain ⟨q, q1, q2⟩ := kn_n hM.W ho hc
  unfold f_X8_laysOn
  rw [gW_B, rMr0 H, gW_B, woA.2.2.1, gW_B, rMa0 H (by omega), hM.vE, gW_B, rMi H, e29, q2, gW_B, rMs0 H (by omega)]
  have W2 : WI (va_up V (41 + 4 * o + 2) (iN q)) pn on := hM.W.one ho (Or.inl rfl) ⟨fun _ => ⟨q, q1, rfl⟩, fun h => absurd h (by decide)⟩
  have M2 := hM.wr (i := 41 + 4 * o + 2) (y := iN q) W2 (by omega)
  show gW (f_X8_laysOn_19 gN (x + 353) (iN 0)) _ _
  refine m_lays_19 (V := va_up V (41 + 4 * o + 2) (iN q)) W2 hw pn 0 gN _ (by omega) (by rw [gN_eq]; omega) M2 (by rw [g_u2_ne _ _ _ (by omega)]; exact e29) (fun p hp hb => by rw [g_u2_ne _ _ _ (by omega)]; exact e11 p hp hb) (fun kv g1 g2 => hP kv (fun a ha => by rw [g1 a ha, g_u2_ne _ _ _ ha]) (g2.re ?_))
  rw [la_u pn (by omega)]
  unfold laV
  rw [q2]
end LAY
