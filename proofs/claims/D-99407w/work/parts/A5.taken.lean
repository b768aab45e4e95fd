/-! PROPS THAT ARE TAKEN DOWN: a ride in what is left, as both see it -/
section TKN
variable {iv jv kv lv : gV} {u v : gU} {x z b n t : Nat} {V : Nat → Int32} {pn on : Nat} {L : gLw}
/-- the court without some props -/
def tkV (V : Nat → Int32) (pn : Nat) (w : Int32) : Nat → Int32 := fun k => if 12 ≤ k ∧ k < 12 + 4 * pn ∧ k % 4 = 0 ∧ (w >>> (iN ((k - 12) / 4) &&& 31)) &&& 1 = 1 then -1 else V k
theorem tk_o {w : Int32} {k : Nat} (h : ¬ (12 ≤ k ∧ k < 12 + 4 * pn ∧ k % 4 = 0)) : tkV V pn w k = V k := if_neg (fun q => h ⟨q.1, q.2.1, q.2.2.1⟩)
theorem tk_p {w : Int32} {p : Nat} (hp : p < pn) : tkV V pn w (9 + 4 * p + 3) = if (w >>> (iN p &&& 31)) &&& 1 = 1 then -1 else V (9 + 4 * p + 3) := by
  unfold tkV
  rw [show (9 + 4 * p + 3 - 12) / 4 = p by omega]
  by_cases c : (w >>> (iN p &&& 31)) &&& 1 = 1
  · rw [if_pos ⟨by omega, by omega, by omega, c⟩, if_pos c]
  · rw [if_neg (fun q => c q.2.2.2), if_neg c]
theorem tk_f {w : Int32} {p f : Nat} (hp : p < pn) (hf : f < 3) : tkV V pn w (9 + 4 * p + f) = V (9 + 4 * p + f) := tk_o (by omega)
theorem tk_WI (hW : WI V pn on) {w : Int32} : WI (tkV V pn w) pn on := by
  have h8 := hW.1.2.1
  have h6 := hW.1.2.2.2
  have o : ∀ k : Nat, ¬ (12 ≤ k ∧ k < 12 + 4 * pn ∧ k % 4 = 0) → tkV V pn w k = V k := fun k h => tk_o h
  obtain ⟨⟨a1, a2, a3, a4⟩, b, c', d, f1, f2, f3, f4, f5⟩ := hW
  refine ⟨⟨by rw [o 0 (by omega)]; exact a1, a2, by rw [o 1 (by omega)]; exact a3, a4⟩, fun p hp => ?_, fun p q hp hq => ?_, fun o' ho' => ?_, ?_, ?_, ?_, ?_, ?_⟩
  · obtain ⟨d3, d0, d1, d2⟩ := b p hp
    refine ⟨?_, by rw [o _ (by omega)]; exact d0, by rw [o _ (by omega)]; exact d1, by rw [o _ (by omega)]; exact d2⟩
    rw [tk_p hp]
    split
    · exact Or.inl rfl
    · exact d3
  · rw [tk_p hp, tk_p hq]
    intro e hne
    by_cases cp : (w >>> (iN p &&& 31)) &&& 1 = 1
    · rw [if_pos cp] at hne; exact absurd rfl hne
    · rw [if_neg cp] at e hne
      by_cases cq : (w >>> (iN q &&& 31)) &&& 1 = 1
      · rw [if_pos cq] at e; exact absurd e hne
      · rw [if_neg cq] at e
        exact c' p q hp hq e hne
  · rw [o _ (by omega), o _ (by omega), o _ (by omega), o _ (by omega)]; exact d o' ho'
  · rw [o 2 (by omega)]; exact f1
  · rw [o 4 (by omega)]; exact f2
  · rw [o 5 (by omega)]; exact f3
  · rw [o 6 (by omega)]; exact f4
  · rw [o 3 (by omega)]; exact f5
theorem tk_sIn (hW : WI V pn on) {w : Int32} {s : Nat} (hs : s < 10) : sIn (tkV V pn w) pn (iN s) = sOn V pn w s := by
  have h8 := hW.1.2.1
  have ne : iN s ≠ -1 := iN_eqm (by omega)
  unfold sOn
  rcases sIn_or V pn (iN s) with e | ⟨p, hp, e, e2⟩
  · rw [if_pos e]
    refine sIn_no (fun p hp q => ?_)
    rw [tk_p hp] at q
    by_cases c : (w >>> (iN p &&& 31)) &&& 1 = 1
    · rw [if_pos c] at q; exact ne q.symm
    · rw [if_neg c] at q; exact sIn_none hW e ne p hp q
  · rw [e, if_neg (iN_eqm (by omega))]
    by_cases c : (w >>> (iN p &&& 31)) &&& 1 = 1
    · rw [if_pos c]
      refine sIn_no (fun p' hp' q => ?_)
      rw [tk_p hp'] at q
      by_cases c' : (w >>> (iN p' &&& 31)) &&& 1 = 1
      · rw [if_pos c'] at q; exact ne q.symm
      · rw [if_neg c'] at q
        have := hW.2.2.1 p' p hp' hp (q.trans e2.symm) (by rw [q]; exact ne)
        rw [this] at c'
        exact c' c
    · rw [if_neg c]
      have h1 : tkV V pn w (9 + 4 * p + 3) = iN s := by rw [tk_p hp, if_neg c, e2]
      have := sIn_found (tk_WI hW (w := w)) hp (by rw [h1]; exact ne)
      rw [h1] at this
      exact this
theorem sF_c {W W' : Nat → Int32} {p : Nat} {t d n k : Int32} (h : ∀ f : Nat, f < 4 → W' (9 + 4 * p + f) = W (9 + 4 * p + f)) : sF W' p t d n k = sF W p t d n k := by
  funext j
  unfold sF
  have h0 := h 0 (by decide)
  have h1 := h 1 (by decide)
  have h2 := h 2 (by decide)
  have h3 := h 3 (by decide)
  rw [Nat.add_zero] at h0
  simp only [Nat.add_zero, h0, h1, h2, h3]
theorem fR_c {W W' : Nat → Int32} {p : Nat} {d n k t : Int32} (h : ∀ f : Nat, f < 4 → W' (9 + 4 * p + f) = W (9 + 4 * p + f)) : fR W' L d n k p t = fR W L d n k p t ∧ wR W' L d n k p t = wR W L d n k p t := by
  unfold fR wR cFr cWr sFr
  rw [sF_c h, h 1 (by decide), h 2 (by decide)]
  exact ⟨rfl, rfl⟩
theorem rdLoop_cg {fr wr fr' wr' : Nat → Int32 → Int32} {on' on2 : Nat → Int32} {calm nerve : Int32} {dr te : Bool} {es : Int32} : ∀ (k s : Nat) (z : gRz), (∀ j : Nat, s ≤ j → j < s + k → on' j = on2 j ∧ (on' j = -1 ∨ ∃ p : Nat, p < 8 ∧ on' j = iN p ∧ ∀ t : Int32, fr p t = fr' p t ∧ wr p t = wr' p t)) → rdLoop fr wr on' calm nerve dr te es k s z = rdLoop fr' wr' on2 calm nerve dr te es k s z := by
  intro k
  induction k with
  | zero => intro s z _; rw [rdLoop, rdLoop]
  | succ k ih =>
    intro s z h
    obtain ⟨h1, h2⟩ := h s (Nat.le_refl _) (by omega)
    have st : ∀ q : gRq, rdStep fr wr (on' s) calm dr es q = rdStep fr' wr' (on2 s) calm dr es q := by
      intro q
      rw [← h1]
      unfold rdStep
      rcases h2 with e | ⟨p, hp, e, e2⟩
      · rw [if_pos e, if_pos e]
      · have ne : ¬ iN p = (-1 : Int32) := iN_eqm (by omega)
        rw [e, if_neg ne, if_neg ne, iN_c (by omega), (e2 q.1).1, (e2 q.1).2]
    rw [rdLoop, rdLoop, st]
    exact ih (s + 1) _ (fun j h3 h4 => h j (by omega) (by omega))
/-- a ride in what is left -/
theorem rW_tk (hW : WI V pn on) {w es d n k : Int32} {dr te : Bool} : rW (tkV V pn w) pn L d n k dr te 0 es = rW V pn L d n k dr te w es := by
  have h8 := hW.1.2.1
  unfold rW
  rw [tk_o (show ¬ (12 ≤ 5 ∧ 5 < 12 + 4 * pn ∧ 5 % 4 = 0) by omega), tk_o (show ¬ (12 ≤ 8 ∧ 8 < 12 + 4 * pn ∧ 8 % 4 = 0) by omega)]
  refine rdLoop_cg 10 0 _ (fun j _ hj => ?_)
  rw [sOn_0 h8, tk_sIn hW (by omega)]
  refine ⟨rfl, ?_⟩
  unfold sOn
  by_cases c : sIn V pn (iN j) = -1
  · rw [if_pos c]; exact Or.inl rfl
  · rw [if_neg c]
    rcases sIn_or V pn (iN j) with e | ⟨p, hp, e, e2⟩
    · exact absurd e c
    · rw [e]
      by_cases cb : (w >>> (iN p &&& 31)) &&& 1 = 1
      · rw [if_pos cb]; exact Or.inl rfl
      · rw [if_neg cb]
        refine Or.inr ⟨p, by omega, rfl, fun t => fR_c (fun f hf => ?_)⟩
        by_cases f3 : f = 3
        · rw [f3, tk_p hp, if_neg cb]
        · exact tk_f hp (by omega)
theorem rO_tk (hW : WI V pn on) {o : Nat} (ho : o < on) {w es : Int32} : rO (tkV V pn w) pn L o false false 0 es = rO V pn L o false false w es := by
  have h8 := hW.1.2.1
  unfold rO
  rw [tk_o (show ¬ (12 ≤ 41 + 4 * o + 0 ∧ 41 + 4 * o + 0 < 12 + 4 * pn ∧ (41 + 4 * o + 0) % 4 = 0) by omega), tk_o (show ¬ (12 ≤ 41 + 4 * o + 1 ∧ 41 + 4 * o + 1 < 12 + 4 * pn ∧ (41 + 4 * o + 1) % 4 = 0) by omega), tk_o (show ¬ (12 ≤ 41 + 4 * o + 2 ∧ 41 + 4 * o + 2 < 12 + 4 * pn ∧ (41 + 4 * o + 2) % 4 = 0) by omega)]
  exact rW_tk hW
/-! one that is down, or where one is eased -/
/-- as the model names it: 8 is none -/
def mk8 (i : Nat) : Int32 := if i = 8 then 0 else (1 : Int32) <<< (iN i &&& 31)
def mu8 (pn c : Nat) : Nat := if c = pn then 8 else c
def usW (V : Nat → Int32) (pn : Nat) (L : gLw) (o a e : Nat) : Bool := decide (¬ (rO V pn L o false false (mk8 a) (mk8 e)).2.1 = -1)
/-- what can be down -/
def usC (V : Nat → Int32) (pn i : Nat) : Bool := decide (i = 8 ∨ (i < pn ∧ ¬ V (9 + 4 * i + 3) = -1))
theorem mk8_b : ∀ d : Nat, d < 8 → ∀ p : Nat, p < 8 → (((mk8 d >>> (iN p &&& 31)) &&& 1 = 1) ↔ p = d) := by decide
theorem mk8_8 : mk8 8 = 0 := by decide
/-- the component's slots when one is down -/
theorem down_slot (hW : WI V pn on) {d s0 : Nat} (hd : d < pn) (hs0 : s0 < 10) (e : V (9 + 4 * d + 3) = iN s0) {s : Nat} (hs : s < 10) {y : Int32} (hy : y = sIn V pn (iN s)) : (if s = s0 then -1 else y) = sIn (tkV V pn (mk8 d)) pn (iN s) := by
  have h8 := hW.1.2.1
  rw [tk_sIn hW hs, hy]
  unfold sOn
  have ne : V (9 + 4 * d + 3) ≠ -1 := by rw [e]; exact iN_eqm (by omega)
  have hf := sIn_found hW hd ne
  rw [e] at hf
  by_cases c : s = s0
  · rw [if_pos c, c, hf, if_neg (iN_eqm (by omega)), if_pos ((mk8_b d (by omega) d (by omega)).mpr rfl)]
  · rw [if_neg c]
    rcases sIn_or V pn (iN s) with q | ⟨p, hp, q, q2⟩
    · rw [if_pos q, q]
    · rw [q, if_neg (iN_eqm (by omega))]
      have : p ≠ d := fun h => by
        rw [h, e, iN_eq (by omega) (by omega)] at q2
        exact c q2.symm
      rw [if_neg (fun h => this ((mk8_b d (by omega) p (by omega)).mp h))]
theorem eSet_mk {e : Nat} (he : e < 8) : eSet (iN e) = mk8 e := by
  unfold eSet mk8
  rw [if_neg (iN_eqm (by omega)), if_neg (by omega)]
/-- the component: does one scream, a prop being down, one being eased at one -/
theorem c_screamsBy (hC : CI x iv u V pn on L) (h3 : cP3 x iv V pn) (h17 : iv x 17 = -1) {o d e : Nat} (ho : o < on) (hd : d ≤ pn) (hdC : usC V pn (mu8 pn d) = true) (he : e ≤ pn) {P : Int32 → g_H → Prop} (hP : ∀ kv : gV, Sx x iv kv → CI x kv u V pn on L → cP3 x kv V pn → P (bI (usW V pn L o (mu8 pn d) (mu8 pn e) = true)) (kv, u)) : gW (f_X1_screamsBy x (x + 28 + 15 + o) (iN d) (iN e)) (iv, u) P := by
  have HX := hC.X
  have h8 := hC.p8
  have hW := hC.W
  -- behind the slot
  have main : ∀ (y : Int32) (j1 : gV), CI x j1 u (tkV V pn (mk8 (mu8 pn d))) pn on L → (∀ c : Nat, c ≠ x + 28 + 4 → j1 c = iv c) → (∀ (j4 : gV), (∀ c : Nat, c ≠ x → c ≠ x + 33 → c ≠ x + 98 → j4 c = j1 c) → (∀ k : Nat, k ≠ 14 → k ≠ 15 → k ≠ 16 → j4 x k = iv x k) → XS u x → gW (gIf (y = (-1 : Int32)) (f_X1_screamsBy_94 x) (gB (gFR x 0 1) fun v102 => gB (gFR v102 2 3) fun v103 => gB (gSI v103 0 y (iN d)) fun _ => f_X1_screamsBy_94 x)) (j4, u) (fun c h2 => ∃ j5 : gV, (∀ c : Nat, c ≠ x + 28 + 4 → j5 c = j4 c) ∧ j5 (x + 28 + 4) = iv (x + 28 + 4) ∧ gW (f_X1_screamsBy_94 x) (j5, u) (fun c' h2' => c' = c ∧ h2' = h2))) → gW (f_X1_screamsBy_46 x (x + 28 + 15 + o) (iN d) (iN e) y) (j1, u) P := by
    intro y j1 C1 a1 hend
    have H1 := C1.X
    have ride : ∀ z : Int32, (z = -1 ∨ ∃ e : Nat, e < 8 ∧ z = iN e) → eSet z = mk8 (mu8 pn e) → gW (f_X1_screamsBy_63 x (x + 28 + 15 + o) (iN d) y x z) (j1, u) P := by
      intro z hz hez
      unfold f_X1_screamsBy_63
      rw [gW_B, rXp H1, gW_B, rXc H1, gW_B]
      have b1 : ∀ c : Nat, c ≠ x → g_u2 j1 x 17 z c = j1 c := fun c hc => g_u2_ne _ _ _ hc
      have b2 : g_u2 j1 x 17 z x = va_up (j1 x) 17 z := g_u2_self _ _ _ _
      generalize g_u2 j1 x 17 z = j2 at b1 b2 ⊢
      have C2 : CI x j2 u (tkV V pn (mk8 (mu8 pn d))) pn on L := ⟨C1.1, C1.2.1.fr h8 C1.o6 (fun k _ => by rw [b1 _ (by omega)]) (fun a _ _ _ _ => b1 a (by omega)), C1.2.2.1, C1.2.2.2.1.fr Ux.rf (fun a _ _ => b1 a (by omega)) (by rw [b1 _ (by omega)]) (by have := C1.2.2.2.2; omega), C1.2.2.2.2⟩
      have e17 : j2 x 17 = z := by rw [b2, va_up_self]
      obtain ⟨r, hr⟩ : ∃ r, rO (tkV V pn (mk8 (mu8 pn d))) pn L o false false 0 (eSet (j2 x 17)) = r := ⟨_, rfl⟩
      refine c_straight C2 (by rw [e17]; exact hz) ho (fun j3 S3 hB => ?_)
      rw [hr] at hB
      rw [e17, hez, rO_tk hW ho] at hr
      have hu : usW V pn L o (mu8 pn d) (mu8 pn e) = decide (¬ r.2.1 = -1) := by unfold usW; rw [hr]
      rw [hu] at hP
      clear hr hu
      have H3 := H1
      rw [gW_B, rXp H1]
      have c1 : ∀ c : Nat, c ≠ x → g_u2 j3 x 17 (-1) c = j3 c := fun c hc => g_u2_ne _ _ _ hc
      have c2 : g_u2 j3 x 17 (-1) x = va_up (j3 x) 17 (-1) := g_u2_self _ _ _ _
      generalize g_u2 j3 x 17 (-1) = j4 at c1 c2 ⊢
      have k4 : ∀ c : Nat, c ≠ x → c ≠ x + 33 → c ≠ x + 98 → j4 c = j1 c := fun c q1 q2 q3 => by
        rw [c1 c q1]
        by_cases q4 : c = x + 28
        · rw [q4, S3.a (by omega), b1 _ (by omega)]
        · rw [hB.2.2.2.2.2 c q1 q4 q2 q3, b1 c q1]
      have k5 : ∀ k : Nat, k ≠ 14 → k ≠ 15 → k ≠ 16 → j4 x k = iv x k := fun k q1 q2 q3 => by
        rw [c2]
        by_cases q : k = 17
        · rw [q, va_up_self, h17]
        · rw [va_up_ne _ _ q, S3.1 k q1 q2 q3, b2, va_up_ne _ _ q, a1 _ (by omega)]
      refine gW_mono (hend j4 k4 k5 H1) (fun c h2 ⟨j5, d1, d2, d3⟩ => ?_)
      have S5 : Sx x iv j5 := by
        refine ⟨fun k q1 q2 q3 => by rw [d1 _ (by omega)]; exact k5 k q1 q2 q3, by rw [d1 _ (by omega), k4 _ (by omega) (by omega) (by omega), a1 _ (by omega)], fun k _ => by rw [d1 _ (by omega), k4 _ (by omega) (by omega) (by omega), a1 _ (by omega)], fun k _ => by rw [d1 _ (by omega), k4 _ (by omega) (by omega) (by omega), a1 _ (by omega)], fun a ha => ?_⟩
        by_cases q : a = x + 28 + 4
        · rw [q, d2]
        · rw [d1 a q, k4 a (by omega) (by omega) (by omega), a1 a q]
      have e14 : j5 x 14 = r.2.1 := by rw [d1 _ (by omega), c2, va_up_ne _ _ (by decide)]; exact hB.2.1
      have hp5 : cP3 x j5 V pn := fun p hp => by rw [d1 _ (by omega), k4 _ (by omega) (by omega) (by omega), a1 _ (by omega)]; exact h3 p hp
      have fin := hP j5 S5 (hC.fr S5) hp5
      unfold f_X1_screamsBy_94 f_X1_screamsBy_107 at d3
      rw [gW_B, rXi H1, e14] at d3
      by_cases q : r.2.1 = -1
      · have hf : ¬ (decide (¬ r.2.1 = -1) = true) := fun h => absurd q (of_decide_eq_true h)
        rw [bI_f hf] at fin
        rw [gW_ift q, gW_gd1 (Or.inl rfl)] at d3
        rw [← d3.1, ← d3.2]
        exact fin
      · rw [bI_t (decide_eq_true q)] at fin
        rw [gW_iff q, gW_gd1 (Or.inr rfl)] at d3
        rw [← d3.1, ← d3.2]
        exact fin
    unfold f_X1_screamsBy_46
    rw [gW_B, rXr1 H1, gW_B, rSi H1.nw, C1.pN]
    by_cases ce : e = pn
    · rw [gW_ift (by rw [ce])]
      exact ride (-1) (Or.inl rfl) (by unfold mu8; rw [if_pos ce, mk8_8, eSet_m1])
    · rw [gW_iff (by rw [iN_eq (by omega) (by omega)]; exact ce)]
      exact ride _ (Or.inr ⟨e, by omega, rfl⟩) (by unfold mu8; rw [if_neg ce]; exact eSet_mk (by omega))
  have self : ∀ (j5 : gV) (Q : Int32 → g_H → Prop), gW (f_X1_screamsBy_94 x) (j5, u) Q → gW (f_X1_screamsBy_94 x) (j5, u) (fun c h2 => gW (f_X1_screamsBy_94 x) (j5, u) (fun c' h2' => c' = c ∧ h2' = h2)) := by
    rintro j5 Q ⟨r, h', e1, -⟩
    exact ⟨r, h', e1, r, h', e1, rfl, rfl⟩
  have tot : ∀ j5 : gV, gW (f_X1_screamsBy_94 x) (j5, u) (fun _ _ => True) := by
    intro j5
    unfold f_X1_screamsBy_94 f_X1_screamsBy_107
    rw [gW_B, rXi HX]
    by_cases q : j5 x 14 = -1
    · rw [gW_ift q, gW_gd1 (Or.inl rfl)]; trivial
    · rw [gW_iff q, gW_gd1 (Or.inr rfl)]; trivial
  unfold f_X1_screamsBy
  rw [gW_B, rXr1 HX, gW_B, rSi HX.nw, hC.pN]
  unfold f_X1_screamsBy_27
  by_cases cd : d = pn
  · rw [gW_ift (by rw [cd]), gW_ift rfl]
    have em : mk8 (mu8 pn d) = 0 := by unfold mu8; rw [if_pos cd]; exact mk8_8
    refine main (-1) iv (hC.slo (tk_WI hW) (fun k hk => tk_o hk) (fun _ _ => rfl) (fun s hs => by rw [tk_sIn hW hs, em, sOn_0 h8]; exact hC.s hs)) (fun _ _ => rfl) (fun j4 k4 k5 H4 => ?_)
    rw [gW_ift rfl]
    exact gW_mono (self j4 _ (tot j4)) (fun c h2 q => ⟨j4, fun _ _ => rfl, k4 _ (by omega) (by omega) (by omega), q⟩)
  · have hd2 : d < pn := by omega
    have em : mu8 pn d = d := by unfold mu8; rw [if_neg cd]
    have hV : ¬ V (9 + 4 * d + 3) = -1 := by
      rw [em] at hdC
      rcases of_decide_eq_true hdC with q | q
      · omega
      · exact q.2
    rcases (hW.2.1 d hd2).1 with q | ⟨s0, hs0, q⟩
    · exact absurd q hV
    · rw [gW_iff (by rw [iN_eq (by omega) (by omega)]; exact cd), gW_B, rXr1 HX, gW_B, rSr0 HX.nw, gW_B, rSP HX.nw (by omega), gW_B, rSPi HX.nw (by omega), h3 d hd2, q, gW_iff (iN_eqm (by omega)), gW_B, rXr1 HX, gW_B, rSr3 HX.nw, gW_B, rSs3 HX.nw hs0]
      refine main (iN s0) _ ?_ (fun c hc => g_u2_ne _ _ _ hc) (fun j4 k4 k5 H4 => ?_)
      · refine hC.slo (tk_WI hW) (fun k hk => tk_o hk) (fun c hc => g_u2_ne _ _ _ hc) (fun s hs => ?_)
        rw [em, ← down_slot hW hd2 hs0 q hs (hC.s hs), g_u2_self]
        rfl
      · rw [gW_iff (iN_eqm (by omega)), gW_B, rXr1 H4, gW_B, rSr3 H4.nw, gW_B, rSs3 H4.nw hs0]
        refine gW_mono (self _ _ (tot _)) (fun c h2 q2 => ⟨_, fun c hc => g_u2_ne _ _ _ hc, ?_, q2⟩)
        rw [g_u2_self, k4 _ (by omega) (by omega) (by omega), g_u2_self, va_up_up]
        have : iv (x + 28 + 4) s0 = iN d := by
          have hf := sIn_found hW hd2 hV
          rw [q] at hf
          rw [hC.s hs0, hf]
        rw [← this]
        exact va_up_g _ _
/-- the model's -/
theorem m_isHeard (hM : MI x iv u V pn on L) (h23 : iv (x + 353) 23 = 0) (h24 : iv (x + 353) 24 = 0) {o a e : Nat} (ho : o < on) (ha : a ≤ 8) (he : e ≤ 8) {P : Int32 → g_H → Prop} (hP : ∀ kv : gV, Sm x iv kv → MI x kv u V pn on L → P (bI (usW V pn L o a e = true)) (kv, u)) : gW (f_X8_isHeard (x + 353) (iN o) (iN a) (iN e)) (iv, u) P := by
  have H := hM.M
  have st : gW (gB (gPI (x + 353) 7 23 (mk8 a)) fun _ => f_X8_isHeard_31 (x + 353) (iN o) (x + 353) (mk8 e)) (iv, u) P := by
    unfold f_X8_isHeard_31
    rw [gW_B, rMp H, gW_B, rMp H, gW_B, rMc H, gW_B]
    have b1 : ∀ c : Nat, c ≠ x + 353 → g_u2 (g_u2 iv (x + 353) 23 (mk8 a)) (x + 353) 24 (mk8 e) c = iv c := fun c hc => by rw [g_u2_ne _ _ _ hc, g_u2_ne _ _ _ hc]
    have b2 : g_u2 (g_u2 iv (x + 353) 23 (mk8 a)) (x + 353) 24 (mk8 e) (x + 353) = va_up (va_up (iv (x + 353)) 23 (mk8 a)) 24 (mk8 e) := by rw [g_u2_self, g_u2_self]
    generalize g_u2 (g_u2 iv (x + 353) 23 (mk8 a)) (x + 353) 24 (mk8 e) = j1 at b1 b2 ⊢
    have M1 : MI x j1 u V pn on L := ⟨hM.1, by rw [b1 _ (by omega)]; exact hM.2.1, hM.2.2⟩
    obtain ⟨r, hr⟩ : ∃ r, rO V pn L o false false (mk8 a) (mk8 e) = r := ⟨_, rfl⟩
    have hu : usW V pn L o a e = decide (¬ r.2.1 = -1) := by unfold usW; rw [hr]
    rw [hu] at hP
    refine m_straight M1 ho (r := r) (by rw [b2, va_up_self, va_up_ne _ _ (by decide), va_up_self]; exact hr) (fun j2 S2 _ _ => ?_)
    clear hr hu
    have fin : gW (f_X8_isHeard_48 (x + 353) (bI (decide (¬ r.2.1 = -1) = true))) (j2, u) P := by
      unfold f_X8_isHeard_48
      rw [gW_B, rMp H, gW_B, rMp H, gW_gd1 bI_o]
      have S3 : Sm x iv (g_u2 (g_u2 j2 (x + 353) 23 0) (x + 353) 24 0) := by
        refine ⟨fun k hk => ?_, fun c hc => ?_⟩
        · rw [g_u2_self, g_u2_self]
          by_cases q4 : k = 24
          · rw [q4, va_up_self, h24]
          · by_cases q3 : k = 23
            · rw [q3, va_up_ne _ _ (by decide), va_up_self, h23]
            · rw [va_up_ne _ _ q4, va_up_ne _ _ q3, S2.1 k hk, b2, va_up_ne _ _ q4, va_up_ne _ _ q3]
        · rw [g_u2_ne _ _ _ (by omega), g_u2_ne _ _ _ (by omega), S2.a hc, b1 c (by omega)]
      exact hP _ S3 (hM.fr S3.S)
    by_cases q : r.2.1 = -1
    · have hf : ¬ (decide (¬ r.2.1 = -1) = true) := fun h => absurd q (of_decide_eq_true h)
      rw [bI_f hf] at fin
      rw [gW_ift q]
      exact fin
    · rw [bI_t (decide_eq_true q)] at fin
      rw [gW_iff q]
      exact fin
  have st2 : gW (f_X8_isHeard_14 (x + 353) (iN o) (iN e) (x + 353) (mk8 a)) (iv, u) P := by
    unfold f_X8_isHeard_14
    rw [gW_B] at st ⊢
    refine gW_mono st (fun _ h2 q => ?_)
    unfold mk8 at q
    by_cases ce : e = 8
    · rw [if_pos ce] at q
      rw [gW_ift (by rw [ce]; rfl)]
      exact q
    · rw [if_neg ce] at q
      rw [gW_iff (by rw [show (8 : Int32) = iN 8 from rfl, iN_eq (by omega) (by omega)]; exact ce)]
      exact q
  unfold f_X8_isHeard
  unfold mk8 at st2
  by_cases ca : a = 8
  · rw [if_pos ca] at st2
    rw [gW_ift (by rw [ca]; rfl)]
    exact st2
  · rw [if_neg ca] at st2
    rw [gW_iff (by rw [show (8 : Int32) = iN 8 from rfl, iN_eq (by omega) (by omega)]; exact ca)]
    exact st2
end TKN
