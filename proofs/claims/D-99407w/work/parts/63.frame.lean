/-! THE RELATION OF THE TWO WORLDS -/
abbrev gLw : Type := Nat × (Nat → Int32) × (Nat → Int32) × (Nat → (Nat → Int32) → Bool)
section RL
variable {iv jv kv : gV} {u v : gU} {x : Nat}
/-- jv is as iv but for what neither world keeps -/
def Sx (x : Nat) (iv jv : gV) : Prop := (∀ k : Nat, k ≠ 14 → k ≠ 15 → k ≠ 16 → jv x k = iv x k) ∧ jv (x + 1) 6 = iv (x + 1) 6 ∧ (∀ k : Nat, 1 < k → jv (x + 96) k = iv (x + 96) k) ∧ (∀ k : Nat, (k = 6 ∨ k = 7 ∨ k = 9 ∨ k = 14 ∨ k = 23 ∨ k = 24) → jv (x + 353) k = iv (x + 353) k) ∧ ∀ a : Nat, (a ≠ x ∧ a ≠ x + 1 ∧ (a < x + 5 ∨ x + 27 < a) ∧ a ≠ x + 33 ∧ (a < x + 70 ∨ x + 91 ≤ a) ∧ (a < x + 92 ∨ x + 100 < a) ∧ a ≠ x + 353 ∧ a ≠ x + 356 ∧ a ≠ x + 357 ∧ (a < x + 360 ∨ x + 369 < a)) → jv a = iv a
theorem Sx.rf : Sx x iv iv := ⟨fun _ _ _ _ => rfl, rfl, fun _ _ => rfl, fun _ _ => rfl, fun _ _ => rfl⟩
theorem Sx.tr (h : Sx x iv jv) (g : Sx x jv kv) : Sx x iv kv := ⟨fun k a b c => (g.1 k a b c).trans (h.1 k a b c), g.2.1.trans h.2.1, fun k a => (g.2.2.1 k a).trans (h.2.2.1 k a), fun k a => (g.2.2.2.1 k a).trans (h.2.2.2.1 k a), fun a q => (g.2.2.2.2 a q).trans (h.2.2.2.2 a q)⟩
theorem Sx.a (h : Sx x iv jv) {a : Nat} (q : a ≠ x ∧ a ≠ x + 1 ∧ (a < x + 5 ∨ x + 27 < a) ∧ a ≠ x + 33 ∧ (a < x + 70 ∨ x + 91 ≤ a) ∧ (a < x + 92 ∨ x + 100 < a) ∧ a ≠ x + 353 ∧ a ≠ x + 356 ∧ a ≠ x + 357 ∧ (a < x + 360 ∨ x + 369 < a)) : jv a = iv a := h.2.2.2.2 a q
/-- any change at a cell that is free -/
theorem Sx.of {a : Nat} (q : (x + 5 ≤ a ∧ a ≤ x + 27) ∨ a = x + 33 ∨ (x + 70 ≤ a ∧ a < x + 91) ∨ (x + 92 ≤ a ∧ a < x + 96) ∨ (x + 96 < a ∧ a ≤ x + 100) ∨ a = x + 356 ∨ a = x + 357 ∨ (x + 360 ≤ a ∧ a ≤ x + 369)) (h : ∀ c : Nat, c ≠ a → jv c = iv c) : Sx x iv jv :=
  ⟨fun k _ _ _ => congrFun (h x (by omega)) k, congrFun (h (x + 1) (by omega)) 6, fun k _ => congrFun (h (x + 96) (by omega)) k, fun k _ => congrFun (h (x + 353) (by omega)) k, fun c hc => h c (by omega)⟩
theorem Sx.up {a : Nat} {f : Nat → Int32} (q : (x + 5 ≤ a ∧ a ≤ x + 27) ∨ a = x + 33 ∨ (x + 70 ≤ a ∧ a < x + 91) ∨ (x + 92 ≤ a ∧ a < x + 96) ∨ (x + 96 < a ∧ a ≤ x + 100) ∨ a = x + 356 ∨ a = x + 357 ∨ (x + 360 ≤ a ∧ a ≤ x + 369)) : Sx x iv (va_up iv a f) := Sx.of q (fun c hc => va_up_ne _ _ hc)
theorem Sx.u2 {a k : Nat} {y : Int32} (q : (x + 5 ≤ a ∧ a ≤ x + 27) ∨ a = x + 33 ∨ (x + 70 ≤ a ∧ a < x + 91) ∨ (x + 92 ≤ a ∧ a < x + 96) ∨ (x + 96 < a ∧ a ≤ x + 100) ∨ a = x + 356 ∨ a = x + 357 ∨ (x + 360 ≤ a ∧ a ≤ x + 369)) : Sx x iv (g_u2 iv a k y) := Sx.of q (fun c hc => g_u2_ne _ _ _ hc)
theorem Sx.ux {k : Nat} {y : Int32} (q : k = 14 ∨ k = 15 ∨ k = 16) : Sx x iv (g_u2 iv x k y) :=
  ⟨fun j _ _ _ => by rw [g_u2_self, va_up_ne _ _ (by omega)], by rw [g_u2_ne _ _ _ (by omega)], fun k _ => by rw [g_u2_ne _ _ _ (by omega)], fun k _ => by rw [g_u2_ne _ _ _ (by omega)], fun c hc => g_u2_ne _ _ _ (by omega)⟩
theorem Sx.um {k : Nat} {y : Int32} (q : k ≠ 6 ∧ k ≠ 7 ∧ k ≠ 9 ∧ k ≠ 14 ∧ k ≠ 23 ∧ k ≠ 24) : Sx x iv (g_u2 iv (x + 353) k y) :=
  ⟨fun j _ _ _ => by rw [g_u2_ne _ _ _ (by omega)], by rw [g_u2_ne _ _ _ (by omega)], fun k _ => by rw [g_u2_ne _ _ _ (by omega)], fun j hj => by rw [g_u2_self, va_up_ne _ _ (by omega)], fun c hc => g_u2_ne _ _ _ (by omega)⟩
theorem Sx.us {k : Nat} {y : Int32} (q : k = 0 ∨ k = 1) : Sx x iv (g_u2 iv (x + 96) k y) :=
  ⟨fun j _ _ _ => by rw [g_u2_ne _ _ _ (by omega)], by rw [g_u2_ne _ _ _ (by omega)], fun j hj => by rw [g_u2_self, va_up_ne _ _ (by omega)], fun j hj => by rw [g_u2_ne _ _ _ (by omega)], fun c hc => g_u2_ne _ _ _ (by omega)⟩
/-! a State, from outside -/
theorem cSt.fr {b : Nat} {W : Nat → Int32} {pn on rm : Nat} (h : cSt iv b W pn on rm) (hpn : pn ≤ 8) (hon : on ≤ 6) (e0 : ∀ k : Nat, k ≠ 8 → jv b k = iv b k) (e : ∀ a : Nat, b < a → a < b + 21 → a ≠ b + 5 → jv a = iv a) : cSt jv b W pn on rm := by
  obtain ⟨⟨s1, s2, s3, s4, s5, s6, s7, s8⟩, sp, so, sl, sg, sr⟩ := h
  refine ⟨⟨?_, ?_, ?_, ?_, ?_, ?_, ?_, ?_⟩, fun p hp f hf => ?_, fun o ho f hf => ?_, fun s hs => ?_, sg, fun a ha f hf => ?_⟩
  · rw [e0 6 (by decide)]; exact s1
  · rw [e0 7 (by decide)]; exact s2
  · rw [e0 9 (by decide)]; exact s3
  · rw [e0 10 (by decide)]; exact s4
  · rw [e0 11 (by decide)]; exact s5
  · rw [e0 12 (by decide)]; exact s6
  · rw [e0 13 (by decide)]; exact s7
  · rw [e0 14 (by decide)]; exact s8
  · rw [e _ (by omega) (by omega) (by omega)]; exact sp p hp f hf
  · rw [e _ (by omega) (by omega) (by omega)]; exact so o ho f hf
  · rw [e _ (by omega) (by omega) (by omega)]; exact sl s hs
  · rw [e _ (by omega) (by omega) (by omega)]; exact sr a ha f hf
/-- a State, as far as rides see it, holds the court V -/
def cwR (iv : gV) (b : Nat) (V : Nat → Int32) (pn on : Nat) : Prop := iv b 6 = iN pn ∧ iv b 7 = iN on ∧ iv b 11 = V 5 ∧ iv b 12 = V 6 ∧ iv b 13 = V 8 ∧ (∀ p : Nat, p < pn → ∀ f : Nat, f < 3 → iv (b + 7 + p) f = V (9 + 4 * p + f)) ∧ (∀ o : Nat, o < on → ∀ f : Nat, f < 4 → iv (b + 15 + o) f = V (41 + 4 * o + f)) ∧ ∀ s : Nat, s < 10 → iv (b + 4) s = sIn V pn (iN s)
theorem cSt.toW {b : Nat} {W : Nat → Int32} {pn on rm : Nat} (h : cSt iv b W pn on rm) (hW : WI W pn on) : cwR iv b W pn on :=
  ⟨h.1.1.trans hW.1.1, h.1.2.1.trans hW.1.2.2.1, h.1.2.2.2.2.1, h.1.2.2.2.2.2.1, h.1.2.2.2.2.2.2.1, fun p hp f hf => h.2.1 p hp f (by omega), h.2.2.1, h.2.2.2.1⟩
theorem cwR.fr {b : Nat} {W : Nat → Int32} {pn on : Nat} (h : cwR iv b W pn on) (hpn : pn ≤ 8) (hon : on ≤ 6) (e0 : ∀ k : Nat, k ≠ 8 → jv b k = iv b k) (e : ∀ a : Nat, b < a → a < b + 21 → a ≠ b + 5 → a ≠ b + 6 → jv a = iv a) : cwR jv b W pn on := by
  obtain ⟨s1, s2, s3, s4, s5, sp, so, sl⟩ := h
  refine ⟨?_, ?_, ?_, ?_, ?_, fun p hp f hf => ?_, fun o ho f hf => ?_, fun s hs => ?_⟩
  · rw [e0 6 (by decide)]; exact s1
  · rw [e0 7 (by decide)]; exact s2
  · rw [e0 11 (by decide)]; exact s3
  · rw [e0 12 (by decide)]; exact s4
  · rw [e0 13 (by decide)]; exact s5
  · rw [e _ (by omega) (by omega) (by omega) (by omega)]; exact sp p hp f hf
  · rw [e _ (by omega) (by omega) (by omega) (by omega)]; exact so o ho f hf
  · rw [e _ (by omega) (by omega) (by omega) (by omega)]; exact sl s hs
/-- the component's law -/
def lwC (x : Nat) (iv : gV) (u : gU) (b : Nat) (L : gLw) : Prop := cL (x + 370) u.2.2.2.1 iv u b L.1 L.2.1 L.2.2.1 L.2.2.2 ∧ cOk L.2.2.2 ∧ ∀ k : Nat, k < L.1 → ∃ n : Nat, n ≤ 30 ∧ L.2.2.1 k = iN n
abbrev mLL (V : Nat → Int32) (L : gLw) : Prop := mL V L.1 L.2.1 L.2.2.1 L.2.2.2
theorem cL.mono {n1 top top' b lm : Nat} {K N : Nat → Int32} {C : Nat → (Nat → Int32) → Bool} (h : cL n1 top iv u b lm K N C) (ht : top ≤ top') : cL n1 top' iv u b lm K N C := by
  refine ⟨h.1, h.2.1, fun k hk => ?_⟩
  obtain ⟨a, q1, q2, q3, q4, q5, q6⟩ := h.2.2 k hk
  refine ⟨a, q1, q2, by omega, q4, q5, ?_⟩
  rcases q6 with h | ⟨c, h, h'⟩
  · exact Or.inl h
  · exact Or.inr ⟨c, h, fun jv w hk => h' jv w (fun a h1 h2 => hk a h1 (by omega))⟩
/-- cells up to T are as they were, with their shapes; there may be more -/
def Ux (T : Nat) (u v : gU) : Prop := (∀ a : Nat, a < T → v.1 a = u.1 a ∧ v.2.1 a = u.2.1 a) ∧ v.2.2.1 = u.2.2.1 ∧ u.2.2.2.1 ≤ v.2.2.2.1
theorem Ux.rf {T : Nat} : Ux T u u := ⟨fun _ _ => ⟨rfl, rfl⟩, rfl, Nat.le_refl _⟩
theorem lwC.fr {b : Nat} {L : gLw} (h : lwC x iv u b L) (hu : Ux u.2.2.2.1 u v) (hk : ∀ a : Nat, x + 370 ≤ a → a < u.2.2.2.1 → jv a = iv a) (h8 : jv b 8 = iv b 8) (h3 : b + 3 < u.2.2.2.1) : lwC x jv v b L :=
  ⟨(h.1.up (fun a h1 h2 => ⟨hk a h1 h2, hu.1 a h2⟩) h8 (hu.1 _ h3).2).mono hu.2.2, h.2⟩
/-- what a ride of the component stands on: the court V, the law -/
def CI (x : Nat) (iv : gV) (u : gU) (V : Nat → Int32) (pn on : Nat) (L : gLw) : Prop := XS u x ∧ cwR iv (x + 28) V pn on ∧ WI V pn on ∧ lwC x iv u (x + 28) L ∧ x + 370 ≤ u.2.2.2.1
section CIs
variable {V : Nat → Int32} {pn on : Nat} {L : gLw}
theorem CI.X (h : CI x iv u V pn on L) : XS u x := h.1
theorem CI.W (h : CI x iv u V pn on L) : WI V pn on := h.2.2.1
theorem CI.p8 (h : CI x iv u V pn on L) : pn ≤ 8 := h.2.2.1.1.2.1
theorem CI.o6 (h : CI x iv u V pn on L) : on ≤ 6 := h.2.2.1.1.2.2.2
theorem CI.pN (h : CI x iv u V pn on L) : iv (x + 28) 6 = iN pn := h.2.1.1
theorem CI.oN (h : CI x iv u V pn on L) : iv (x + 28) 7 = iN on := h.2.1.2.1
theorem CI.ca (h : CI x iv u V pn on L) : iv (x + 28) 11 = V 5 := h.2.1.2.2.1
theorem CI.ec (h : CI x iv u V pn on L) : iv (x + 28) 12 = V 6 := h.2.1.2.2.2.1
theorem CI.sd (h : CI x iv u V pn on L) : iv (x + 28) 13 = V 8 := h.2.1.2.2.2.2.1
theorem CI.p (h : CI x iv u V pn on L) {p f : Nat} (hp : p < pn) (hf : f < 3) : iv (x + 28 + 7 + p) f = V (9 + 4 * p + f) := h.2.1.2.2.2.2.2.1 p hp f hf
theorem CI.o (h : CI x iv u V pn on L) {o f : Nat} (ho : o < on) (hf : f < 4) : iv (x + 28 + 15 + o) f = V (41 + 4 * o + f) := h.2.1.2.2.2.2.2.2.1 o ho f hf
theorem CI.s (h : CI x iv u V pn on L) {s : Nat} (hs : s < 10) : iv (x + 28 + 4) s = sIn V pn (iN s) := h.2.1.2.2.2.2.2.2.2 s hs
theorem CI.fr (h : CI x iv u V pn on L) (hS : Sx x iv jv) : CI x jv u V pn on L :=
  ⟨h.1, h.2.1.fr h.p8 h.o6 (fun k _ => by rw [hS.a (by omega)]) (fun a _ _ _ _ => hS.a (by omega)), h.2.2.1, h.2.2.2.1.fr Ux.rf (fun a _ _ => hS.a (by omega)) (by rw [hS.a (by omega)]) (by have := h.2.2.2.2; omega), h.2.2.2.2⟩
theorem CI.cF (h : CI x iv u V pn on L) (o : Nat) {s : Nat} (hs : s < 10) : iv (x + 28 + 4) s = -1 ∨ ∃ p : Nat, p < 8 ∧ cF iv (x + 28) o V p s (iv o 0) (iv o 1) (iv o 2) := by
  rcases sIn_or V pn (iN s) with e | ⟨p, hp, e1, e2⟩
  · exact Or.inl ((h.s hs).trans e)
  · have := h.p8
    exact Or.inr ⟨p, by omega, (h.s hs).trans e1, h.p hp (by decide), h.p hp (by decide), h.p hp (by decide), e2, rfl, rfl, rfl⟩
/-- what the model's rides stand on -/
def MI (x : Nat) (iv : gV) (u : gU) (V : Nat → Int32) (pn on : Nat) (L : gLw) : Prop := MS u (x + 353) ∧ iv (x + 353 + 1) = V ∧ WI V pn on ∧ mLL V L
theorem MI.M (h : MI x iv u V pn on L) : MS u (x + 353) := h.1
theorem MI.vE (h : MI x iv u V pn on L) : iv (x + 353 + 1) = V := h.2.1
theorem MI.W (h : MI x iv u V pn on L) : WI V pn on := h.2.2.1
theorem MI.lL (h : MI x iv u V pn on L) : mLL V L := h.2.2.2
theorem MI.p8 (h : MI x iv u V pn on L) : pn ≤ 8 := h.2.2.1.1.2.1
theorem MI.o6 (h : MI x iv u V pn on L) : on ≤ 6 := h.2.2.1.1.2.2.2
theorem MI.pN (h : MI x iv u V pn on L) : iv (x + 353 + 1) 0 = iN pn := by rw [h.vE]; exact h.W.1.1
theorem MI.oN (h : MI x iv u V pn on L) : iv (x + 353 + 1) 1 = iN on := by rw [h.vE]; exact h.W.1.2.2.1
theorem MI.mL (h : MI x iv u V pn on L) : mLL (iv (x + 353 + 1)) L := by rw [h.vE]; exact h.lL
theorem MI.fr (h : MI x iv u V pn on L) (hS : Sx x iv jv) : MI x jv u V pn on L := ⟨h.1, by rw [hS.a (by omega)]; exact h.2.1, h.2.2⟩
end CIs
/-! what the two worlds keep -/
/-- a State at b is the court V, with the law L -/
def cC (x t : Nat) (iv : gV) (u : gU) (b : Nat) (V : Nat → Int32) (pn on rm : Nat) (L : gLw) : Prop := cSt iv b V pn on rm ∧ WI V pn on ∧ rm ≤ t ∧ lwC x iv u b L ∧ (iv b 8 = -1 ↔ V 3 = 0)
/-- texts, tape, script -/
def RB (x z b n t : Nat) (iv : gV) (u : gU) : Prop := XS u x ∧ MS u (x + 353) ∧ u.1 (x + 369) = some (.inl (2, 1)) ∧ (b < x ∧ u.1 b = some (.inl (9, n))) ∧ (∀ i : Nat, i < 42 → u.2.2.1 i < x ∧ u.1 (u.2.2.1 i) = some (.inr 16) ∧ iv (u.2.2.1 i) 1 = 0 ∧ ∃ y : Nat, y < x ∧ u.2.1 (u.2.2.1 i) 0 = some y ∧ u.1 y = some (.inl (10, g_len.getD i 0)) ∧ ∀ j : Nat, j < g_len.getD i 0 → iv y j = (g_byt.getD i []).getD j 0) ∧ x + 370 ≤ u.2.2.2.1 ∧ u.2.2.2.1 ≤ x + 370 + 5000 * t ∧ u.2.2.2.2 ≤ z + 50000 + 50000 * t
def RT (x : Nat) (iv : gV) : Prop := (∃ n : Nat, n ≤ 400 ∧ iv (x + 1) 6 = iN n ∧ iv (x + 353) 9 = iN n ∧ ∀ k : Nat, k < n → iv (x + 2) k = iv (x + 359) k ∧ ∃ c : Nat, c < 256 ∧ iv (x + 359) k = Int32.ofInt ((c : Int) - 128)) ∧ iv x 11 = iv (x + 353) 14 ∧ iv x 17 = -1 ∧ iv (x + 353) 23 = 0 ∧ iv (x + 353) 24 = 0 ∧ iv (x + 96) 2 = 0
def RI (x t : Nat) (iv : gV) (u : gU) : Prop := iv x 18 = iv (x + 353) 6 ∧ (iv (x + 353) 6 = 0 ∨ (iv (x + 353) 6 = 1 ∧ ∃ (pn on rm : Nat) (L : gLw), cC x t iv u (x + 49) (iv (x + 355)) pn on rm L ∧ mLL (iv (x + 355)) L))
def RA (x t : Nat) (iv : gV) (u : gU) (L : gLw) : Prop := ∃ q r : Nat, q ≤ 12 ∧ r < 12 ∧ iv x 12 = iN q ∧ iv (x + 353) 7 = iN q ∧ iv x 13 = iN r ∧ ∀ j : Nat, j < q → ∃ pn on rm : Nat, cC x t iv u (x + 101 + 21 * ((r + 11 - j) % 12)) (fun k => iv (x + 358) (305 * (q - 1 - j) + k)) pn on rm L ∧ iv (x + 358) (305 * (q - 1 - j) + 3) = iv (x + 354) 3
def RR (x z b n t : Nat) (iv : gV) (u : gU) : Prop := RB x z b n t iv u ∧ RT x iv ∧ RI x t iv u ∧ ∃ (pn on rm : Nat) (L : gLw), cC x t iv u (x + 28) (iv (x + 354)) pn on rm L ∧ mLL (iv (x + 354)) L ∧ RA x t iv u L
/-! they are kept -/
theorem cC.fr {t t' b : Nat} {V : Nat → Int32} {pn on rm : Nat} {L : gLw} (h : cC x t iv u b V pn on rm L) (hu : Ux u.2.2.2.1 u v) (ht : t ≤ t') (hb : b + 21 ≤ u.2.2.2.1) (e0 : jv b = iv b) (e : ∀ a : Nat, b < a → a < b + 21 → a ≠ b + 5 → jv a = iv a) (hk : ∀ a : Nat, x + 370 ≤ a → a < u.2.2.2.1 → jv a = iv a) : cC x t' jv v b V pn on rm L :=
  ⟨h.1.fr h.2.1.1.2.1 h.2.1.1.2.2.2 (fun k _ => by rw [e0]) e, h.2.1, Nat.le_trans h.2.2.1 ht, h.2.2.2.1.fr hu hk (by rw [e0]) (by omega), by rw [e0]; exact h.2.2.2.2⟩
theorem SS.fr {b T : Nat} (h : SS u b) (hu : Ux T u v) (hb : b + 21 ≤ T) : SS v b := by
  obtain ⟨h1, h2, h3, h4⟩ := h
  refine ⟨by rw [(hu.1 b (by omega)).1]; exact h1, fun j hj => ⟨by rw [(hu.1 b (by omega)).2]; exact (h2 j hj).1, by rw [(hu.1 _ (by omega)).1]; exact (h2 j hj).2⟩, fun p hp => ⟨by rw [(hu.1 _ (by omega)).2]; exact (h3 p hp).1, by rw [(hu.1 _ (by omega)).1]; exact (h3 p hp).2⟩, fun o ho => ⟨by rw [(hu.1 _ (by omega)).2]; exact (h4 o ho).1, by rw [(hu.1 _ (by omega)).1]; exact (h4 o ho).2⟩⟩
theorem MS.fr {m T : Nat} (h : MS u m) (hu : Ux T u v) (hb : m + 16 ≤ T) : MS v m :=
  ⟨by rw [(hu.1 m (by omega)).1]; exact h.1, fun j hj => ⟨by rw [(hu.1 m (by omega)).2]; exact (h.2 j hj).1, by rw [(hu.1 _ (by omega)).1]; exact (h.2 j hj).2⟩⟩
theorem XS.fr {T : Nat} (h : XS u x) (hu : Ux T u v) (hb : x + 353 ≤ T) : XS v x := by
  have e1 : ∀ k : Nat, k < 353 → v.1 (x + k) = u.1 (x + k) := fun k hk => (hu.1 _ (by omega)).1
  have e2 : ∀ k : Nat, k < 353 → v.2.1 (x + k) = u.2.1 (x + k) := fun k hk => (hu.1 _ (by omega)).2
  have e10 : v.1 x = u.1 x := (hu.1 _ (by omega)).1
  have e20 : v.2.1 x = u.2.1 x := (hu.1 _ (by omega)).2
  obtain ⟨⟨a1, a2, a3, a4, a5⟩, h2, ⟨d1, d2, d3, d4, d5⟩, ⟨k1, k2, k3, k4, k5⟩, ⟨w1, w2, w3, w4, w5, w6, w7⟩, ⟨r1, r2, r3, r4, r5, r6, r7, r8, r9, r10⟩, t1, t2⟩ := h
  refine ⟨⟨e10.trans a1, (e1 1 (by decide)).trans a2, (e1 27 (by decide)).trans a3, (e1 92 (by decide)).trans a4, (e1 96 (by decide)).trans a5⟩, fun j hj => by rw [e20]; exact h2 j hj, ⟨d1.fr hu (by omega), d2.fr hu (by omega), d3.fr hu (by omega), d4.fr hu (by omega), fun k hk => ⟨by rw [e2 91 (by decide)]; exact (d5 k hk).1, (d5 k hk).2.fr hu (by omega)⟩⟩, ⟨(e1 91 (by decide)).trans k1, (e1 97 (by decide)).trans k2, (e1 98 (by decide)).trans k3, (e1 99 (by decide)).trans k4, (e1 100 (by decide)).trans k5⟩, ⟨?_, ?_, ?_, ?_, ?_, ?_, ?_⟩, ⟨?_, ?_, ?_, ?_, ?_, ?_, ?_, ?_, ?_, ?_⟩, fun k hk => ?_, fun k hk => ?_⟩
  · rw [e2 92 (by decide)]; exact w1
  · rw [e1 93 (by decide)]; exact w2
  · rw [e2 92 (by decide)]; exact w3
  · rw [e1 94 (by decide)]; exact w4
  · rw [e2 92 (by decide)]; exact w5
  · rw [e1 95 (by decide)]; exact w6
  · rw [e2 92 (by decide)]; exact w7
  · rw [e2 1 (by decide)]; exact r1
  · rw [e1 2 (by decide)]; exact r2
  · rw [e2 1 (by decide)]; exact r3
  · rw [e1 3 (by decide)]; exact r4
  · rw [e2 1 (by decide)]; exact r5
  · rw [e1 4 (by decide)]; exact r6
  · rw [e2 1 (by decide)]; exact r7
  · rw [e1 5 (by decide)]; exact r8
  · rw [e2 1 (by decide)]; exact r9
  · rw [e2 1 (by decide)]; exact r10
  · rw [e2 3 (by decide), hu.2.1]; exact t1 k hk
  · rw [e2 4 (by decide), hu.2.1]; exact t2 k hk
theorem RB.fr {z b n t t' : Nat} (h : RB x z b n t iv u) (hu : Ux u.2.2.2.1 u v) (ht : t ≤ t') (e : ∀ a : Nat, a < x → jv a = iv a) (hn : v.2.2.2.1 ≤ u.2.2.2.1 + 5000 * (t' - t)) (hs : v.2.2.2.2 ≤ u.2.2.2.2 + 50000 * (t' - t)) : RB x z b n t' jv v := by
  obtain ⟨h1, h2, h3, ⟨h4, h5⟩, h6, h7, h8, h9⟩ := h
  refine ⟨h1.fr hu (by omega), h2.fr hu (by omega), by rw [(hu.1 _ (by omega)).1]; exact h3, ⟨h4, by rw [(hu.1 _ (by omega)).1]; exact h5⟩, fun i hi => ?_, Nat.le_trans h7 hu.2.2, by omega, by omega⟩
  obtain ⟨q1, q2, q3, y, q4, q5, q6, q7⟩ := h6 i hi
  rw [hu.2.1]
  exact ⟨q1, by rw [(hu.1 _ (by omega)).1]; exact q2, by rw [e _ q1]; exact q3, y, q4, by rw [(hu.1 _ (by omega)).2]; exact q5, by rw [(hu.1 _ (by omega)).1]; exact q6, fun j hj => by rw [e _ q4]; exact q7 j hj⟩
theorem RT.fr (h : RT x iv) (hS : Sx x iv jv) : RT x jv := by
  obtain ⟨⟨n, h1, h2, h3, h4⟩, h5, h6, h7, h8, h9⟩ := h
  refine ⟨⟨n, h1, by rw [hS.2.1]; exact h2, by rw [hS.2.2.2.1 9 (by omega)]; exact h3, fun k hk => ?_⟩, ?_, ?_, ?_, ?_, ?_⟩
  · rw [hS.a (a := x + 2) (by omega), hS.a (a := x + 359) (by omega)]; exact h4 k hk
  · rw [hS.1 11 (by decide) (by decide) (by decide), hS.2.2.2.1 14 (by omega)]; exact h5
  · rw [hS.1 17 (by decide) (by decide) (by decide)]; exact h6
  · rw [hS.2.2.2.1 23 (by omega)]; exact h7
  · rw [hS.2.2.2.1 24 (by omega)]; exact h8
  · rw [hS.2.2.1 2 (by decide)]; exact h9
theorem RI.fr {t t' : Nat} (h : RI x t iv u) (hn : x + 370 ≤ u.2.2.2.1) (hu : Ux u.2.2.2.1 u v) (ht : t ≤ t') (e1 : jv x 18 = iv x 18) (e2 : jv (x + 353) 6 = iv (x + 353) 6) (e3 : jv (x + 355) = iv (x + 355)) (e : ∀ a : Nat, x + 49 ≤ a → a < x + 70 → jv a = iv a) (hk : ∀ a : Nat, x + 370 ≤ a → a < u.2.2.2.1 → jv a = iv a) : RI x t' jv v := by
  unfold RI
  rw [e1, e2, e3]
  refine ⟨h.1, ?_⟩
  rcases h.2 with h | ⟨h, pn, on, rm, L, q1, q2⟩
  · exact Or.inl h
  · exact Or.inr ⟨h, pn, on, rm, L, q1.fr hu ht (by omega) (e _ (by omega) (by omega)) (fun a _ _ _ => e a (by omega) (by omega)) hk, q2⟩
theorem RA.fr {t t' : Nat} {L : gLw} (h : RA x t iv u L) (hn : x + 370 ≤ u.2.2.2.1) (hu : Ux u.2.2.2.1 u v) (ht : t ≤ t') (e1 : jv x 12 = iv x 12) (e2 : jv x 13 = iv x 13) (e3 : jv (x + 353) 7 = iv (x + 353) 7) (e4 : jv (x + 358) = iv (x + 358)) (e5 : jv (x + 354) 3 = iv (x + 354) 3) (e : ∀ a : Nat, x + 101 ≤ a → a < x + 353 → jv a = iv a) (hk : ∀ a : Nat, x + 370 ≤ a → a < u.2.2.2.1 → jv a = iv a) : RA x t' jv v L := by
  unfold RA
  rw [e1, e2, e3, e4, e5]
  obtain ⟨q, r, h1, h2, h3, h4, h5, h6⟩ := h
  refine ⟨q, r, h1, h2, h3, h4, h5, fun j hj => ?_⟩
  obtain ⟨pn, on, rm, q1, q2⟩ := h6 j hj
  have : (r + 11 - j) % 12 < 12 := Nat.mod_lt _ (by decide)
  exact ⟨pn, on, rm, q1.fr hu ht (by omega) (e _ (by omega) (by omega)) (fun a _ _ _ => e a (by omega) (by omega)) hk, q2⟩
/-- the worlds stay as alike as they were -/
theorem RR.fr {z b n t t' : Nat} (h : RR x z b n t iv u) (ht : t ≤ t') (hS : Sx x iv jv) : RR x z b n t' jv u := by
  obtain ⟨hB, hT, hI, pn, on, rm, L, h1, h2, h3⟩ := h
  have hx := hB.2.2.2.2.2.1
  refine ⟨hB.fr Ux.rf ht (fun a _ => hS.a (by omega)) (by omega) (by omega), hT.fr hS, hI.fr hx Ux.rf ht (hS.1 18 (by decide) (by decide) (by decide)) (hS.2.2.2.1 6 (by omega)) (hS.a (by omega)) (fun a _ _ => hS.a (by omega)) (fun a _ _ => hS.a (by omega)), pn, on, rm, L, ?_, ?_, ?_⟩
  · rw [hS.a (a := x + 354) (by omega)]
    exact h1.fr Ux.rf ht (by omega) (hS.a (by omega)) (fun a _ _ _ => hS.a (by omega)) (fun a _ _ => hS.a (by omega))
  · rw [hS.a (a := x + 354) (by omega)]; exact h2
  · exact h3.fr hx Ux.rf ht (hS.1 12 (by decide) (by decide) (by decide)) (hS.1 13 (by decide) (by decide) (by decide)) (hS.2.2.2.1 7 (by omega)) (hS.a (by omega)) (by rw [hS.a (a := x + 354) (by omega)]) (fun a _ _ => hS.a (by omega)) (fun a _ _ => hS.a (by omega))
/-- a new cell -/
theorem g_addU {s : g_S} {k : Nat} : ∀ a : Nat, a ≠ u.2.2.2.1 → (g_add (iv, u) s k).2.1 a = u.1 a ∧ (g_add (iv, u) s k).2.2.1 a = u.2.1 a ∧ (g_add (iv, u) s k).1 a = iv a := fun a h => ⟨va_up_ne _ _ h, va_up_ne _ _ h, va_up_ne _ _ h⟩
theorem Ux.add {s : g_S} {k : Nat} : Ux u.2.2.2.1 u (g_add (iv, u) s k).2 := ⟨fun a h => ⟨(g_addU (iv := iv) a (by omega)).1, (g_addU (iv := iv) a (by omega)).2.1⟩, rfl, Nat.le_succ _⟩
theorem RR.add {z b n t : Nat} {s : g_S} {k : Nat} (h : RR x z b n t iv u) (hk : k ≤ 20) : RR x z b n (t + 1) (g_add (iv, u) s k).1 (g_add (iv, u) s k).2 := by
  obtain ⟨hB, hT, hI, pn, on, rm, L, h1, h2, h3⟩ := h
  have hx := hB.2.2.2.2.2.1
  have e : ∀ a : Nat, a < u.2.2.2.1 → (g_add (iv, u) s k).1 a = iv a := fun a ha => (g_addU a (by omega)).2.2
  refine ⟨hB.fr Ux.add (by omega) (fun a _ => e a (by omega)) ?_ ?_, ?_, hI.fr hx Ux.add (by omega) (by rw [e _ (by omega)]) (by rw [e _ (by omega)]) (e _ (by omega)) (fun a _ _ => e a (by omega)) (fun a _ h => e a h), pn, on, rm, L, ?_, ?_, ?_⟩
  · show u.2.2.2.1 + 1 ≤ _; omega
  · show u.2.2.2.2 + k ≤ _; omega
  · unfold RT
    rw [e _ (show x < _ by omega), e (x + 1) (by omega), e (x + 2) (by omega), e (x + 353) (by omega), e (x + 359) (by omega), e (x + 96) (by omega)]
    exact hT
  · rw [e (x + 354) (by omega)]
    exact h1.fr Ux.add (by omega) (by omega) (e _ (by omega)) (fun a _ _ _ => e a (by omega)) (fun a _ h => e a h)
  · rw [e (x + 354) (by omega)]; exact h2
  · exact h3.fr hx Ux.add (by omega) (by rw [e _ (by omega)]) (by rw [e _ (by omega)]) (by rw [e _ (by omega)]) (e _ (by omega)) (by rw [e _ (by omega)]) (fun a _ _ => e a (by omega)) (fun a _ h => e a h)
end RL
