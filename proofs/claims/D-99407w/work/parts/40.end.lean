/-! THE ABSTRACT HEAP OF THE START -/
theorem g_noInt {s : State} {cell : Cell} {t1 t2 : FieldType} (h1 : s.isArrayOf cell t1) (h2 : s.isArrayOf cell t2) : t1 = t2 := by
  obtain ⟨-, k1, a1, c1, b1⟩ := h1
  obtain ⟨-, k2, a2, c2, b2⟩ := h2
  cases Option.some.inj (a1.symm.trans a2)
  rw [b1] at b2
  injection b2
theorem g_noObj {s : State} {cell : Cell} {t : FieldType} {C : String} {cC : ClassId} (hC : ClassAt s C cC) (h1 : s.isArrayOf cell t) (h2 : s.vm.findClass C = some cell.cls) : False := by
  obtain ⟨-, k1, a1, c1, b1⟩ := h1
  obtain ⟨f1, kC, f2, f3⟩ := hC
  cases Option.some.inj (f1.symm.trans h2)
  cases Option.some.inj (a1.symm.trans f2)
  rw [f3] at b1
  cases b1
abbrev g_Ax (s : State) : Nat → Prop := fun q => s.heap.size ≤ q
def g_oldP (s : State) : Nat → g_S → (Nat → Int32) → (Nat → Option Nat) → Prop := fun a sh iv rv => match sh with
  | .inl (t, n) => va_T (if t = 9 then .int else .byte) a n (fun j => .int (iv j)) (g_Ax s) s s.heap
  | .inr _ => va_O RJ3 a (g_Ax s) s s.heap ∧ va_OF RJ3 "coder" "B" (.int (iv 1)) a (g_Ax s) s s.heap ∧ ∃ y, rv 0 = some y ∧ va_OF RJ3 "value" "[B" (.ref y) a (g_Ax s) s s.heap
section START
noncomputable def g_iff {α : Type} (P : Prop) (a b : α) : α := @ite α P (Classical.propDecidable P) a b
theorem g_ifT {α : Type} {P : Prop} (h : P) (a b : α) : g_iff P a b = a := @if_pos P (Classical.propDecidable P) h α a b
theorem g_ifF {α : Type} {P : Prop} (h : ¬ P) (a b : α) : g_iff P a b = b := @if_neg P (Classical.propDecidable P) h α a b
noncomputable def g_ep (P : Nat → Prop) : Nat := Classical.epsilon P
theorem g_epS {P : Nat → Prop} (h : ∃ i, P i) : P (g_ep P) := Classical.epsilon_spec h
variable {s : State} {b L : Nat} {xs : Nat → Int32} {ad : Nat → Nat × Nat}
noncomputable def g_h0 (s : State) (b L : Nat) (xs : Nat → Int32) (ad : Nat → Nat × Nat) (tx : Nat → Nat) : g_H :=
  (fun a j => g_iff (a = b) (xs j) (g_iff (∃ i : Nat, i < 42 ∧ (ad i).2 = a) ((g_byt.getD (g_ep fun i => i < 42 ∧ (ad i).2 = a) []).getD j 0) 0),
   fun a => g_iff (a = b) (some (.inl (9, L))) (g_iff (∃ i : Nat, i < 42 ∧ (ad i).1 = a) (some (.inr 16)) (g_iff (∃ i : Nat, i < 42 ∧ (ad i).2 = a) (some (.inl (10, g_len.getD (g_ep fun i => i < 42 ∧ (ad i).2 = a) 0))) none)),
   fun a _ => g_iff (∃ i : Nat, i < 42 ∧ (ad i).1 = a) (some (ad (g_ep fun i => i < 42 ∧ (ad i).1 = a)).2) none,
   tx, s.heap.size, 0)
theorem g_ofD {o n d : String} {v w : Value} {t : Nat} {A : Nat → Prop} {H : Heap} (h1 : va_OF o n d v t A s H) (h2 : va_OF o n d w t A s H) : v = w := by
  obtain ⟨cf, k, i, f, cell, a1, -, a3, -, a5, -⟩ := h1
  obtain ⟨cf', k', i', f', cell', b1, -, b3, -, b5, -⟩ := h2
  cases Option.some.inj (a1.symm.trans b1)
  cases Option.some.inj (a3.symm.trans b3)
  exact Option.some.inj (a5.symm.trans b5)
theorem g_nO {n m : Nat} (hn : n < 2 ^ 31) (hm : m < 2 ^ 31) (h : Int32.ofNat n = Int32.ofNat m) : n = m := by
  have h1 := congrArg Int32.toInt h
  rw [Int32.toInt_ofNat_small hn, Int32.toInt_ofNat_small hm] at h1
  omega
theorem g_tD {t : Nat} {n m : Nat} {f g : Nat → Value} {A : Nat → Prop} {H : Heap} {ty ty' : FieldType} (hn : n < 2 ^ 31) (hm : m < 2 ^ 31) (h1 : va_T ty t n f A s H) (h2 : va_T ty' t m g A s H) : n = m ∧ ∀ j : Nat, j < n → f j = g j := by
  obtain ⟨c1, a1, -, -, -, a5, a6, -⟩ := h1
  obtain ⟨c2, b1, -, -, -, b5, b6, -⟩ := h2
  cases Option.some.inj (a1.symm.trans b1)
  have e := g_nO hn hm (a5.symm.trans b5)
  exact ⟨e, fun j hj => Option.some.inj ((a6 j hj).symm.trans (b6 j (e ▸ hj)))⟩
variable {tx : Nat → Nat}
theorem g_start (hL : L ≤ 384) {cS : ClassId} (hS : ClassAt s "java/lang/String" cS) (hX : va_X b L xs s s.heap) (hb : b < s.heap.size)
    (had : ∀ i : Nat, i < 42 → va_O "java/lang/String" (ad i).1 (g_Ax s) s s.heap ∧ va_OF "java/lang/String" "coder" "B" (.int 0) (ad i).1 (g_Ax s) s s.heap ∧ va_OF "java/lang/String" "value" "[B" (.ref (ad i).2) (ad i).1 (g_Ax s) s s.heap ∧ va_T .byte (ad i).2 (g_len.getD i 0) (fun j => .int ((g_byt.getD i []).getD j 0)) (g_Ax s) s s.heap)
    (htx : ∀ i : Nat, i < 42 → tx i = (ad i).1) : g_St (g_h0 s b L xs ad tx) b L ∧ ∀ (G : gG), G.2.2.1 = s.heap → G.2.2.2.1 = tx → G.2.2.2.2 = g_oldP s → g_R G (g_h0 s b L xs ad tx) s.heap := by
  obtain ⟨scr, x1, x2, x3, x4, x5⟩ := hX
  have f1 : ∀ i : Nat, i < 42 → (ad i).1 ≠ b := by
    intro i hi e
    obtain ⟨cell, h1, h2, h3, h4⟩ := (had i hi).1
    rw [e] at h1
    cases Option.some.inj (x1.symm.trans h1)
    exact g_noObj hS x2 h3
  have f2 : ∀ i : Nat, i < 42 → (ad i).2 ≠ b := by
    intro i hi e
    obtain ⟨cell, h1, h2, -⟩ := (had i hi).2.2.2
    rw [e] at h1
    cases Option.some.inj (x1.symm.trans h1)
    cases g_noInt x2 h2
  have f3 : ∀ i j : Nat, i < 42 → j < 42 → (ad j).2 ≠ (ad i).1 := by
    intro i j hi hj e
    obtain ⟨cell, h1, h2, h3, h4⟩ := (had i hi).1
    obtain ⟨cell', k1, k2, -⟩ := (had j hj).2.2.2
    rw [e] at k1
    cases Option.some.inj (k1.symm.trans h1)
    exact g_noObj hS k2 h3
  have f4 : ∀ i j : Nat, i < 42 → j < 42 → (ad i).1 = (ad j).1 → (ad i).2 = (ad j).2 := by
    intro i j hi hj e
    have h1 := (had i hi).2.2.1
    rw [e] at h1
    have := g_ofD h1 (had j hj).2.2.1
    injection this
  have f5 : ∀ i j : Nat, i < 42 → j < 42 → (ad i).2 = (ad j).2 → g_len.getD i 0 = g_len.getD j 0 ∧ ∀ k : Nat, k < g_len.getD i 0 → (g_byt.getD i []).getD k 0 = (g_byt.getD j []).getD k 0 := by
    intro i j hi hj e
    have h1 := (had i hi).2.2.2
    rw [e] at h1
    obtain ⟨e1, e2⟩ := g_tD (g_in6 i hi) (g_in6 j hj) h1 (had j hj).2.2.2
    refine ⟨e1, fun k hk => ?_⟩
    have := e2 k hk
    injection this
  have hlt1 : ∀ i : Nat, i < 42 → (ad i).1 < s.heap.size := fun i hi => by
    obtain ⟨cell, h1, -⟩ := (had i hi).1
    exact (Array.getElem?_eq_some_iff.mp h1).1
  have hlt2 : ∀ i : Nat, i < 42 → (ad i).2 < s.heap.size := fun i hi => by
    obtain ⟨cell, h1, -⟩ := (had i hi).2.2.2
    exact (Array.getElem?_eq_some_iff.mp h1).1
  have shb : g_sh (g_h0 s b L xs ad tx) b = some (.inl (9, L)) := g_ifT rfl _ _
  have ivb : ∀ j, g_iv (g_h0 s b L xs ad tx) b j = xs j := fun j => g_ifT rfl _ _
  have sh1 : ∀ i : Nat, i < 42 → g_sh (g_h0 s b L xs ad tx) (ad i).1 = some (.inr 16) := fun i hi =>
    (g_ifF (f1 i hi) _ _).trans (g_ifT ⟨i, hi, rfl⟩ _ _)
  have iv1 : ∀ i : Nat, i < 42 → ∀ j, g_iv (g_h0 s b L xs ad tx) (ad i).1 j = 0 := fun i hi j =>
    (g_ifF (f1 i hi) _ _).trans (g_ifF (fun ⟨k, hk, e⟩ => f3 i k hi hk e) _ _)
  have rv1 : ∀ i : Nat, i < 42 → ∀ k, g_rv (g_h0 s b L xs ad tx) (ad i).1 k = some (ad i).2 := fun i hi k => by
    have hex : ∃ k : Nat, k < 42 ∧ (ad k).1 = (ad i).1 := ⟨i, hi, rfl⟩
    have hs := g_epS hex
    exact (g_ifT hex _ _).trans (congrArg some (f4 _ i hs.1 hi hs.2))
  have hn1 : ∀ i : Nat, i < 42 → ¬ ∃ k : Nat, k < 42 ∧ (ad k).1 = (ad i).2 := fun i hi ⟨k, hk, e⟩ => f3 k i hk hi e.symm
  have sh2 : ∀ i : Nat, i < 42 → g_sh (g_h0 s b L xs ad tx) (ad i).2 = some (.inl (10, g_len.getD i 0)) := fun i hi => by
    have hex : ∃ k : Nat, k < 42 ∧ (ad k).2 = (ad i).2 := ⟨i, hi, rfl⟩
    have hs := g_epS hex
    refine (g_ifF (f2 i hi) _ _).trans ((g_ifF (hn1 i hi) _ _).trans ((g_ifT hex _ _).trans ?_))
    rw [(f5 _ i hs.1 hi hs.2).1]
  have iv2 : ∀ i : Nat, i < 42 → ∀ j, j < g_len.getD i 0 → g_iv (g_h0 s b L xs ad tx) (ad i).2 j = (g_byt.getD i []).getD j 0 := fun i hi j hj => by
    have hex : ∃ k : Nat, k < 42 ∧ (ad k).2 = (ad i).2 := ⟨i, hi, rfl⟩
    have hs := g_epS hex
    have h5 := f5 _ i hs.1 hi hs.2
    exact (g_ifF (f2 i hi) _ _).trans ((g_ifT hex _ _).trans (h5.2 j (h5.1.symm ▸ hj)))
  have hcase : ∀ (a : Nat) (u : g_S), g_sh (g_h0 s b L xs ad tx) a = some u → (a = b ∧ u = .inl (9, L)) ∨ (∃ i : Nat, i < 42 ∧ a = (ad i).1 ∧ u = .inr 16) ∨ ∃ i : Nat, i < 42 ∧ a = (ad i).2 ∧ u = .inl (10, g_len.getD i 0) := by
    intro a u hu
    by_cases h1 : a = b
    · subst h1
      rw [shb] at hu
      cases hu
      exact Or.inl ⟨rfl, rfl⟩
    · by_cases h2 : ∃ i : Nat, i < 42 ∧ (ad i).1 = a
      · obtain ⟨i, hi, rfl⟩ := h2
        rw [sh1 i hi] at hu
        cases hu
        exact Or.inr (Or.inl ⟨i, hi, rfl, rfl⟩)
      · by_cases h3 : ∃ i : Nat, i < 42 ∧ (ad i).2 = a
        · obtain ⟨i, hi, rfl⟩ := h3
          rw [sh2 i hi] at hu
          cases hu
          exact Or.inr (Or.inr ⟨i, hi, rfl, rfl⟩)
        · have hz : g_sh (g_h0 s b L xs ad tx) a = none := (g_ifF h1 _ _).trans ((g_ifF h2 _ _).trans (g_ifF h3 _ _))
          rw [hz] at hu
          cases hu
  have hlt : ∀ (a : Nat) (u : g_S), g_sh (g_h0 s b L xs ad tx) a = some u → a < s.heap.size := by
    intro a u hu
    rcases hcase a u hu with ⟨rfl, -⟩ | ⟨i, hi, rfl, -⟩ | ⟨i, hi, rfl, -⟩
    · exact hb
    · exact hlt1 i hi
    · exact hlt2 i hi
  refine ⟨⟨shb, fun i hi => ?_, hlt⟩, fun G g1 g2 g3 => ⟨rfl, g2.symm, by rw [g1]; exact Nat.le_refl _, fun q _ => by rw [g1], fun a u hu ho => ?_, fun a u hu _ => ?_, hlt⟩⟩
  · have e : g_tx (g_h0 s b L xs ad tx) i = (ad i).1 := htx i hi
    rw [e]
    exact ⟨sh1 i hi, iv1 i hi 1, (ad i).2, rv1 i hi 0, sh2 i hi, iv2 i hi⟩
  · exfalso
    rcases hcase a u hu with ⟨-, rfl⟩ | ⟨i, hi, -, rfl⟩ | ⟨i, hi, -, rfl⟩ <;> cases ho
  · rw [g3]
    rcases hcase a u hu with ⟨rfl, rfl⟩ | ⟨i, hi, rfl, rfl⟩ | ⟨i, hi, rfl, rfl⟩
    · show va_T (if (9 : Nat) = 9 then .int else .byte) a L _ _ _ _
      rw [if_pos rfl]
      refine ⟨scr, x1, x2, x3, by omega, by rw [x4], fun j hj => (x5 j hj).trans (congrArg (fun z => some (Value.int z)) (ivb j).symm), Nat.not_le.mpr hb⟩
    · refine ⟨(had i hi).1, by rw [iv1 i hi 1]; exact (had i hi).2.1, (ad i).2, rv1 i hi 0, (had i hi).2.2.1⟩
    · show va_T (if (10 : Nat) = 9 then .int else .byte) _ _ _ _ _ _
      rw [if_neg (by decide)]
      obtain ⟨c1, a1, a2, a3, a4, a5, a6, a7⟩ := (had i hi).2.2.2
      exact ⟨c1, a1, a2, a3, a4, a5, fun j hj => (a6 j hj).trans (congrArg (fun z => some (Value.int z)) (iv2 i hi j hj).symm), a7⟩
end START
theorem g_zq {C n d : String} {A : Nat → Prop} {U : State} {H : Heap} (h : va_Zq C n d A U H) : ∃ o : Nat, va_Z C n d (va_rf (g_dec o)) A U H := by
  rcases h with h | ⟨t, h⟩
  · exact ⟨0, h⟩
  · exact ⟨t + 1, h⟩

def g_txs (ad : Nat → Nat × Nat) (o0 o1 o2 : Nat) (i : Nat) : Nat := if i = 100 then o0 else if i = 101 then o1 else if i = 102 then o2 else (ad i).1
def g_spos : List Nat := [169, 170, 171, 172, 173, 174, 175, 176, 902, 907, 912, 913, 914, 915, 970, 971, 972, 973, 984, 1064, 1065, 1615, 1641, 1650, 1666, 1668, 1677, 1678, 1679, 1683, 1688, 1689, 1694, 1695, 1696, 1697, 1714, 1723, 1732, 1733, 1734, 1735]
set_option maxRecDepth 100000 in
theorem g_sr1 : ∀ q ∈ gStTable, lw_tbl[g_spos.getD q.2.2.2 0]? = some (.stringRef q.1 q.2.1 q.2.2.1) := by decide +kernel
theorem g_sr2 : ∀ q ∈ gStTable, q.2.2.2 < 42 ∧ (gStTable.getD q.2.2.2 ("", 0, "", 0)).1 = q.1 ∧ (gStTable.getD q.2.2.2 ("", 0, "", 0)).2.1 = q.2.1 := by decide +kernel
set_option maxHeartbeats 4000000 in
set_option maxRecDepth 100000 in
/-- the law's walk from its entry, out of the plain law -/
theorem whole_start (hPure : g_Pure) {p : Program} {e : Env} {s : State} {m : MethodId} {below : List Frame} {meth : Method} {c : Code} (l : Launch) (hflags : l.flags = flags0) {b L : Nat} {xs : Nat → Int32} (hL : L ≤ 384) (C0 : lw_At p s m meth c b L xs) (htab : c.exceptionTable.toList = []) (hnm : meth.name = "law") : W p l e room_1 s m #[Value.ref b] below meth c s.heap [] 0 0 (lw_Z below #[Value.ref b] s) (entryFrame m ([Value.ref b] : List Value).toArray 7) := by
  obtain ⟨hx, hb, hr, hml, hown, hts0, hX, hbl, hlocks, hgv⟩ := C0
  have hfl : l.stackTraces = false := by
    unfold Launch.stackTraces
    rw [hflags]
    decide +kernel
  have hts : ∀ w ∈ lw_all, w.before #[Value.ref b] s = true := fun w h => hts0 w (lw_all_tbl h)
  have ht : ∀ (i : Nat) {w : Cond}, lw_tbl[i]? = some w → w.before #[Value.ref b] s = true := fun i w h => hts0 w (List.mem_of_getElem? h)
  have hs := flat_of_before _ hgv
  have hg : ∀ (i : Nat) {w : Cond}, g_fl[i]? = some w → w.before #[Value.ref b] s = true := fun i w h => hs w (List.mem_of_getElem? h)
  have hA : ∀ a : Nat, a < s.heap.size → ¬ g_Ax s a := fun a ha h => absurd (Nat.lt_of_lt_of_le ha h) (Nat.lt_irrefl _)
  obtain ⟨dC, dI, hKc⟩ := g_kns hts
  obtain ⟨dA, hKa⟩ := g_arrs hts hts0
  obtain ⟨ad, had⟩ := g_texts (A := g_Ax s) hs hA
  obtain ⟨hU, hUl⟩ := vx_Zqof (A := g_Ax s) (ht 348 rfl) (ht 126 rfl) (hg 4 rfl) hA
  obtain ⟨hN, hNl⟩ := vx_Zqof (A := g_Ax s) (ht 350 rfl) (ht 126 rfl) (hg 5 rfl) hA
  obtain ⟨o0, hU⟩ := g_zq hU
  obtain ⟨o1, hN⟩ := g_zq hN
  obtain ⟨o2, hF⟩ := g_zq (va_Zqof (A := g_Ax s) (ht 850 rfl) (ht 135 rfl) (hg 7 rfl) hA)
  have hC := va_Zof (A := g_Ax s) (ht 834 rfl) (ht 133 rfl) (va_eqt (hg 6 rfl)) hA
  obtain ⟨hSt, hR⟩ := g_start (tx := g_txs ad o0 o1 o2) hL (hKc 16 _ rfl).2 hX hbl (fun i hi => (had i hi).2) (fun i hi => by
    unfold g_txs
    rw [if_neg (by omega), if_neg (by omega), if_neg (by omega)])
  have hR := hR ((dC, dI), dA, s.heap, g_txs ad o0 o1 o2, g_oldP s) rfl rfl rfl
  obtain ⟨h', hf, hn⟩ := hPure _ b L hL hSt
  have hK : gK ((dC, dI), dA, s.heap, g_txs ad o0 o1 o2, g_oldP s) s := by
    refine ⟨⟨hKc, hKa⟩, fun w hw hk => va_Nw.of ?_ (hts0 w hw), List.forall_mem_cons.mpr ⟨va_Nc.of (hg 19 rfl), List.forall_mem_cons.mpr ⟨va_Nc.of (hg 88 rfl), List.forall_mem_cons.mpr ⟨va_Nc.of (hg 79 rfl), List.forall_mem_cons.mpr ⟨va_Nc.of (hg 89 rfl), fun q hq => by cases hq⟩⟩⟩⟩, List.forall_mem_cons.mpr ⟨va_AO.of (ht 186 rfl), List.forall_mem_cons.mpr ⟨va_AO.of (ht 188 rfl), List.forall_mem_cons.mpr ⟨va_AO.of (ht 178 rfl), List.forall_mem_cons.mpr ⟨va_AO.of (ht 430 rfl), List.forall_mem_cons.mpr ⟨va_AO.of (ht 168 rfl), fun q hq => by cases hq⟩⟩⟩⟩⟩, List.forall_mem_cons.mpr ⟨va_Fw.of (ht 589 rfl) (ht 588 rfl) (ht 594 rfl) (ht 592 rfl) (ht 590 rfl), List.forall_mem_cons.mpr ⟨va_Fw.of (ht 589 rfl) (ht 588 rfl) (ht 620 rfl) (ht 618 rfl) (ht 616 rfl), List.forall_mem_cons.mpr ⟨va_Fw.of (ht 589 rfl) (ht 588 rfl) (ht 602 rfl) (ht 600 rfl) (ht 598 rfl), List.forall_mem_cons.mpr ⟨va_Fw.of (ht 589 rfl) (ht 588 rfl) (ht 612 rfl) (ht 610 rfl) (ht 608 rfl), fun q hq => by cases hq⟩⟩⟩⟩, fun q hq => ?_, hC, hF, ⟨hU, hUl⟩, ⟨hN, hNl⟩, fun a t n iv rv h => h, fun a ci iv rv h => h⟩
    · unfold g_nk at hk
      split at hk <;> first | rfl | cases hk
    · obtain ⟨h1, h2, h3⟩ := g_sr2 q hq
      refine vk_R.of (A := #[Value.ref b]) (hts0 _ (List.mem_of_getElem? (g_sr1 q hq))) ?_
      have h4 := (had _ h1).1
      unfold g_tm at h4
      rw [h2, h3] at h4
      show _ = some (Value.ref (g_txs ad o0 o1 o2 q.2.2.2))
      unfold g_txs
      rw [if_neg (by omega), if_neg (by omega), if_neg (by omega)]
      rw [← h4]
  have hl := lv_entry ([.ref b]) (n := 7) (Nat.le_of_ble_eq_true rfl)
  rw [lg_entry_eq]
  generalize (lg_sl ([.ref b]) ++ List.replicate (7 - (lg_sl ([.ref b])).length) Slot.unset).toArray = ls at hl ⊢
  have hl : lv_has ls 7 [(0, .ref b)] := hl
  exact b_L_law (G := ((dC, dI), dA, s.heap, g_txs ad o0 o1 o2, g_oldP s)) ⟨hx, hb, hml, hown, hts, hK, hr, hlocks, by rw [htab]; rfl, hnm, hfl, Nat.le_refl _⟩ hn rfl hn ⟨rfl, b, rfl⟩ b _ _ _ _ _ ls hf ⟨hR, (fun _ h => by cases h), g_le.rf _, by omega, by omega⟩ hl
