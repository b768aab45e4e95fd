/-! DECODE ROWS BY BYTES: one lemma an opcode; a method's code is cut into short pieces once, and a row reads its own piece alone. -/
set_option maxRecDepth 100000
/-- the code has just these bytes from pc on -/
def DkAt (code : ByteArray) (pc : Nat) (bs : List UInt8) : Prop := ∀ (j : Nat) (b : UInt8), bs[j]? = some b → code.data.toList[pc + j]? = some b
/-- the piece W has the bytes bs from its place j on -/
def dkIn (W : List UInt8) (j : Nat) (bs : List UInt8) : Bool := decide ((W.drop j).take bs.length = bs)
theorem dk_seg {l W T : List UInt8} {o o2 : Nat} (h : l.drop o = W ++ T) (n : Nat) (hn : W.length = n) (ho : o + n = o2) : l.drop o2 = T := by
  subst ho
  rw [← List.drop_drop, h, List.drop_left' hn]
theorem dk_at {code : ByteArray} {W T bs : List UInt8} {o pc : Nat} (h : code.data.toList.drop o = W ++ T) (j : Nat) (hp : o + j = pc) (hw : dkIn W j bs = true) : DkAt code pc bs := by
  subst hp
  intro i b e
  have h1 := of_decide_eq_true hw
  have h2 : i < bs.length := (List.getElem?_eq_some_iff.mp e).1
  have h3 : W[j + i]? = some b := by
    rw [← h1, List.getElem?_take, if_pos h2, List.getElem?_drop] at e
    exact e
  have h4 : j + i < W.length := (List.getElem?_eq_some_iff.mp h3).1
  have h5 : (code.data.toList.drop o)[j + i]? = some b := by
    rw [h, List.getElem?_append_left h4]
    exact h3
  rw [List.getElem?_drop, ← Nat.add_assoc] at h5
  exact h5
theorem dk_u1 {A : ByteArray} {p : Nat} {b : UInt8} (h : A.data.toList[p]? = some b) : (Reader.u1 : Reader DecodeError Nat) A p = .ok (b.toNat, p + 1) := by
  obtain ⟨h1, h2⟩ := List.getElem?_eq_some_iff.mp h
  have h3 : p < A.size := by simpa using h1
  have h4 : A[p]'h3 = b := h2
  have e : (Reader.u1 : Reader DecodeError Nat) A p = (if h : p < A.size then .ok (A[p].toNat, p + 1) else .error (HasTruncated.truncated p)) := by
    show (do if h : p < A.size then do set (p + 1); Pure.pure A[p].toNat else MonadExcept.throw (HasTruncated.truncated p) : Reader DecodeError Nat) A p = _
    by_cases hi : p < A.size
    · rw [dif_pos hi, dif_pos hi]; rfl
    · rw [dif_neg hi, dif_neg hi]; rfl
  rw [e, dif_pos h3, h4]
theorem dk_bind {α β : Type} {r : Reader DecodeError α} {f : α → Reader DecodeError β} {A : ByteArray} {p s : Nat} {a : α} (h : r A p = .ok (a, s)) : (r >>= f) A p = f a A s := by
  show (do let (a, s) ← r A p; f a A s : Except DecodeError (β × Nat)) = _
  rw [h]
  rfl
theorem dk_map {α β : Type} {r : Reader DecodeError α} {g : α → β} {A : ByteArray} {p s : Nat} {a : α} (h : r A p = .ok (a, s)) : (g <$> r) A p = .ok (g a, s) := by
  show (do let (a, s) ← r A p; .ok (g a, s) : Except DecodeError (β × Nat)) = _
  rw [h]
  rfl
theorem dk_u2 {A : ByteArray} {p : Nat} {a b : UInt8} (h : A.data.toList[p]? = some a) (h2 : A.data.toList[p + 1]? = some b) : (Reader.u2 : Reader DecodeError Nat) A p = .ok (a.toNat * 256 + b.toNat, p + 2) := by
  show (Reader.u1 >>= fun hi => Reader.u1 >>= fun lo => Pure.pure (hi * 256 + lo) : Reader DecodeError Nat) A p = _
  rw [dk_bind (dk_u1 h), dk_bind (dk_u1 h2)]
  rfl
theorem dk_of {code : ByteArray} {pc n : Nat} {i : Instr} (h : Decoder.instr pc code pc = .ok (i, pc + n)) : decode code pc = .ok (i, n) := by
  have e : decode code pc = (match Decoder.instr pc code pc with | .error x => .error x | .ok (j, s) => .ok (j, s - pc)) := by
    show (do let (j, s) ← Decoder.instr pc code pc; Pure.pure (j, s - pc) : Except DecodeError (Instr × Nat)) = _
    cases Decoder.instr pc code pc <;> rfl
  rw [e, h]
  show Except.ok (i, pc + n - pc) = _
  rw [Nat.add_sub_cancel_left]
theorem dk_1 {code : ByteArray} {pc : Nat} (h : DkAt code pc [1]) : decode code pc = .ok (.aconst_null, 1) := dk_of ((dk_bind (dk_u1 (h 0 _ rfl))).trans rfl)
theorem dk_2 {code : ByteArray} {pc : Nat} (h : DkAt code pc [2]) : decode code pc = .ok (.iconst (-1), 1) := dk_of ((dk_bind (dk_u1 (h 0 _ rfl))).trans rfl)
theorem dk_3 {code : ByteArray} {pc : Nat} (h : DkAt code pc [3]) : decode code pc = .ok (.iconst 0, 1) := dk_of ((dk_bind (dk_u1 (h 0 _ rfl))).trans rfl)
theorem dk_4 {code : ByteArray} {pc : Nat} (h : DkAt code pc [4]) : decode code pc = .ok (.iconst 1, 1) := dk_of ((dk_bind (dk_u1 (h 0 _ rfl))).trans rfl)
theorem dk_5 {code : ByteArray} {pc : Nat} (h : DkAt code pc [5]) : decode code pc = .ok (.iconst 2, 1) := dk_of ((dk_bind (dk_u1 (h 0 _ rfl))).trans rfl)
theorem dk_6 {code : ByteArray} {pc : Nat} (h : DkAt code pc [6]) : decode code pc = .ok (.iconst 3, 1) := dk_of ((dk_bind (dk_u1 (h 0 _ rfl))).trans rfl)
theorem dk_7 {code : ByteArray} {pc : Nat} (h : DkAt code pc [7]) : decode code pc = .ok (.iconst 4, 1) := dk_of ((dk_bind (dk_u1 (h 0 _ rfl))).trans rfl)
theorem dk_8 {code : ByteArray} {pc : Nat} (h : DkAt code pc [8]) : decode code pc = .ok (.iconst 5, 1) := dk_of ((dk_bind (dk_u1 (h 0 _ rfl))).trans rfl)
theorem dk_16 {code : ByteArray} {pc : Nat} (a : UInt8) (h : DkAt code pc [16, a]) : decode code pc = .ok (.bipush (Reader.signed 8 a.toNat), 2) := dk_of ((dk_bind (dk_u1 (h 0 _ rfl))).trans ((dk_bind (dk_map (dk_u1 (h 1 _ rfl)))).trans rfl))
theorem dk_17 {code : ByteArray} {pc : Nat} (a b : UInt8) (h : DkAt code pc [17, a, b]) : decode code pc = .ok (.sipush (Reader.signed 16 (a.toNat * 256 + b.toNat)), 3) := dk_of ((dk_bind (dk_u1 (h 0 _ rfl))).trans ((dk_bind (dk_map (dk_u2 (h 1 _ rfl) (h 2 _ rfl)))).trans rfl))
theorem dk_18 {code : ByteArray} {pc : Nat} (a : UInt8) (h : DkAt code pc [18, a]) : decode code pc = .ok (.ldc a.toNat, 2) := dk_of ((dk_bind (dk_u1 (h 0 _ rfl))).trans ((dk_bind (dk_u1 (h 1 _ rfl))).trans rfl))
theorem dk_19 {code : ByteArray} {pc : Nat} (a b : UInt8) (h : DkAt code pc [19, a, b]) : decode code pc = .ok (.ldc_w (a.toNat * 256 + b.toNat), 3) := dk_of ((dk_bind (dk_u1 (h 0 _ rfl))).trans ((dk_bind (dk_u2 (h 1 _ rfl) (h 2 _ rfl))).trans rfl))
theorem dk_20 {code : ByteArray} {pc : Nat} (a b : UInt8) (h : DkAt code pc [20, a, b]) : decode code pc = .ok (.ldc2_w (a.toNat * 256 + b.toNat), 3) := dk_of ((dk_bind (dk_u1 (h 0 _ rfl))).trans ((dk_bind (dk_u2 (h 1 _ rfl) (h 2 _ rfl))).trans rfl))
theorem dk_21 {code : ByteArray} {pc : Nat} (a : UInt8) (h : DkAt code pc [21, a]) : decode code pc = .ok (.iload a.toNat, 2) := dk_of ((dk_bind (dk_u1 (h 0 _ rfl))).trans ((dk_bind (dk_u1 (h 1 _ rfl))).trans rfl))
theorem dk_25 {code : ByteArray} {pc : Nat} (a : UInt8) (h : DkAt code pc [25, a]) : decode code pc = .ok (.aload a.toNat, 2) := dk_of ((dk_bind (dk_u1 (h 0 _ rfl))).trans ((dk_bind (dk_u1 (h 1 _ rfl))).trans rfl))
theorem dk_26 {code : ByteArray} {pc : Nat} (h : DkAt code pc [26]) : decode code pc = .ok (.iload_n 0, 1) := dk_of ((dk_bind (dk_u1 (h 0 _ rfl))).trans rfl)
theorem dk_27 {code : ByteArray} {pc : Nat} (h : DkAt code pc [27]) : decode code pc = .ok (.iload_n 1, 1) := dk_of ((dk_bind (dk_u1 (h 0 _ rfl))).trans rfl)
theorem dk_28 {code : ByteArray} {pc : Nat} (h : DkAt code pc [28]) : decode code pc = .ok (.iload_n 2, 1) := dk_of ((dk_bind (dk_u1 (h 0 _ rfl))).trans rfl)
theorem dk_29 {code : ByteArray} {pc : Nat} (h : DkAt code pc [29]) : decode code pc = .ok (.iload_n 3, 1) := dk_of ((dk_bind (dk_u1 (h 0 _ rfl))).trans rfl)
theorem dk_42 {code : ByteArray} {pc : Nat} (h : DkAt code pc [42]) : decode code pc = .ok (.aload_n 0, 1) := dk_of ((dk_bind (dk_u1 (h 0 _ rfl))).trans rfl)
theorem dk_43 {code : ByteArray} {pc : Nat} (h : DkAt code pc [43]) : decode code pc = .ok (.aload_n 1, 1) := dk_of ((dk_bind (dk_u1 (h 0 _ rfl))).trans rfl)
theorem dk_44 {code : ByteArray} {pc : Nat} (h : DkAt code pc [44]) : decode code pc = .ok (.aload_n 2, 1) := dk_of ((dk_bind (dk_u1 (h 0 _ rfl))).trans rfl)
theorem dk_45 {code : ByteArray} {pc : Nat} (h : DkAt code pc [45]) : decode code pc = .ok (.aload_n 3, 1) := dk_of ((dk_bind (dk_u1 (h 0 _ rfl))).trans rfl)
theorem dk_46 {code : ByteArray} {pc : Nat} (h : DkAt code pc [46]) : decode code pc = .ok (.iaload, 1) := dk_of ((dk_bind (dk_u1 (h 0 _ rfl))).trans rfl)
theorem dk_47 {code : ByteArray} {pc : Nat} (h : DkAt code pc [47]) : decode code pc = .ok (.laload, 1) := dk_of ((dk_bind (dk_u1 (h 0 _ rfl))).trans rfl)
theorem dk_50 {code : ByteArray} {pc : Nat} (h : DkAt code pc [50]) : decode code pc = .ok (.aaload, 1) := dk_of ((dk_bind (dk_u1 (h 0 _ rfl))).trans rfl)
theorem dk_51 {code : ByteArray} {pc : Nat} (h : DkAt code pc [51]) : decode code pc = .ok (.baload, 1) := dk_of ((dk_bind (dk_u1 (h 0 _ rfl))).trans rfl)
theorem dk_54 {code : ByteArray} {pc : Nat} (a : UInt8) (h : DkAt code pc [54, a]) : decode code pc = .ok (.istore a.toNat, 2) := dk_of ((dk_bind (dk_u1 (h 0 _ rfl))).trans ((dk_bind (dk_u1 (h 1 _ rfl))).trans rfl))
theorem dk_58 {code : ByteArray} {pc : Nat} (a : UInt8) (h : DkAt code pc [58, a]) : decode code pc = .ok (.astore a.toNat, 2) := dk_of ((dk_bind (dk_u1 (h 0 _ rfl))).trans ((dk_bind (dk_u1 (h 1 _ rfl))).trans rfl))
theorem dk_59 {code : ByteArray} {pc : Nat} (h : DkAt code pc [59]) : decode code pc = .ok (.istore_n 0, 1) := dk_of ((dk_bind (dk_u1 (h 0 _ rfl))).trans rfl)
theorem dk_60 {code : ByteArray} {pc : Nat} (h : DkAt code pc [60]) : decode code pc = .ok (.istore_n 1, 1) := dk_of ((dk_bind (dk_u1 (h 0 _ rfl))).trans rfl)
theorem dk_61 {code : ByteArray} {pc : Nat} (h : DkAt code pc [61]) : decode code pc = .ok (.istore_n 2, 1) := dk_of ((dk_bind (dk_u1 (h 0 _ rfl))).trans rfl)
theorem dk_62 {code : ByteArray} {pc : Nat} (h : DkAt code pc [62]) : decode code pc = .ok (.istore_n 3, 1) := dk_of ((dk_bind (dk_u1 (h 0 _ rfl))).trans rfl)
theorem dk_76 {code : ByteArray} {pc : Nat} (h : DkAt code pc [76]) : decode code pc = .ok (.astore_n 1, 1) := dk_of ((dk_bind (dk_u1 (h 0 _ rfl))).trans rfl)
theorem dk_77 {code : ByteArray} {pc : Nat} (h : DkAt code pc [77]) : decode code pc = .ok (.astore_n 2, 1) := dk_of ((dk_bind (dk_u1 (h 0 _ rfl))).trans rfl)
theorem dk_78 {code : ByteArray} {pc : Nat} (h : DkAt code pc [78]) : decode code pc = .ok (.astore_n 3, 1) := dk_of ((dk_bind (dk_u1 (h 0 _ rfl))).trans rfl)
theorem dk_79 {code : ByteArray} {pc : Nat} (h : DkAt code pc [79]) : decode code pc = .ok (.iastore, 1) := dk_of ((dk_bind (dk_u1 (h 0 _ rfl))).trans rfl)
theorem dk_80 {code : ByteArray} {pc : Nat} (h : DkAt code pc [80]) : decode code pc = .ok (.lastore, 1) := dk_of ((dk_bind (dk_u1 (h 0 _ rfl))).trans rfl)
theorem dk_83 {code : ByteArray} {pc : Nat} (h : DkAt code pc [83]) : decode code pc = .ok (.aastore, 1) := dk_of ((dk_bind (dk_u1 (h 0 _ rfl))).trans rfl)
theorem dk_84 {code : ByteArray} {pc : Nat} (h : DkAt code pc [84]) : decode code pc = .ok (.bastore, 1) := dk_of ((dk_bind (dk_u1 (h 0 _ rfl))).trans rfl)
theorem dk_87 {code : ByteArray} {pc : Nat} (h : DkAt code pc [87]) : decode code pc = .ok (.pop, 1) := dk_of ((dk_bind (dk_u1 (h 0 _ rfl))).trans rfl)
theorem dk_89 {code : ByteArray} {pc : Nat} (h : DkAt code pc [89]) : decode code pc = .ok (.dup, 1) := dk_of ((dk_bind (dk_u1 (h 0 _ rfl))).trans rfl)
theorem dk_92 {code : ByteArray} {pc : Nat} (h : DkAt code pc [92]) : decode code pc = .ok (.dup2, 1) := dk_of ((dk_bind (dk_u1 (h 0 _ rfl))).trans rfl)
theorem dk_96 {code : ByteArray} {pc : Nat} (h : DkAt code pc [96]) : decode code pc = .ok (.iadd, 1) := dk_of ((dk_bind (dk_u1 (h 0 _ rfl))).trans rfl)
theorem dk_100 {code : ByteArray} {pc : Nat} (h : DkAt code pc [100]) : decode code pc = .ok (.isub, 1) := dk_of ((dk_bind (dk_u1 (h 0 _ rfl))).trans rfl)
theorem dk_104 {code : ByteArray} {pc : Nat} (h : DkAt code pc [104]) : decode code pc = .ok (.imul, 1) := dk_of ((dk_bind (dk_u1 (h 0 _ rfl))).trans rfl)
theorem dk_105 {code : ByteArray} {pc : Nat} (h : DkAt code pc [105]) : decode code pc = .ok (.lmul, 1) := dk_of ((dk_bind (dk_u1 (h 0 _ rfl))).trans rfl)
theorem dk_108 {code : ByteArray} {pc : Nat} (h : DkAt code pc [108]) : decode code pc = .ok (.idiv, 1) := dk_of ((dk_bind (dk_u1 (h 0 _ rfl))).trans rfl)
theorem dk_109 {code : ByteArray} {pc : Nat} (h : DkAt code pc [109]) : decode code pc = .ok (.ldiv, 1) := dk_of ((dk_bind (dk_u1 (h 0 _ rfl))).trans rfl)
theorem dk_112 {code : ByteArray} {pc : Nat} (h : DkAt code pc [112]) : decode code pc = .ok (.irem, 1) := dk_of ((dk_bind (dk_u1 (h 0 _ rfl))).trans rfl)
theorem dk_116 {code : ByteArray} {pc : Nat} (h : DkAt code pc [116]) : decode code pc = .ok (.ineg, 1) := dk_of ((dk_bind (dk_u1 (h 0 _ rfl))).trans rfl)
theorem dk_120 {code : ByteArray} {pc : Nat} (h : DkAt code pc [120]) : decode code pc = .ok (.ishl, 1) := dk_of ((dk_bind (dk_u1 (h 0 _ rfl))).trans rfl)
theorem dk_122 {code : ByteArray} {pc : Nat} (h : DkAt code pc [122]) : decode code pc = .ok (.ishr, 1) := dk_of ((dk_bind (dk_u1 (h 0 _ rfl))).trans rfl)
theorem dk_124 {code : ByteArray} {pc : Nat} (h : DkAt code pc [124]) : decode code pc = .ok (.iushr, 1) := dk_of ((dk_bind (dk_u1 (h 0 _ rfl))).trans rfl)
theorem dk_126 {code : ByteArray} {pc : Nat} (h : DkAt code pc [126]) : decode code pc = .ok (.iand, 1) := dk_of ((dk_bind (dk_u1 (h 0 _ rfl))).trans rfl)
theorem dk_128 {code : ByteArray} {pc : Nat} (h : DkAt code pc [128]) : decode code pc = .ok (.ior, 1) := dk_of ((dk_bind (dk_u1 (h 0 _ rfl))).trans rfl)
theorem dk_130 {code : ByteArray} {pc : Nat} (h : DkAt code pc [130]) : decode code pc = .ok (.ixor, 1) := dk_of ((dk_bind (dk_u1 (h 0 _ rfl))).trans rfl)
theorem dk_132 {code : ByteArray} {pc : Nat} (a b : UInt8) (h : DkAt code pc [132, a, b]) : decode code pc = .ok (.iinc a.toNat (Reader.signed 8 b.toNat), 3) := dk_of ((dk_bind (dk_u1 (h 0 _ rfl))).trans ((dk_bind (dk_u1 (h 1 _ rfl))).trans ((dk_bind (dk_map (dk_u1 (h 2 _ rfl)))).trans rfl)))
theorem dk_133 {code : ByteArray} {pc : Nat} (h : DkAt code pc [133]) : decode code pc = .ok (.i2l, 1) := dk_of ((dk_bind (dk_u1 (h 0 _ rfl))).trans rfl)
theorem dk_136 {code : ByteArray} {pc : Nat} (h : DkAt code pc [136]) : decode code pc = .ok (.l2i, 1) := dk_of ((dk_bind (dk_u1 (h 0 _ rfl))).trans rfl)
theorem dk_145 {code : ByteArray} {pc : Nat} (h : DkAt code pc [145]) : decode code pc = .ok (.i2b, 1) := dk_of ((dk_bind (dk_u1 (h 0 _ rfl))).trans rfl)
theorem dk_146 {code : ByteArray} {pc : Nat} (h : DkAt code pc [146]) : decode code pc = .ok (.i2c, 1) := dk_of ((dk_bind (dk_u1 (h 0 _ rfl))).trans rfl)
theorem dk_148 {code : ByteArray} {pc : Nat} (h : DkAt code pc [148]) : decode code pc = .ok (.lcmp, 1) := dk_of ((dk_bind (dk_u1 (h 0 _ rfl))).trans rfl)
theorem dk_153 {code : ByteArray} {pc : Nat} (a b : UInt8) (h : DkAt code pc [153, a, b]) : decode code pc = .ok (.ifCond .eq (Reader.signed 16 (a.toNat * 256 + b.toNat)), 3) := dk_of ((dk_bind (dk_u1 (h 0 _ rfl))).trans ((dk_bind (dk_map (dk_u2 (h 1 _ rfl) (h 2 _ rfl)))).trans rfl))
theorem dk_154 {code : ByteArray} {pc : Nat} (a b : UInt8) (h : DkAt code pc [154, a, b]) : decode code pc = .ok (.ifCond .ne (Reader.signed 16 (a.toNat * 256 + b.toNat)), 3) := dk_of ((dk_bind (dk_u1 (h 0 _ rfl))).trans ((dk_bind (dk_map (dk_u2 (h 1 _ rfl) (h 2 _ rfl)))).trans rfl))
theorem dk_155 {code : ByteArray} {pc : Nat} (a b : UInt8) (h : DkAt code pc [155, a, b]) : decode code pc = .ok (.ifCond .lt (Reader.signed 16 (a.toNat * 256 + b.toNat)), 3) := dk_of ((dk_bind (dk_u1 (h 0 _ rfl))).trans ((dk_bind (dk_map (dk_u2 (h 1 _ rfl) (h 2 _ rfl)))).trans rfl))
theorem dk_156 {code : ByteArray} {pc : Nat} (a b : UInt8) (h : DkAt code pc [156, a, b]) : decode code pc = .ok (.ifCond .ge (Reader.signed 16 (a.toNat * 256 + b.toNat)), 3) := dk_of ((dk_bind (dk_u1 (h 0 _ rfl))).trans ((dk_bind (dk_map (dk_u2 (h 1 _ rfl) (h 2 _ rfl)))).trans rfl))
theorem dk_157 {code : ByteArray} {pc : Nat} (a b : UInt8) (h : DkAt code pc [157, a, b]) : decode code pc = .ok (.ifCond .gt (Reader.signed 16 (a.toNat * 256 + b.toNat)), 3) := dk_of ((dk_bind (dk_u1 (h 0 _ rfl))).trans ((dk_bind (dk_map (dk_u2 (h 1 _ rfl) (h 2 _ rfl)))).trans rfl))
theorem dk_158 {code : ByteArray} {pc : Nat} (a b : UInt8) (h : DkAt code pc [158, a, b]) : decode code pc = .ok (.ifCond .le (Reader.signed 16 (a.toNat * 256 + b.toNat)), 3) := dk_of ((dk_bind (dk_u1 (h 0 _ rfl))).trans ((dk_bind (dk_map (dk_u2 (h 1 _ rfl) (h 2 _ rfl)))).trans rfl))
theorem dk_159 {code : ByteArray} {pc : Nat} (a b : UInt8) (h : DkAt code pc [159, a, b]) : decode code pc = .ok (.if_icmp .eq (Reader.signed 16 (a.toNat * 256 + b.toNat)), 3) := dk_of ((dk_bind (dk_u1 (h 0 _ rfl))).trans ((dk_bind (dk_map (dk_u2 (h 1 _ rfl) (h 2 _ rfl)))).trans rfl))
theorem dk_160 {code : ByteArray} {pc : Nat} (a b : UInt8) (h : DkAt code pc [160, a, b]) : decode code pc = .ok (.if_icmp .ne (Reader.signed 16 (a.toNat * 256 + b.toNat)), 3) := dk_of ((dk_bind (dk_u1 (h 0 _ rfl))).trans ((dk_bind (dk_map (dk_u2 (h 1 _ rfl) (h 2 _ rfl)))).trans rfl))
theorem dk_161 {code : ByteArray} {pc : Nat} (a b : UInt8) (h : DkAt code pc [161, a, b]) : decode code pc = .ok (.if_icmp .lt (Reader.signed 16 (a.toNat * 256 + b.toNat)), 3) := dk_of ((dk_bind (dk_u1 (h 0 _ rfl))).trans ((dk_bind (dk_map (dk_u2 (h 1 _ rfl) (h 2 _ rfl)))).trans rfl))
theorem dk_162 {code : ByteArray} {pc : Nat} (a b : UInt8) (h : DkAt code pc [162, a, b]) : decode code pc = .ok (.if_icmp .ge (Reader.signed 16 (a.toNat * 256 + b.toNat)), 3) := dk_of ((dk_bind (dk_u1 (h 0 _ rfl))).trans ((dk_bind (dk_map (dk_u2 (h 1 _ rfl) (h 2 _ rfl)))).trans rfl))
theorem dk_163 {code : ByteArray} {pc : Nat} (a b : UInt8) (h : DkAt code pc [163, a, b]) : decode code pc = .ok (.if_icmp .gt (Reader.signed 16 (a.toNat * 256 + b.toNat)), 3) := dk_of ((dk_bind (dk_u1 (h 0 _ rfl))).trans ((dk_bind (dk_map (dk_u2 (h 1 _ rfl) (h 2 _ rfl)))).trans rfl))
theorem dk_164 {code : ByteArray} {pc : Nat} (a b : UInt8) (h : DkAt code pc [164, a, b]) : decode code pc = .ok (.if_icmp .le (Reader.signed 16 (a.toNat * 256 + b.toNat)), 3) := dk_of ((dk_bind (dk_u1 (h 0 _ rfl))).trans ((dk_bind (dk_map (dk_u2 (h 1 _ rfl) (h 2 _ rfl)))).trans rfl))
theorem dk_167 {code : ByteArray} {pc : Nat} (a b : UInt8) (h : DkAt code pc [167, a, b]) : decode code pc = .ok (.goto (Reader.signed 16 (a.toNat * 256 + b.toNat)), 3) := dk_of ((dk_bind (dk_u1 (h 0 _ rfl))).trans ((dk_bind (dk_map (dk_u2 (h 1 _ rfl) (h 2 _ rfl)))).trans rfl))
theorem dk_172 {code : ByteArray} {pc : Nat} (h : DkAt code pc [172]) : decode code pc = .ok (.ireturn, 1) := dk_of ((dk_bind (dk_u1 (h 0 _ rfl))).trans rfl)
theorem dk_176 {code : ByteArray} {pc : Nat} (h : DkAt code pc [176]) : decode code pc = .ok (.areturn, 1) := dk_of ((dk_bind (dk_u1 (h 0 _ rfl))).trans rfl)
theorem dk_177 {code : ByteArray} {pc : Nat} (h : DkAt code pc [177]) : decode code pc = .ok (.return_, 1) := dk_of ((dk_bind (dk_u1 (h 0 _ rfl))).trans rfl)
theorem dk_178 {code : ByteArray} {pc : Nat} (a b : UInt8) (h : DkAt code pc [178, a, b]) : decode code pc = .ok (.getstatic (a.toNat * 256 + b.toNat), 3) := dk_of ((dk_bind (dk_u1 (h 0 _ rfl))).trans ((dk_bind (dk_u2 (h 1 _ rfl) (h 2 _ rfl))).trans rfl))
theorem dk_180 {code : ByteArray} {pc : Nat} (a b : UInt8) (h : DkAt code pc [180, a, b]) : decode code pc = .ok (.getfield (a.toNat * 256 + b.toNat), 3) := dk_of ((dk_bind (dk_u1 (h 0 _ rfl))).trans ((dk_bind (dk_u2 (h 1 _ rfl) (h 2 _ rfl))).trans rfl))
theorem dk_181 {code : ByteArray} {pc : Nat} (a b : UInt8) (h : DkAt code pc [181, a, b]) : decode code pc = .ok (.putfield (a.toNat * 256 + b.toNat), 3) := dk_of ((dk_bind (dk_u1 (h 0 _ rfl))).trans ((dk_bind (dk_u2 (h 1 _ rfl) (h 2 _ rfl))).trans rfl))
theorem dk_182 {code : ByteArray} {pc : Nat} (a b : UInt8) (h : DkAt code pc [182, a, b]) : decode code pc = .ok (.invokevirtual (a.toNat * 256 + b.toNat), 3) := dk_of ((dk_bind (dk_u1 (h 0 _ rfl))).trans ((dk_bind (dk_u2 (h 1 _ rfl) (h 2 _ rfl))).trans rfl))
theorem dk_183 {code : ByteArray} {pc : Nat} (a b : UInt8) (h : DkAt code pc [183, a, b]) : decode code pc = .ok (.invokespecial (a.toNat * 256 + b.toNat), 3) := dk_of ((dk_bind (dk_u1 (h 0 _ rfl))).trans ((dk_bind (dk_u2 (h 1 _ rfl) (h 2 _ rfl))).trans rfl))
theorem dk_184 {code : ByteArray} {pc : Nat} (a b : UInt8) (h : DkAt code pc [184, a, b]) : decode code pc = .ok (.invokestatic (a.toNat * 256 + b.toNat), 3) := dk_of ((dk_bind (dk_u1 (h 0 _ rfl))).trans ((dk_bind (dk_u2 (h 1 _ rfl) (h 2 _ rfl))).trans rfl))
theorem dk_187 {code : ByteArray} {pc : Nat} (a b : UInt8) (h : DkAt code pc [187, a, b]) : decode code pc = .ok (.new (a.toNat * 256 + b.toNat), 3) := dk_of ((dk_bind (dk_u1 (h 0 _ rfl))).trans ((dk_bind (dk_u2 (h 1 _ rfl) (h 2 _ rfl))).trans rfl))
theorem dk_188_4 {code : ByteArray} {pc : Nat} (h : DkAt code pc [188, 4]) : decode code pc = .ok (.newarray .boolean, 2) := dk_of ((dk_bind (dk_u1 (h 0 _ rfl))).trans ((dk_bind (dk_u1 (h 1 _ rfl))).trans rfl))
theorem dk_188_8 {code : ByteArray} {pc : Nat} (h : DkAt code pc [188, 8]) : decode code pc = .ok (.newarray .byte, 2) := dk_of ((dk_bind (dk_u1 (h 0 _ rfl))).trans ((dk_bind (dk_u1 (h 1 _ rfl))).trans rfl))
theorem dk_188_10 {code : ByteArray} {pc : Nat} (h : DkAt code pc [188, 10]) : decode code pc = .ok (.newarray .int, 2) := dk_of ((dk_bind (dk_u1 (h 0 _ rfl))).trans ((dk_bind (dk_u1 (h 1 _ rfl))).trans rfl))
theorem dk_188_11 {code : ByteArray} {pc : Nat} (h : DkAt code pc [188, 11]) : decode code pc = .ok (.newarray .long, 2) := dk_of ((dk_bind (dk_u1 (h 0 _ rfl))).trans ((dk_bind (dk_u1 (h 1 _ rfl))).trans rfl))
theorem dk_189 {code : ByteArray} {pc : Nat} (a b : UInt8) (h : DkAt code pc [189, a, b]) : decode code pc = .ok (.anewarray (a.toNat * 256 + b.toNat), 3) := dk_of ((dk_bind (dk_u1 (h 0 _ rfl))).trans ((dk_bind (dk_u2 (h 1 _ rfl) (h 2 _ rfl))).trans rfl))
theorem dk_190 {code : ByteArray} {pc : Nat} (h : DkAt code pc [190]) : decode code pc = .ok (.arraylength, 1) := dk_of ((dk_bind (dk_u1 (h 0 _ rfl))).trans rfl)
theorem dk_191 {code : ByteArray} {pc : Nat} (h : DkAt code pc [191]) : decode code pc = .ok (.athrow, 1) := dk_of ((dk_bind (dk_u1 (h 0 _ rfl))).trans rfl)
theorem dk_198 {code : ByteArray} {pc : Nat} (a b : UInt8) (h : DkAt code pc [198, a, b]) : decode code pc = .ok (.ifnull (Reader.signed 16 (a.toNat * 256 + b.toNat)), 3) := dk_of ((dk_bind (dk_u1 (h 0 _ rfl))).trans ((dk_bind (dk_map (dk_u2 (h 1 _ rfl) (h 2 _ rfl)))).trans rfl))

theorem q588 : (Jvm.Cond.interfaceMethod "GhostAssize$Cond" "GhostAssize$Cond" "holds" "([I)Z") ∈ lw_tbl := lw_at lw_m2 228 rfl
set_option maxRecDepth 100000
theorem q589 : (Jvm.Cond.declares ({ cls := "GhostAssize$Cond", name := "holds", desc := "([I)Z" } : Jvm.MethodName)) ∈ lw_tbl := lw_at lw_m2 229 rfl

theorem q132 : (Jvm.Cond.initialized "java/lang/System") ∈ lw_all := lw_g (lw_at lw_m1 12 rfl) rfl
set_option maxRecDepth 100000
theorem q625 : (Jvm.Cond.static ({ cls := "java/lang/System", name := "arraycopy", desc := "(Ljava/lang/Object;ILjava/lang/Object;II)V" } : Jvm.MethodName)) ∈ lw_all := lw_g (lw_at lw_m3 25 rfl) rfl
theorem q626 : (Jvm.Cond.native ({ cls := "java/lang/System", name := "arraycopy", desc := "(Ljava/lang/Object;ILjava/lang/Object;II)V" } : Jvm.MethodName)) ∈ lw_all := lw_g (lw_at lw_m3 26 rfl) rfl

theorem q168 : (Jvm.Cond.arrayOver (Jvm.ClassFile.FieldType.object "java/lang/String")) ∈ lw_tbl := lw_at lw_m1 48 rfl
set_option maxRecDepth 100000
theorem q178 : (Jvm.Cond.arrayOver (Jvm.ClassFile.FieldType.object "GhostAssize$Line")) ∈ lw_tbl := lw_at lw_m1 58 rfl
theorem q186 : (Jvm.Cond.arrayOver (Jvm.ClassFile.FieldType.object "GhostAssize$Prop")) ∈ lw_tbl := lw_at lw_m1 66 rfl
theorem q188 : (Jvm.Cond.arrayOver (Jvm.ClassFile.FieldType.object "GhostAssize$One")) ∈ lw_tbl := lw_at lw_m1 68 rfl
theorem q220 : (Jvm.Cond.arrayClass Jvm.ClassFile.FieldType.byte) ∈ lw_all := lw_g (lw_at lw_m1 100 rfl) rfl
theorem q221 : (Jvm.Cond.arrayClass Jvm.ClassFile.FieldType.int) ∈ lw_all := lw_g (lw_at lw_m1 101 rfl) rfl
theorem q430 : (Jvm.Cond.arrayOver (Jvm.ClassFile.FieldType.object "GhostAssize$State")) ∈ lw_tbl := lw_at lw_m2 70 rfl
theorem q519 : (Jvm.Cond.arrayClass Jvm.ClassFile.FieldType.boolean) ∈ lw_all := lw_g (lw_at lw_m2 159 rfl) rfl
theorem q2101 : (Jvm.Cond.arrayClass Jvm.ClassFile.FieldType.long) ∈ lw_all := lw_g (lw_at lw_m9 61 rfl) rfl

/-! java/lang/Throwable -/
set_option maxRecDepth 100000
def RJ0 : String := "java/lang/Throwable"
def TJ0 : u_T := fun k => match k with
  | 0 => ("java/lang/Throwable", "cause", "Ljava/lang/Throwable;", false)
  | 1 => ("java/lang/Throwable", "stackTrace", "[Ljava/lang/StackTraceElement;", false)
  | 2 => ("java/lang/Throwable", "suppressedExceptions", "Ljava/util/List;", false)
  | 3 => ("java/lang/Throwable", "detailMessage", "Ljava/lang/String;", false)
  | _ => ("java/lang/Throwable", "backtrace", "Ljava/lang/Object;", false)
def tyJ0 : Nat → FieldType := fun k => match k with
  | 0 => .object "java/lang/Throwable"
  | 1 => .array (.object "java/lang/StackTraceElement")
  | 2 => .object "java/util/List"
  | 3 => .object "java/lang/String"
  | _ => .object "java/lang/Object"
abbrev wsJ00 : List Cond := u_ws RJ0 TJ0 5
theorem nmJ0 : ∀ a, a < 5 → ∀ b, b < 5 → a ≠ b → (TJ0 a).2.1 ≠ (TJ0 b).2.1 := by decide +kernel
theorem tyJ0_ok : ∀ k, k < 5 → parseFieldDescriptor (TJ0 k).2.2.1 = some (tyJ0 k) := by decide +kernel
abbrev cJ0_init : ByteArray := prog_31_method_1_code
def yJ0_init : MethodName := ⟨RJ0, "<init>", "()V"⟩
def dkwJ0_init_1 : List UInt8 := [182, 0, 27, 87, 177]
abbrev dktJ0_init_1 : List UInt8 := dkwJ0_init_1 ++ []
def dkwJ0_init_0 : List UInt8 := [42, 183, 0, 1, 42, 42, 181, 0, 7, 42, 178, 0, 13, 181, 0, 17, 42, 178, 0, 20, 181, 0, 24, 42]
abbrev dktJ0_init_0 : List UInt8 := dkwJ0_init_0 ++ dktJ0_init_1
theorem dksJ0_init_0 : cJ0_init.data.toList.drop 0 = dktJ0_init_0 := by decide +kernel
theorem dksJ0_init_1 : cJ0_init.data.toList.drop 24 = dktJ0_init_1 := dk_seg dksJ0_init_0 24 rfl rfl
theorem dJ0_init_0 : decode cJ0_init 0 = .ok (.aload_n 0, 1) := dk_42 (dk_at dksJ0_init_0 0 rfl rfl)
theorem dJ0_init_1 : decode cJ0_init 1 = .ok (.invokespecial 1, 3) := dk_183 0 1 (dk_at dksJ0_init_0 1 rfl rfl)
theorem dJ0_init_4 : decode cJ0_init 4 = .ok (.aload_n 0, 1) := dk_42 (dk_at dksJ0_init_0 4 rfl rfl)
theorem dJ0_init_5 : decode cJ0_init 5 = .ok (.aload_n 0, 1) := dk_42 (dk_at dksJ0_init_0 5 rfl rfl)
theorem dJ0_init_6 : decode cJ0_init 6 = .ok (.putfield 7, 3) := dk_181 0 7 (dk_at dksJ0_init_0 6 rfl rfl)
theorem dJ0_init_9 : decode cJ0_init 9 = .ok (.aload_n 0, 1) := dk_42 (dk_at dksJ0_init_0 9 rfl rfl)
theorem dJ0_init_10 : decode cJ0_init 10 = .ok (.getstatic 13, 3) := dk_178 0 13 (dk_at dksJ0_init_0 10 rfl rfl)
theorem dJ0_init_13 : decode cJ0_init 13 = .ok (.putfield 17, 3) := dk_181 0 17 (dk_at dksJ0_init_0 13 rfl rfl)
theorem dJ0_init_16 : decode cJ0_init 16 = .ok (.aload_n 0, 1) := dk_42 (dk_at dksJ0_init_0 16 rfl rfl)
theorem dJ0_init_17 : decode cJ0_init 17 = .ok (.getstatic 20, 3) := dk_178 0 20 (dk_at dksJ0_init_0 17 rfl rfl)
theorem dJ0_init_20 : decode cJ0_init 20 = .ok (.putfield 24, 3) := dk_181 0 24 (dk_at dksJ0_init_0 20 rfl rfl)
theorem dJ0_init_23 : decode cJ0_init 23 = .ok (.aload_n 0, 1) := dk_42 (dk_at dksJ0_init_0 23 rfl rfl)
theorem dJ0_init_24 : decode cJ0_init 24 = .ok (.invokevirtual 27, 3) := dk_182 0 27 (dk_at dksJ0_init_1 0 rfl rfl)
theorem dJ0_init_27 : decode cJ0_init 27 = .ok (.pop, 1) := dk_87 (dk_at dksJ0_init_1 3 rfl rfl)
theorem dJ0_init_28 : decode cJ0_init 28 = .ok (.return_, 1) := dk_177 (dk_at dksJ0_init_1 4 rfl rfl)
abbrev cJ0_init_2 : ByteArray := prog_31_method_5_code
def yJ0_init_2 : MethodName := ⟨RJ0, "<init>", "(Ljava/lang/String;Ljava/lang/Throwable;ZZ)V"⟩
def dkwJ0_init_2_2 : List UInt8 := [44, 181, 0, 7, 29, 154, 0, 8, 42, 1, 181, 0, 24, 177]
abbrev dktJ0_init_2_2 : List UInt8 := dkwJ0_init_2_2 ++ []
def dkwJ0_init_2_1 : List UInt8 := [21, 4, 153, 0, 11, 42, 182, 0, 27, 87, 167, 0, 8, 42, 1, 181, 0, 17, 42, 43, 181, 0, 31, 42]
abbrev dktJ0_init_2_1 : List UInt8 := dkwJ0_init_2_1 ++ dktJ0_init_2_2
def dkwJ0_init_2_0 : List UInt8 := [42, 183, 0, 1, 42, 42, 181, 0, 7, 42, 178, 0, 13, 181, 0, 17, 42, 178, 0, 20, 181, 0, 24]
abbrev dktJ0_init_2_0 : List UInt8 := dkwJ0_init_2_0 ++ dktJ0_init_2_1
theorem dksJ0_init_2_0 : cJ0_init_2.data.toList.drop 0 = dktJ0_init_2_0 := by decide +kernel
theorem dksJ0_init_2_1 : cJ0_init_2.data.toList.drop 23 = dktJ0_init_2_1 := dk_seg dksJ0_init_2_0 23 rfl rfl
theorem dksJ0_init_2_2 : cJ0_init_2.data.toList.drop 47 = dktJ0_init_2_2 := dk_seg dksJ0_init_2_1 24 rfl rfl
theorem dJ0_init_2_0 : decode cJ0_init_2 0 = .ok (.aload_n 0, 1) := dk_42 (dk_at dksJ0_init_2_0 0 rfl rfl)
theorem dJ0_init_2_1 : decode cJ0_init_2 1 = .ok (.invokespecial 1, 3) := dk_183 0 1 (dk_at dksJ0_init_2_0 1 rfl rfl)
theorem dJ0_init_2_4 : decode cJ0_init_2 4 = .ok (.aload_n 0, 1) := dk_42 (dk_at dksJ0_init_2_0 4 rfl rfl)
theorem dJ0_init_2_5 : decode cJ0_init_2 5 = .ok (.aload_n 0, 1) := dk_42 (dk_at dksJ0_init_2_0 5 rfl rfl)
theorem dJ0_init_2_6 : decode cJ0_init_2 6 = .ok (.putfield 7, 3) := dk_181 0 7 (dk_at dksJ0_init_2_0 6 rfl rfl)
theorem dJ0_init_2_9 : decode cJ0_init_2 9 = .ok (.aload_n 0, 1) := dk_42 (dk_at dksJ0_init_2_0 9 rfl rfl)
theorem dJ0_init_2_10 : decode cJ0_init_2 10 = .ok (.getstatic 13, 3) := dk_178 0 13 (dk_at dksJ0_init_2_0 10 rfl rfl)
theorem dJ0_init_2_13 : decode cJ0_init_2 13 = .ok (.putfield 17, 3) := dk_181 0 17 (dk_at dksJ0_init_2_0 13 rfl rfl)
theorem dJ0_init_2_16 : decode cJ0_init_2 16 = .ok (.aload_n 0, 1) := dk_42 (dk_at dksJ0_init_2_0 16 rfl rfl)
theorem dJ0_init_2_17 : decode cJ0_init_2 17 = .ok (.getstatic 20, 3) := dk_178 0 20 (dk_at dksJ0_init_2_0 17 rfl rfl)
theorem dJ0_init_2_20 : decode cJ0_init_2 20 = .ok (.putfield 24, 3) := dk_181 0 24 (dk_at dksJ0_init_2_0 20 rfl rfl)
theorem dJ0_init_2_23 : decode cJ0_init_2 23 = .ok (.iload 4, 2) := dk_21 4 (dk_at dksJ0_init_2_1 0 rfl rfl)
theorem dJ0_init_2_25 : decode cJ0_init_2 25 = .ok (.ifCond .eq 11, 3) := dk_153 0 11 (dk_at dksJ0_init_2_1 2 rfl rfl)
theorem dJ0_init_2_28 : decode cJ0_init_2 28 = .ok (.aload_n 0, 1) := dk_42 (dk_at dksJ0_init_2_1 5 rfl rfl)
theorem dJ0_init_2_29 : decode cJ0_init_2 29 = .ok (.invokevirtual 27, 3) := dk_182 0 27 (dk_at dksJ0_init_2_1 6 rfl rfl)
theorem dJ0_init_2_32 : decode cJ0_init_2 32 = .ok (.pop, 1) := dk_87 (dk_at dksJ0_init_2_1 9 rfl rfl)
theorem dJ0_init_2_33 : decode cJ0_init_2 33 = .ok (.goto 8, 3) := dk_167 0 8 (dk_at dksJ0_init_2_1 10 rfl rfl)
theorem dJ0_init_2_36 : decode cJ0_init_2 36 = .ok (.aload_n 0, 1) := dk_42 (dk_at dksJ0_init_2_1 13 rfl rfl)
theorem dJ0_init_2_37 : decode cJ0_init_2 37 = .ok (.aconst_null, 1) := dk_1 (dk_at dksJ0_init_2_1 14 rfl rfl)
theorem dJ0_init_2_38 : decode cJ0_init_2 38 = .ok (.putfield 17, 3) := dk_181 0 17 (dk_at dksJ0_init_2_1 15 rfl rfl)
theorem dJ0_init_2_41 : decode cJ0_init_2 41 = .ok (.aload_n 0, 1) := dk_42 (dk_at dksJ0_init_2_1 18 rfl rfl)
theorem dJ0_init_2_42 : decode cJ0_init_2 42 = .ok (.aload_n 1, 1) := dk_43 (dk_at dksJ0_init_2_1 19 rfl rfl)
theorem dJ0_init_2_43 : decode cJ0_init_2 43 = .ok (.putfield 31, 3) := dk_181 0 31 (dk_at dksJ0_init_2_1 20 rfl rfl)
theorem dJ0_init_2_46 : decode cJ0_init_2 46 = .ok (.aload_n 0, 1) := dk_42 (dk_at dksJ0_init_2_1 23 rfl rfl)
theorem dJ0_init_2_47 : decode cJ0_init_2 47 = .ok (.aload_n 2, 1) := dk_44 (dk_at dksJ0_init_2_2 0 rfl rfl)
theorem dJ0_init_2_48 : decode cJ0_init_2 48 = .ok (.putfield 7, 3) := dk_181 0 7 (dk_at dksJ0_init_2_2 1 rfl rfl)
theorem dJ0_init_2_51 : decode cJ0_init_2 51 = .ok (.iload_n 3, 1) := dk_29 (dk_at dksJ0_init_2_2 4 rfl rfl)
theorem dJ0_init_2_52 : decode cJ0_init_2 52 = .ok (.ifCond .ne 8, 3) := dk_154 0 8 (dk_at dksJ0_init_2_2 5 rfl rfl)
theorem dJ0_init_2_55 : decode cJ0_init_2 55 = .ok (.aload_n 0, 1) := dk_42 (dk_at dksJ0_init_2_2 8 rfl rfl)
theorem dJ0_init_2_56 : decode cJ0_init_2 56 = .ok (.aconst_null, 1) := dk_1 (dk_at dksJ0_init_2_2 9 rfl rfl)
theorem dJ0_init_2_57 : decode cJ0_init_2 57 = .ok (.putfield 24, 3) := dk_181 0 24 (dk_at dksJ0_init_2_2 10 rfl rfl)
theorem dJ0_init_2_60 : decode cJ0_init_2 60 = .ok (.return_, 1) := dk_177 (dk_at dksJ0_init_2_2 13 rfl rfl)
abbrev cJ0_init_3 : ByteArray := prog_31_method_2_code
def yJ0_init_3 : MethodName := ⟨RJ0, "<init>", "(Ljava/lang/String;)V"⟩
def dkwJ0_init_3_1 : List UInt8 := [182, 0, 27, 87, 42, 43, 181, 0, 31, 177]
abbrev dktJ0_init_3_1 : List UInt8 := dkwJ0_init_3_1 ++ []
def dkwJ0_init_3_0 : List UInt8 := [42, 183, 0, 1, 42, 42, 181, 0, 7, 42, 178, 0, 13, 181, 0, 17, 42, 178, 0, 20, 181, 0, 24, 42]
abbrev dktJ0_init_3_0 : List UInt8 := dkwJ0_init_3_0 ++ dktJ0_init_3_1
theorem dksJ0_init_3_0 : cJ0_init_3.data.toList.drop 0 = dktJ0_init_3_0 := by decide +kernel
theorem dksJ0_init_3_1 : cJ0_init_3.data.toList.drop 24 = dktJ0_init_3_1 := dk_seg dksJ0_init_3_0 24 rfl rfl
theorem dJ0_init_3_0 : decode cJ0_init_3 0 = .ok (.aload_n 0, 1) := dk_42 (dk_at dksJ0_init_3_0 0 rfl rfl)
theorem dJ0_init_3_1 : decode cJ0_init_3 1 = .ok (.invokespecial 1, 3) := dk_183 0 1 (dk_at dksJ0_init_3_0 1 rfl rfl)
theorem dJ0_init_3_4 : decode cJ0_init_3 4 = .ok (.aload_n 0, 1) := dk_42 (dk_at dksJ0_init_3_0 4 rfl rfl)
theorem dJ0_init_3_5 : decode cJ0_init_3 5 = .ok (.aload_n 0, 1) := dk_42 (dk_at dksJ0_init_3_0 5 rfl rfl)
theorem dJ0_init_3_6 : decode cJ0_init_3 6 = .ok (.putfield 7, 3) := dk_181 0 7 (dk_at dksJ0_init_3_0 6 rfl rfl)
theorem dJ0_init_3_9 : decode cJ0_init_3 9 = .ok (.aload_n 0, 1) := dk_42 (dk_at dksJ0_init_3_0 9 rfl rfl)
theorem dJ0_init_3_10 : decode cJ0_init_3 10 = .ok (.getstatic 13, 3) := dk_178 0 13 (dk_at dksJ0_init_3_0 10 rfl rfl)
theorem dJ0_init_3_13 : decode cJ0_init_3 13 = .ok (.putfield 17, 3) := dk_181 0 17 (dk_at dksJ0_init_3_0 13 rfl rfl)
theorem dJ0_init_3_16 : decode cJ0_init_3 16 = .ok (.aload_n 0, 1) := dk_42 (dk_at dksJ0_init_3_0 16 rfl rfl)
theorem dJ0_init_3_17 : decode cJ0_init_3 17 = .ok (.getstatic 20, 3) := dk_178 0 20 (dk_at dksJ0_init_3_0 17 rfl rfl)
theorem dJ0_init_3_20 : decode cJ0_init_3 20 = .ok (.putfield 24, 3) := dk_181 0 24 (dk_at dksJ0_init_3_0 20 rfl rfl)
theorem dJ0_init_3_23 : decode cJ0_init_3 23 = .ok (.aload_n 0, 1) := dk_42 (dk_at dksJ0_init_3_0 23 rfl rfl)
theorem dJ0_init_3_24 : decode cJ0_init_3 24 = .ok (.invokevirtual 27, 3) := dk_182 0 27 (dk_at dksJ0_init_3_1 0 rfl rfl)
theorem dJ0_init_3_27 : decode cJ0_init_3 27 = .ok (.pop, 1) := dk_87 (dk_at dksJ0_init_3_1 3 rfl rfl)
theorem dJ0_init_3_28 : decode cJ0_init_3 28 = .ok (.aload_n 0, 1) := dk_42 (dk_at dksJ0_init_3_1 4 rfl rfl)
theorem dJ0_init_3_29 : decode cJ0_init_3 29 = .ok (.aload_n 1, 1) := dk_43 (dk_at dksJ0_init_3_1 5 rfl rfl)
theorem dJ0_init_3_30 : decode cJ0_init_3 30 = .ok (.putfield 31, 3) := dk_181 0 31 (dk_at dksJ0_init_3_1 6 rfl rfl)
theorem dJ0_init_3_33 : decode cJ0_init_3 33 = .ok (.return_, 1) := dk_177 (dk_at dksJ0_init_3_1 9 rfl rfl)
theorem q126 : (Jvm.Cond.initialized "java/lang/Throwable") ∈ lw_all := lw_g (lw_at lw_m1 6 rfl) rfl
theorem q328 : (Jvm.Cond.declares ({ cls := "java/lang/Throwable", name := "<init>", desc := "()V" } : Jvm.MethodName)) ∈ lw_tbl := lw_at lw_m1 208 rfl
theorem q329 : (Jvm.Cond.declares ({ cls := "java/lang/Throwable", name := "<init>", desc := "(Ljava/lang/String;)V" } : Jvm.MethodName)) ∈ lw_tbl := lw_at lw_m1 209 rfl
theorem q333 : (Jvm.Cond.lays "java/lang/Throwable" "java/lang/Throwable" "cause" "Ljava/lang/Throwable;") ∈ lw_all := lw_g (lw_at lw_m1 213 rfl) rfl
theorem q335 : (Jvm.Cond.lays "java/lang/Throwable" "java/lang/Throwable" "stackTrace" "[Ljava/lang/StackTraceElement;") ∈ lw_all := lw_g (lw_at lw_m1 215 rfl) rfl
theorem q337 : (Jvm.Cond.lays "java/lang/Throwable" "java/lang/Throwable" "suppressedExceptions" "Ljava/util/List;") ∈ lw_all := lw_g (lw_at lw_m1 217 rfl) rfl
theorem q339 : (Jvm.Cond.lays "java/lang/Throwable" "java/lang/Throwable" "detailMessage" "Ljava/lang/String;") ∈ lw_all := lw_g (lw_at lw_m1 219 rfl) rfl
theorem q341 : (Jvm.Cond.lays "java/lang/Throwable" "java/lang/Throwable" "backtrace" "Ljava/lang/Object;") ∈ lw_all := lw_g (lw_at lw_m1 221 rfl) rfl
theorem q342 : (Jvm.Cond.fieldLink "java/lang/Throwable" (198 : Nat) "java/lang/Throwable" "backtrace" "Ljava/lang/Object;") ∈ lw_all := lw_g (lw_at lw_m1 222 rfl) rfl
theorem q343 : (Jvm.Cond.superclass "java/lang/Throwable" "java/lang/Object") ∈ lw_all := lw_g (lw_at lw_m1 223 rfl) rfl
theorem q344 : (Jvm.Cond.instanceMethod ({ cls := "java/lang/Throwable", name := "<init>", desc := "()V" } : Jvm.MethodName)) ∈ lw_all := lw_g (lw_at lw_m1 224 rfl) rfl
theorem q345 : (Jvm.Cond.code ({ cls := "java/lang/Throwable", name := "<init>", desc := "()V" } : Jvm.MethodName) prog_31_method_1_code (1 : Nat) (Option.none : Option Jvm.ClassFile.FieldType)) ∈ lw_all := lw_g (lw_at lw_m1 225 rfl) rfl
theorem q346 : (Jvm.Cond.methodLink "java/lang/Throwable" (1 : Nat) ({ cls := "java/lang/Object", name := "<init>", desc := "()V" } : Jvm.MethodName)) ∈ lw_all := lw_g (lw_at lw_m1 226 rfl) rfl
theorem q347 : (Jvm.Cond.fieldLink "java/lang/Throwable" (13 : Nat) "java/lang/Throwable" "UNASSIGNED_STACK" "[Ljava/lang/StackTraceElement;") ∈ lw_all := lw_g (lw_at lw_m1 227 rfl) rfl
theorem q348 : (Jvm.Cond.laysStatic "java/lang/Throwable" "UNASSIGNED_STACK" "[Ljava/lang/StackTraceElement;") ∈ lw_tbl := lw_at lw_m1 228 rfl
theorem q349 : (Jvm.Cond.fieldLink "java/lang/Throwable" (20 : Nat) "java/lang/Throwable" "SUPPRESSED_SENTINEL" "Ljava/util/List;") ∈ lw_all := lw_g (lw_at lw_m1 229 rfl) rfl
theorem q350 : (Jvm.Cond.laysStatic "java/lang/Throwable" "SUPPRESSED_SENTINEL" "Ljava/util/List;") ∈ lw_tbl := lw_at lw_m1 230 rfl
theorem q351 : (Jvm.Cond.methodLink "java/lang/Throwable" (27 : Nat) ({ cls := "java/lang/Throwable", name := "fillInStackTrace", desc := "()Ljava/lang/Throwable;" } : Jvm.MethodName)) ∈ lw_all := lw_g (lw_at lw_m1 231 rfl) rfl
theorem q352 : (Jvm.Cond.instanceMethod ({ cls := "java/lang/Throwable", name := "fillInStackTrace", desc := "()Ljava/lang/Throwable;" } : Jvm.MethodName)) ∈ lw_all := lw_g (lw_at lw_m1 232 rfl) rfl
theorem q353 : (Jvm.Cond.sameMethod "java/lang/Throwable" "java/lang/Throwable" "fillInStackTrace" "()Ljava/lang/Throwable;") ∈ lw_all := lw_g (lw_at lw_m1 233 rfl) rfl
theorem q360 : (Jvm.Cond.codeSync ({ cls := "java/lang/Throwable", name := "fillInStackTrace", desc := "()Ljava/lang/Throwable;" } : Jvm.MethodName) prog_31_method_18_code (1 : Nat) (Option.some (Jvm.ClassFile.FieldType.object "java/lang/Throwable"))) ∈ lw_all := lw_g (lw_at lw_m2 0 rfl) rfl
theorem q361 : (Jvm.Cond.methodLink "java/lang/Throwable" (202 : Nat) ({ cls := "java/lang/Throwable", name := "fillInStackTrace", desc := "(I)Ljava/lang/Throwable;" } : Jvm.MethodName)) ∈ lw_all := lw_g (lw_at lw_m2 1 rfl) rfl
theorem q362 : (Jvm.Cond.privateMethod ({ cls := "java/lang/Throwable", name := "fillInStackTrace", desc := "(I)Ljava/lang/Throwable;" } : Jvm.MethodName)) ∈ lw_tbl := lw_at lw_m2 2 rfl
theorem q363 : (Jvm.Cond.instanceMethod ({ cls := "java/lang/Throwable", name := "fillInStackTrace", desc := "(I)Ljava/lang/Throwable;" } : Jvm.MethodName)) ∈ lw_all := lw_g (lw_at lw_m2 3 rfl) rfl
theorem q364 : (Jvm.Cond.instantiable "java/lang/Throwable" (6 : Nat)) ∈ lw_all := lw_g (lw_at lw_m2 4 rfl) rfl
theorem q365 : (Jvm.Cond.native ({ cls := "java/lang/Throwable", name := "fillInStackTrace", desc := "(I)Ljava/lang/Throwable;" } : Jvm.MethodName)) ∈ lw_all := lw_g (lw_at lw_m2 5 rfl) rfl
theorem q376 : (Jvm.Cond.instanceMethod ({ cls := "java/lang/Throwable", name := "<init>", desc := "(Ljava/lang/String;Ljava/lang/Throwable;ZZ)V" } : Jvm.MethodName)) ∈ lw_all := lw_g (lw_at lw_m2 16 rfl) rfl
theorem q377 : (Jvm.Cond.code ({ cls := "java/lang/Throwable", name := "<init>", desc := "(Ljava/lang/String;Ljava/lang/Throwable;ZZ)V" } : Jvm.MethodName) prog_31_method_5_code (5 : Nat) (Option.none : Option Jvm.ClassFile.FieldType)) ∈ lw_all := lw_g (lw_at lw_m2 17 rfl) rfl
theorem q380 : (Jvm.Cond.fieldLink "java/lang/Throwable" (198 : Nat) "java/lang/Throwable" "backtrace" "Ljava/lang/Object;") ∈ lw_all := lw_g (lw_at lw_m2 20 rfl) rfl
theorem q381 : (Jvm.Cond.fieldLink "java/lang/Throwable" (31 : Nat) "java/lang/Throwable" "detailMessage" "Ljava/lang/String;") ∈ lw_all := lw_g (lw_at lw_m2 21 rfl) rfl
theorem q382 : (Jvm.Cond.fieldLink "java/lang/Throwable" (7 : Nat) "java/lang/Throwable" "cause" "Ljava/lang/Throwable;") ∈ lw_all := lw_g (lw_at lw_m2 22 rfl) rfl
theorem q383 : (Jvm.Cond.fieldLink "java/lang/Throwable" (17 : Nat) "java/lang/Throwable" "stackTrace" "[Ljava/lang/StackTraceElement;") ∈ lw_all := lw_g (lw_at lw_m2 23 rfl) rfl
theorem q384 : (Jvm.Cond.fieldLink "java/lang/Throwable" (24 : Nat) "java/lang/Throwable" "suppressedExceptions" "Ljava/util/List;") ∈ lw_all := lw_g (lw_at lw_m2 24 rfl) rfl
theorem q387 : (Jvm.Cond.soleField "java/lang/Throwable" "backtrace") ∈ lw_all := lw_g (lw_at lw_m2 27 rfl) rfl
theorem q388 : (Jvm.Cond.soleField "java/lang/Throwable" "detailMessage") ∈ lw_all := lw_g (lw_at lw_m2 28 rfl) rfl
theorem q389 : (Jvm.Cond.soleField "java/lang/Throwable" "cause") ∈ lw_all := lw_g (lw_at lw_m2 29 rfl) rfl
theorem q390 : (Jvm.Cond.soleField "java/lang/Throwable" "stackTrace") ∈ lw_all := lw_g (lw_at lw_m2 30 rfl) rfl
theorem q392 : (Jvm.Cond.soleField "java/lang/Throwable" "depth") ∈ lw_all := lw_g (lw_at lw_m2 32 rfl) rfl
theorem q393 : (Jvm.Cond.soleField "java/lang/Throwable" "suppressedExceptions") ∈ lw_all := lw_g (lw_at lw_m2 33 rfl) rfl
theorem q1112 : (Jvm.Cond.instanceMethod ({ cls := "java/lang/Throwable", name := "<init>", desc := "(Ljava/lang/String;)V" } : Jvm.MethodName)) ∈ lw_all := lw_g (lw_at lw_m5 32 rfl) rfl
theorem q1113 : (Jvm.Cond.code ({ cls := "java/lang/Throwable", name := "<init>", desc := "(Ljava/lang/String;)V" } : Jvm.MethodName) prog_31_method_2_code (2 : Nat) (Option.none : Option Jvm.ClassFile.FieldType)) ∈ lw_all := lw_g (lw_at lw_m5 33 rfl) rfl
theorem q2102 : (Jvm.Cond.sameMethod "java/lang/Throwable" "java/lang/Throwable" "fillInStackTrace" "(I)Ljava/lang/Throwable;") ∈ lw_all := lw_g (lw_at lw_m9 62 rfl) rfl
theorem q2125 : (Jvm.Cond.castable "java/lang/Throwable" "java/lang/Object") ∈ lw_tbl := lw_at lw_m9 85 rfl
theorem in_J0 : ∀ w ∈ wsJ00, w ∈ lw_all := lw_in wsJ00 [333, 335, 337, 339, 341] (by decide +kernel) (by decide +kernel)

/-! java/lang/Exception -/
set_option maxRecDepth 100000
def RJ1 : String := "java/lang/Exception"
abbrev cJ1_init : ByteArray := prog_20_method_5_code
def yJ1_init : MethodName := ⟨RJ1, "<init>", "(Ljava/lang/String;Ljava/lang/Throwable;ZZ)V"⟩
def dkwJ1_init_0 : List UInt8 := [42, 43, 44, 29, 21, 4, 183, 0, 16, 177]
abbrev dktJ1_init_0 : List UInt8 := dkwJ1_init_0 ++ []
theorem dksJ1_init_0 : cJ1_init.data.toList.drop 0 = dktJ1_init_0 := by decide +kernel
theorem dJ1_init_0 : decode cJ1_init 0 = .ok (.aload_n 0, 1) := dk_42 (dk_at dksJ1_init_0 0 rfl rfl)
theorem dJ1_init_1 : decode cJ1_init 1 = .ok (.aload_n 1, 1) := dk_43 (dk_at dksJ1_init_0 1 rfl rfl)
theorem dJ1_init_2 : decode cJ1_init 2 = .ok (.aload_n 2, 1) := dk_44 (dk_at dksJ1_init_0 2 rfl rfl)
theorem dJ1_init_3 : decode cJ1_init 3 = .ok (.iload_n 3, 1) := dk_29 (dk_at dksJ1_init_0 3 rfl rfl)
theorem dJ1_init_4 : decode cJ1_init 4 = .ok (.iload 4, 2) := dk_21 4 (dk_at dksJ1_init_0 4 rfl rfl)
theorem dJ1_init_6 : decode cJ1_init 6 = .ok (.invokespecial 16, 3) := dk_183 0 16 (dk_at dksJ1_init_0 6 rfl rfl)
theorem dJ1_init_9 : decode cJ1_init 9 = .ok (.return_, 1) := dk_177 (dk_at dksJ1_init_0 9 rfl rfl)
abbrev cJ1_init_2 : ByteArray := prog_20_method_1_code
def yJ1_init_2 : MethodName := ⟨RJ1, "<init>", "()V"⟩
theorem dJ1_init_2_0 : decode cJ1_init_2 0 = .ok (.aload_n 0, 1) := by decide +kernel
theorem dJ1_init_2_1 : decode cJ1_init_2 1 = .ok (.invokespecial 1, 3) := by decide +kernel
theorem dJ1_init_2_4 : decode cJ1_init_2 4 = .ok (.return_, 1) := by decide +kernel
abbrev cJ1_init_3 : ByteArray := prog_20_method_2_code
def yJ1_init_3 : MethodName := ⟨RJ1, "<init>", "(Ljava/lang/String;)V"⟩
def dkwJ1_init_3_0 : List UInt8 := [42, 43, 183, 0, 7, 177]
abbrev dktJ1_init_3_0 : List UInt8 := dkwJ1_init_3_0 ++ []
theorem dksJ1_init_3_0 : cJ1_init_3.data.toList.drop 0 = dktJ1_init_3_0 := by decide +kernel
theorem dJ1_init_3_0 : decode cJ1_init_3 0 = .ok (.aload_n 0, 1) := dk_42 (dk_at dksJ1_init_3_0 0 rfl rfl)
theorem dJ1_init_3_1 : decode cJ1_init_3 1 = .ok (.aload_n 1, 1) := dk_43 (dk_at dksJ1_init_3_0 1 rfl rfl)
theorem dJ1_init_3_2 : decode cJ1_init_3 2 = .ok (.invokespecial 7, 3) := dk_183 0 7 (dk_at dksJ1_init_3_0 2 rfl rfl)
theorem dJ1_init_3_5 : decode cJ1_init_3 5 = .ok (.return_, 1) := dk_177 (dk_at dksJ1_init_3_0 5 rfl rfl)
theorem q127 : (Jvm.Cond.initialized "java/lang/Exception") ∈ lw_all := lw_g (lw_at lw_m1 7 rfl) rfl
theorem q326 : (Jvm.Cond.declares ({ cls := "java/lang/Exception", name := "<init>", desc := "()V" } : Jvm.MethodName)) ∈ lw_tbl := lw_at lw_m1 206 rfl
theorem q327 : (Jvm.Cond.declares ({ cls := "java/lang/Exception", name := "<init>", desc := "(Ljava/lang/String;)V" } : Jvm.MethodName)) ∈ lw_tbl := lw_at lw_m1 207 rfl
theorem q373 : (Jvm.Cond.instanceMethod ({ cls := "java/lang/Exception", name := "<init>", desc := "(Ljava/lang/String;Ljava/lang/Throwable;ZZ)V" } : Jvm.MethodName)) ∈ lw_all := lw_g (lw_at lw_m2 13 rfl) rfl
theorem q374 : (Jvm.Cond.code ({ cls := "java/lang/Exception", name := "<init>", desc := "(Ljava/lang/String;Ljava/lang/Throwable;ZZ)V" } : Jvm.MethodName) prog_20_method_5_code (5 : Nat) (Option.none : Option Jvm.ClassFile.FieldType)) ∈ lw_all := lw_g (lw_at lw_m2 14 rfl) rfl
theorem q375 : (Jvm.Cond.methodLink "java/lang/Exception" (16 : Nat) ({ cls := "java/lang/Throwable", name := "<init>", desc := "(Ljava/lang/String;Ljava/lang/Throwable;ZZ)V" } : Jvm.MethodName)) ∈ lw_all := lw_g (lw_at lw_m2 15 rfl) rfl
theorem q936 : (Jvm.Cond.instanceMethod ({ cls := "java/lang/Exception", name := "<init>", desc := "()V" } : Jvm.MethodName)) ∈ lw_all := lw_g (lw_at lw_m4 96 rfl) rfl
theorem q937 : (Jvm.Cond.code ({ cls := "java/lang/Exception", name := "<init>", desc := "()V" } : Jvm.MethodName) prog_20_method_1_code (1 : Nat) (Option.none : Option Jvm.ClassFile.FieldType)) ∈ lw_all := lw_g (lw_at lw_m4 97 rfl) rfl
theorem q938 : (Jvm.Cond.methodLink "java/lang/Exception" (1 : Nat) ({ cls := "java/lang/Throwable", name := "<init>", desc := "()V" } : Jvm.MethodName)) ∈ lw_all := lw_g (lw_at lw_m4 98 rfl) rfl
theorem q1109 : (Jvm.Cond.instanceMethod ({ cls := "java/lang/Exception", name := "<init>", desc := "(Ljava/lang/String;)V" } : Jvm.MethodName)) ∈ lw_all := lw_g (lw_at lw_m5 29 rfl) rfl
theorem q1110 : (Jvm.Cond.code ({ cls := "java/lang/Exception", name := "<init>", desc := "(Ljava/lang/String;)V" } : Jvm.MethodName) prog_20_method_2_code (2 : Nat) (Option.none : Option Jvm.ClassFile.FieldType)) ∈ lw_all := lw_g (lw_at lw_m5 30 rfl) rfl
theorem q1111 : (Jvm.Cond.methodLink "java/lang/Exception" (7 : Nat) ({ cls := "java/lang/Throwable", name := "<init>", desc := "(Ljava/lang/String;)V" } : Jvm.MethodName)) ∈ lw_all := lw_g (lw_at lw_m5 31 rfl) rfl

/-! java/lang/RuntimeException -/
set_option maxRecDepth 100000
def RJ2 : String := "java/lang/RuntimeException"
abbrev cJ2_init : ByteArray := prog_26_method_5_code
def yJ2_init : MethodName := ⟨RJ2, "<init>", "(Ljava/lang/String;Ljava/lang/Throwable;ZZ)V"⟩
def dkwJ2_init_0 : List UInt8 := [42, 43, 44, 29, 21, 4, 183, 0, 16, 177]
abbrev dktJ2_init_0 : List UInt8 := dkwJ2_init_0 ++ []
theorem dksJ2_init_0 : cJ2_init.data.toList.drop 0 = dktJ2_init_0 := by decide +kernel
theorem dJ2_init_0 : decode cJ2_init 0 = .ok (.aload_n 0, 1) := dk_42 (dk_at dksJ2_init_0 0 rfl rfl)
theorem dJ2_init_1 : decode cJ2_init 1 = .ok (.aload_n 1, 1) := dk_43 (dk_at dksJ2_init_0 1 rfl rfl)
theorem dJ2_init_2 : decode cJ2_init 2 = .ok (.aload_n 2, 1) := dk_44 (dk_at dksJ2_init_0 2 rfl rfl)
theorem dJ2_init_3 : decode cJ2_init 3 = .ok (.iload_n 3, 1) := dk_29 (dk_at dksJ2_init_0 3 rfl rfl)
theorem dJ2_init_4 : decode cJ2_init 4 = .ok (.iload 4, 2) := dk_21 4 (dk_at dksJ2_init_0 4 rfl rfl)
theorem dJ2_init_6 : decode cJ2_init 6 = .ok (.invokespecial 16, 3) := dk_183 0 16 (dk_at dksJ2_init_0 6 rfl rfl)
theorem dJ2_init_9 : decode cJ2_init 9 = .ok (.return_, 1) := dk_177 (dk_at dksJ2_init_0 9 rfl rfl)
abbrev cJ2_init_2 : ByteArray := prog_26_method_1_code
def yJ2_init_2 : MethodName := ⟨RJ2, "<init>", "()V"⟩
theorem dJ2_init_2_0 : decode cJ2_init_2 0 = .ok (.aload_n 0, 1) := by decide +kernel
theorem dJ2_init_2_1 : decode cJ2_init_2 1 = .ok (.invokespecial 1, 3) := by decide +kernel
theorem dJ2_init_2_4 : decode cJ2_init_2 4 = .ok (.return_, 1) := by decide +kernel
abbrev cJ2_init_3 : ByteArray := prog_26_method_2_code
def yJ2_init_3 : MethodName := ⟨RJ2, "<init>", "(Ljava/lang/String;)V"⟩
def dkwJ2_init_3_0 : List UInt8 := [42, 43, 183, 0, 7, 177]
abbrev dktJ2_init_3_0 : List UInt8 := dkwJ2_init_3_0 ++ []
theorem dksJ2_init_3_0 : cJ2_init_3.data.toList.drop 0 = dktJ2_init_3_0 := by decide +kernel
theorem dJ2_init_3_0 : decode cJ2_init_3 0 = .ok (.aload_n 0, 1) := dk_42 (dk_at dksJ2_init_3_0 0 rfl rfl)
theorem dJ2_init_3_1 : decode cJ2_init_3 1 = .ok (.aload_n 1, 1) := dk_43 (dk_at dksJ2_init_3_0 1 rfl rfl)
theorem dJ2_init_3_2 : decode cJ2_init_3 2 = .ok (.invokespecial 7, 3) := dk_183 0 7 (dk_at dksJ2_init_3_0 2 rfl rfl)
theorem dJ2_init_3_5 : decode cJ2_init_3 5 = .ok (.return_, 1) := dk_177 (dk_at dksJ2_init_3_0 5 rfl rfl)
theorem q128 : (Jvm.Cond.initialized "java/lang/RuntimeException") ∈ lw_all := lw_g (lw_at lw_m1 8 rfl) rfl
theorem q324 : (Jvm.Cond.declares ({ cls := "java/lang/RuntimeException", name := "<init>", desc := "()V" } : Jvm.MethodName)) ∈ lw_tbl := lw_at lw_m1 204 rfl
theorem q325 : (Jvm.Cond.declares ({ cls := "java/lang/RuntimeException", name := "<init>", desc := "(Ljava/lang/String;)V" } : Jvm.MethodName)) ∈ lw_tbl := lw_at lw_m1 205 rfl
theorem q370 : (Jvm.Cond.instanceMethod ({ cls := "java/lang/RuntimeException", name := "<init>", desc := "(Ljava/lang/String;Ljava/lang/Throwable;ZZ)V" } : Jvm.MethodName)) ∈ lw_all := lw_g (lw_at lw_m2 10 rfl) rfl
theorem q371 : (Jvm.Cond.code ({ cls := "java/lang/RuntimeException", name := "<init>", desc := "(Ljava/lang/String;Ljava/lang/Throwable;ZZ)V" } : Jvm.MethodName) prog_26_method_5_code (5 : Nat) (Option.none : Option Jvm.ClassFile.FieldType)) ∈ lw_all := lw_g (lw_at lw_m2 11 rfl) rfl
theorem q372 : (Jvm.Cond.methodLink "java/lang/RuntimeException" (16 : Nat) ({ cls := "java/lang/Exception", name := "<init>", desc := "(Ljava/lang/String;Ljava/lang/Throwable;ZZ)V" } : Jvm.MethodName)) ∈ lw_all := lw_g (lw_at lw_m2 12 rfl) rfl
theorem q933 : (Jvm.Cond.instanceMethod ({ cls := "java/lang/RuntimeException", name := "<init>", desc := "()V" } : Jvm.MethodName)) ∈ lw_all := lw_g (lw_at lw_m4 93 rfl) rfl
theorem q934 : (Jvm.Cond.code ({ cls := "java/lang/RuntimeException", name := "<init>", desc := "()V" } : Jvm.MethodName) prog_26_method_1_code (1 : Nat) (Option.none : Option Jvm.ClassFile.FieldType)) ∈ lw_all := lw_g (lw_at lw_m4 94 rfl) rfl
theorem q935 : (Jvm.Cond.methodLink "java/lang/RuntimeException" (1 : Nat) ({ cls := "java/lang/Exception", name := "<init>", desc := "()V" } : Jvm.MethodName)) ∈ lw_all := lw_g (lw_at lw_m4 95 rfl) rfl
theorem q1106 : (Jvm.Cond.instanceMethod ({ cls := "java/lang/RuntimeException", name := "<init>", desc := "(Ljava/lang/String;)V" } : Jvm.MethodName)) ∈ lw_all := lw_g (lw_at lw_m5 26 rfl) rfl
theorem q1107 : (Jvm.Cond.code ({ cls := "java/lang/RuntimeException", name := "<init>", desc := "(Ljava/lang/String;)V" } : Jvm.MethodName) prog_26_method_2_code (2 : Nat) (Option.none : Option Jvm.ClassFile.FieldType)) ∈ lw_all := lw_g (lw_at lw_m5 27 rfl) rfl
theorem q1108 : (Jvm.Cond.methodLink "java/lang/RuntimeException" (7 : Nat) ({ cls := "java/lang/Exception", name := "<init>", desc := "(Ljava/lang/String;)V" } : Jvm.MethodName)) ∈ lw_all := lw_g (lw_at lw_m5 28 rfl) rfl

/-! java/lang/String -/
set_option maxRecDepth 100000
def RJ3 : String := "java/lang/String"
def TJ3 : u_T := fun k => match k with
  | 0 => ("java/lang/String", "value", "[B", true)
  | _ => ("java/lang/String", "coder", "B", true)
def tyJ3 : Nat → FieldType := fun k => match k with
  | 0 => .array .byte
  | _ => .byte
abbrev wsJ30 : List Cond := u_ws RJ3 TJ3 2
theorem nmJ3 : ∀ a, a < 2 → ∀ b, b < 2 → a ≠ b → (TJ3 a).2.1 ≠ (TJ3 b).2.1 := by decide +kernel
theorem tyJ3_ok : ∀ k, k < 2 → parseFieldDescriptor (TJ3 k).2.2.1 = some (tyJ3 k) := by decide +kernel
abbrev cJ3_length : ByteArray := prog_27_method_54_code
def yJ3_length : MethodName := ⟨RJ3, "length", "()I"⟩
def dkwJ3_length_0 : List UInt8 := [42, 180, 0, 9, 190, 42, 182, 1, 79, 122, 172]
abbrev dktJ3_length_0 : List UInt8 := dkwJ3_length_0 ++ []
theorem dksJ3_length_0 : cJ3_length.data.toList.drop 0 = dktJ3_length_0 := by decide +kernel
theorem dJ3_length_0 : decode cJ3_length 0 = .ok (.aload_n 0, 1) := dk_42 (dk_at dksJ3_length_0 0 rfl rfl)
theorem dJ3_length_1 : decode cJ3_length 1 = .ok (.getfield 9, 3) := dk_180 0 9 (dk_at dksJ3_length_0 1 rfl rfl)
theorem dJ3_length_4 : decode cJ3_length 4 = .ok (.arraylength, 1) := dk_190 (dk_at dksJ3_length_0 4 rfl rfl)
theorem dJ3_length_5 : decode cJ3_length 5 = .ok (.aload_n 0, 1) := dk_42 (dk_at dksJ3_length_0 5 rfl rfl)
theorem dJ3_length_6 : decode cJ3_length 6 = .ok (.invokevirtual 335, 3) := dk_182 1 79 (dk_at dksJ3_length_0 6 rfl rfl)
theorem dJ3_length_9 : decode cJ3_length 9 = .ok (.ishr, 1) := dk_122 (dk_at dksJ3_length_0 9 rfl rfl)
theorem dJ3_length_10 : decode cJ3_length 10 = .ok (.ireturn, 1) := dk_172 (dk_at dksJ3_length_0 10 rfl rfl)
abbrev cJ3_coder : ByteArray := prog_27_method_152_code
def yJ3_coder : MethodName := ⟨RJ3, "coder", "()B"⟩
def dkwJ3_coder_0 : List UInt8 := [178, 0, 38, 153, 0, 10, 42, 180, 0, 15, 167, 0, 4, 4, 172]
abbrev dktJ3_coder_0 : List UInt8 := dkwJ3_coder_0 ++ []
theorem dksJ3_coder_0 : cJ3_coder.data.toList.drop 0 = dktJ3_coder_0 := by decide +kernel
theorem dJ3_coder_0 : decode cJ3_coder 0 = .ok (.getstatic 38, 3) := dk_178 0 38 (dk_at dksJ3_coder_0 0 rfl rfl)
theorem dJ3_coder_3 : decode cJ3_coder 3 = .ok (.ifCond .eq 10, 3) := dk_153 0 10 (dk_at dksJ3_coder_0 3 rfl rfl)
theorem dJ3_coder_6 : decode cJ3_coder 6 = .ok (.aload_n 0, 1) := dk_42 (dk_at dksJ3_coder_0 6 rfl rfl)
theorem dJ3_coder_7 : decode cJ3_coder 7 = .ok (.getfield 15, 3) := dk_180 0 15 (dk_at dksJ3_coder_0 7 rfl rfl)
theorem dJ3_coder_10 : decode cJ3_coder 10 = .ok (.goto 4, 3) := dk_167 0 4 (dk_at dksJ3_coder_0 10 rfl rfl)
theorem dJ3_coder_13 : decode cJ3_coder 13 = .ok (.iconst 1, 1) := dk_4 (dk_at dksJ3_coder_0 13 rfl rfl)
theorem dJ3_coder_14 : decode cJ3_coder 14 = .ok (.ireturn, 1) := dk_172 (dk_at dksJ3_coder_0 14 rfl rfl)
abbrev cJ3_charAt : ByteArray := prog_27_method_56_code
def yJ3_charAt : MethodName := ⟨RJ3, "charAt", "(I)C"⟩
def dkwJ3_charAt_1 : List UInt8 := [172]
abbrev dktJ3_charAt_1 : List UInt8 := dkwJ3_charAt_1 ++ []
def dkwJ3_charAt_0 : List UInt8 := [42, 182, 1, 236, 153, 0, 12, 42, 180, 0, 9, 27, 184, 1, 239, 172, 42, 180, 0, 9, 27, 184, 1, 242]
abbrev dktJ3_charAt_0 : List UInt8 := dkwJ3_charAt_0 ++ dktJ3_charAt_1
theorem dksJ3_charAt_0 : cJ3_charAt.data.toList.drop 0 = dktJ3_charAt_0 := by decide +kernel
theorem dksJ3_charAt_1 : cJ3_charAt.data.toList.drop 24 = dktJ3_charAt_1 := dk_seg dksJ3_charAt_0 24 rfl rfl
theorem dJ3_charAt_0 : decode cJ3_charAt 0 = .ok (.aload_n 0, 1) := dk_42 (dk_at dksJ3_charAt_0 0 rfl rfl)
theorem dJ3_charAt_1 : decode cJ3_charAt 1 = .ok (.invokevirtual 492, 3) := dk_182 1 236 (dk_at dksJ3_charAt_0 1 rfl rfl)
theorem dJ3_charAt_4 : decode cJ3_charAt 4 = .ok (.ifCond .eq 12, 3) := dk_153 0 12 (dk_at dksJ3_charAt_0 4 rfl rfl)
theorem dJ3_charAt_7 : decode cJ3_charAt 7 = .ok (.aload_n 0, 1) := dk_42 (dk_at dksJ3_charAt_0 7 rfl rfl)
theorem dJ3_charAt_8 : decode cJ3_charAt 8 = .ok (.getfield 9, 3) := dk_180 0 9 (dk_at dksJ3_charAt_0 8 rfl rfl)
theorem dJ3_charAt_11 : decode cJ3_charAt 11 = .ok (.iload_n 1, 1) := dk_27 (dk_at dksJ3_charAt_0 11 rfl rfl)
theorem dJ3_charAt_12 : decode cJ3_charAt 12 = .ok (.invokestatic 495, 3) := dk_184 1 239 (dk_at dksJ3_charAt_0 12 rfl rfl)
theorem dJ3_charAt_15 : decode cJ3_charAt 15 = .ok (.ireturn, 1) := dk_172 (dk_at dksJ3_charAt_0 15 rfl rfl)
theorem dJ3_charAt_16 : decode cJ3_charAt 16 = .ok (.aload_n 0, 1) := dk_42 (dk_at dksJ3_charAt_0 16 rfl rfl)
theorem dJ3_charAt_17 : decode cJ3_charAt 17 = .ok (.getfield 9, 3) := dk_180 0 9 (dk_at dksJ3_charAt_0 17 rfl rfl)
theorem dJ3_charAt_20 : decode cJ3_charAt 20 = .ok (.iload_n 1, 1) := dk_27 (dk_at dksJ3_charAt_0 20 rfl rfl)
theorem dJ3_charAt_21 : decode cJ3_charAt 21 = .ok (.invokestatic 498, 3) := dk_184 1 242 (dk_at dksJ3_charAt_0 21 rfl rfl)
theorem dJ3_charAt_24 : decode cJ3_charAt 24 = .ok (.ireturn, 1) := dk_172 (dk_at dksJ3_charAt_1 0 rfl rfl)
abbrev cJ3_isLatin1 : ByteArray := prog_27_method_154_code
def yJ3_isLatin1 : MethodName := ⟨RJ3, "isLatin1", "()Z"⟩
def dkwJ3_isLatin1_0 : List UInt8 := [178, 0, 38, 153, 0, 14, 42, 180, 0, 15, 154, 0, 7, 4, 167, 0, 4, 3, 172]
abbrev dktJ3_isLatin1_0 : List UInt8 := dkwJ3_isLatin1_0 ++ []
theorem dksJ3_isLatin1_0 : cJ3_isLatin1.data.toList.drop 0 = dktJ3_isLatin1_0 := by decide +kernel
theorem dJ3_isLatin1_0 : decode cJ3_isLatin1 0 = .ok (.getstatic 38, 3) := dk_178 0 38 (dk_at dksJ3_isLatin1_0 0 rfl rfl)
theorem dJ3_isLatin1_3 : decode cJ3_isLatin1 3 = .ok (.ifCond .eq 14, 3) := dk_153 0 14 (dk_at dksJ3_isLatin1_0 3 rfl rfl)
theorem dJ3_isLatin1_6 : decode cJ3_isLatin1 6 = .ok (.aload_n 0, 1) := dk_42 (dk_at dksJ3_isLatin1_0 6 rfl rfl)
theorem dJ3_isLatin1_7 : decode cJ3_isLatin1 7 = .ok (.getfield 15, 3) := dk_180 0 15 (dk_at dksJ3_isLatin1_0 7 rfl rfl)
theorem dJ3_isLatin1_10 : decode cJ3_isLatin1 10 = .ok (.ifCond .ne 7, 3) := dk_154 0 7 (dk_at dksJ3_isLatin1_0 10 rfl rfl)
theorem dJ3_isLatin1_13 : decode cJ3_isLatin1 13 = .ok (.iconst 1, 1) := dk_4 (dk_at dksJ3_isLatin1_0 13 rfl rfl)
theorem dJ3_isLatin1_14 : decode cJ3_isLatin1 14 = .ok (.goto 4, 3) := dk_167 0 4 (dk_at dksJ3_isLatin1_0 14 rfl rfl)
theorem dJ3_isLatin1_17 : decode cJ3_isLatin1 17 = .ok (.iconst 0, 1) := dk_3 (dk_at dksJ3_isLatin1_0 17 rfl rfl)
theorem dJ3_isLatin1_18 : decode cJ3_isLatin1 18 = .ok (.ireturn, 1) := dk_172 (dk_at dksJ3_isLatin1_0 18 rfl rfl)
abbrev cJ3_checkIndex : ByteArray := prog_27_method_155_code
def yJ3_checkIndex : MethodName := ⟨RJ3, "checkIndex", "(II)V"⟩
def dkwJ3_checkIndex_0 : List UInt8 := [26, 27, 178, 4, 29, 184, 4, 35, 87, 177]
abbrev dktJ3_checkIndex_0 : List UInt8 := dkwJ3_checkIndex_0 ++ []
theorem dksJ3_checkIndex_0 : cJ3_checkIndex.data.toList.drop 0 = dktJ3_checkIndex_0 := by decide +kernel
theorem dJ3_checkIndex_0 : decode cJ3_checkIndex 0 = .ok (.iload_n 0, 1) := dk_26 (dk_at dksJ3_checkIndex_0 0 rfl rfl)
theorem dJ3_checkIndex_1 : decode cJ3_checkIndex 1 = .ok (.iload_n 1, 1) := dk_27 (dk_at dksJ3_checkIndex_0 1 rfl rfl)
theorem dJ3_checkIndex_2 : decode cJ3_checkIndex 2 = .ok (.getstatic 1053, 3) := dk_178 4 29 (dk_at dksJ3_checkIndex_0 2 rfl rfl)
theorem dJ3_checkIndex_5 : decode cJ3_checkIndex 5 = .ok (.invokestatic 1059, 3) := dk_184 4 35 (dk_at dksJ3_checkIndex_0 5 rfl rfl)
theorem dJ3_checkIndex_8 : decode cJ3_checkIndex 8 = .ok (.pop, 1) := dk_87 (dk_at dksJ3_checkIndex_0 8 rfl rfl)
theorem dJ3_checkIndex_9 : decode cJ3_checkIndex 9 = .ok (.return_, 1) := dk_177 (dk_at dksJ3_checkIndex_0 9 rfl rfl)
theorem q133 : (Jvm.Cond.initialized "java/lang/String") ∈ lw_all := lw_g (lw_at lw_m1 13 rfl) rfl
theorem q826 : (Jvm.Cond.instanceMethod ({ cls := "java/lang/String", name := "length", desc := "()I" } : Jvm.MethodName)) ∈ lw_all := lw_g (lw_at lw_m3 226 rfl) rfl
theorem q827 : (Jvm.Cond.selects "java/lang/String" ({ cls := "java/lang/String", name := "length", desc := "()I" } : Jvm.MethodName) ({ cls := "java/lang/String", name := "length", desc := "()I" } : Jvm.MethodName)) ∈ lw_all := lw_g (lw_at lw_m3 227 rfl) rfl
theorem q828 : (Jvm.Cond.code ({ cls := "java/lang/String", name := "length", desc := "()I" } : Jvm.MethodName) prog_27_method_54_code (1 : Nat) (Option.some Jvm.ClassFile.FieldType.int)) ∈ lw_all := lw_g (lw_at lw_m3 228 rfl) rfl
theorem q829 : (Jvm.Cond.methodLink "java/lang/String" (335 : Nat) ({ cls := "java/lang/String", name := "coder", desc := "()B" } : Jvm.MethodName)) ∈ lw_all := lw_g (lw_at lw_m3 229 rfl) rfl
theorem q830 : (Jvm.Cond.instanceMethod ({ cls := "java/lang/String", name := "coder", desc := "()B" } : Jvm.MethodName)) ∈ lw_all := lw_g (lw_at lw_m3 230 rfl) rfl
theorem q831 : (Jvm.Cond.selects "java/lang/String" ({ cls := "java/lang/String", name := "coder", desc := "()B" } : Jvm.MethodName) ({ cls := "java/lang/String", name := "coder", desc := "()B" } : Jvm.MethodName)) ∈ lw_all := lw_g (lw_at lw_m3 231 rfl) rfl
theorem q832 : (Jvm.Cond.code ({ cls := "java/lang/String", name := "coder", desc := "()B" } : Jvm.MethodName) prog_27_method_152_code (1 : Nat) (Option.some Jvm.ClassFile.FieldType.byte)) ∈ lw_all := lw_g (lw_at lw_m3 232 rfl) rfl
theorem q833 : (Jvm.Cond.fieldLink "java/lang/String" (38 : Nat) "java/lang/String" "COMPACT_STRINGS" "Z") ∈ lw_all := lw_g (lw_at lw_m3 233 rfl) rfl
theorem q834 : (Jvm.Cond.laysStatic "java/lang/String" "COMPACT_STRINGS" "Z") ∈ lw_tbl := lw_at lw_m3 234 rfl
theorem q836 : (Jvm.Cond.instanceMethod ({ cls := "java/lang/String", name := "charAt", desc := "(I)C" } : Jvm.MethodName)) ∈ lw_all := lw_g (lw_at lw_m3 236 rfl) rfl
theorem q837 : (Jvm.Cond.selects "java/lang/String" ({ cls := "java/lang/String", name := "charAt", desc := "(I)C" } : Jvm.MethodName) ({ cls := "java/lang/String", name := "charAt", desc := "(I)C" } : Jvm.MethodName)) ∈ lw_all := lw_g (lw_at lw_m3 237 rfl) rfl
theorem q838 : (Jvm.Cond.code ({ cls := "java/lang/String", name := "charAt", desc := "(I)C" } : Jvm.MethodName) prog_27_method_56_code (2 : Nat) (Option.some Jvm.ClassFile.FieldType.char)) ∈ lw_all := lw_g (lw_at lw_m3 238 rfl) rfl
theorem q839 : (Jvm.Cond.methodLink "java/lang/String" (492 : Nat) ({ cls := "java/lang/String", name := "isLatin1", desc := "()Z" } : Jvm.MethodName)) ∈ lw_all := lw_g (lw_at lw_m3 239 rfl) rfl
theorem q840 : (Jvm.Cond.instanceMethod ({ cls := "java/lang/String", name := "isLatin1", desc := "()Z" } : Jvm.MethodName)) ∈ lw_all := lw_g (lw_at lw_m4 0 rfl) rfl
theorem q841 : (Jvm.Cond.selects "java/lang/String" ({ cls := "java/lang/String", name := "isLatin1", desc := "()Z" } : Jvm.MethodName) ({ cls := "java/lang/String", name := "isLatin1", desc := "()Z" } : Jvm.MethodName)) ∈ lw_all := lw_g (lw_at lw_m4 1 rfl) rfl
theorem q842 : (Jvm.Cond.code ({ cls := "java/lang/String", name := "isLatin1", desc := "()Z" } : Jvm.MethodName) prog_27_method_154_code (1 : Nat) (Option.some Jvm.ClassFile.FieldType.boolean)) ∈ lw_all := lw_g (lw_at lw_m4 2 rfl) rfl
theorem q843 : (Jvm.Cond.methodLink "java/lang/String" (495 : Nat) ({ cls := "java/lang/StringLatin1", name := "charAt", desc := "([BI)C" } : Jvm.MethodName)) ∈ lw_all := lw_g (lw_at lw_m4 3 rfl) rfl
theorem q847 : (Jvm.Cond.static ({ cls := "java/lang/String", name := "checkIndex", desc := "(II)V" } : Jvm.MethodName)) ∈ lw_all := lw_g (lw_at lw_m4 7 rfl) rfl
theorem q848 : (Jvm.Cond.code ({ cls := "java/lang/String", name := "checkIndex", desc := "(II)V" } : Jvm.MethodName) prog_27_method_155_code (2 : Nat) (Option.none : Option Jvm.ClassFile.FieldType)) ∈ lw_all := lw_g (lw_at lw_m4 8 rfl) rfl
theorem q849 : (Jvm.Cond.fieldLink "java/lang/String" (1053 : Nat) "jdk/internal/util/Preconditions" "SIOOBE_FORMATTER" "Ljava/util/function/BiFunction;") ∈ lw_all := lw_g (lw_at lw_m4 9 rfl) rfl
theorem q851 : (Jvm.Cond.methodLink "java/lang/String" (1059 : Nat) ({ cls := "jdk/internal/util/Preconditions", name := "checkIndex", desc := "(IILjava/util/function/BiFunction;)I" } : Jvm.MethodName)) ∈ lw_all := lw_g (lw_at lw_m4 11 rfl) rfl
theorem q854 : (Jvm.Cond.methodLink "java/lang/String" (498 : Nat) ({ cls := "java/lang/StringUTF16", name := "charAt", desc := "([BI)C" } : Jvm.MethodName)) ∈ lw_all := lw_g (lw_at lw_m4 14 rfl) rfl
theorem q1125 : (Jvm.Cond.instantiable "java/lang/String" (4 : Nat)) ∈ lw_all := lw_g (lw_at lw_m5 45 rfl) rfl
theorem q1126 : (Jvm.Cond.laysFinal "java/lang/String" "java/lang/String" "value" "[B") ∈ lw_all := lw_g (lw_at lw_m5 46 rfl) rfl
theorem q1127 : (Jvm.Cond.soleField "java/lang/String" "value") ∈ lw_all := lw_g (lw_at lw_m5 47 rfl) rfl
theorem q1128 : (Jvm.Cond.laysFinal "java/lang/String" "java/lang/String" "coder" "B") ∈ lw_all := lw_g (lw_at lw_m5 48 rfl) rfl
theorem q1129 : (Jvm.Cond.soleField "java/lang/String" "coder") ∈ lw_all := lw_g (lw_at lw_m5 49 rfl) rfl
theorem q2126 : (Jvm.Cond.castable "java/lang/String" "java/lang/Object") ∈ lw_tbl := lw_at lw_m9 86 rfl
theorem q2129 : (Jvm.Cond.fieldLink "java/lang/String" (9 : Nat) "java/lang/String" "value" "[B") ∈ lw_all := lw_g (lw_at lw_m9 89 rfl) rfl
theorem q2130 : (Jvm.Cond.fieldLink "java/lang/String" (15 : Nat) "java/lang/String" "coder" "B") ∈ lw_all := lw_g (lw_at lw_m9 90 rfl) rfl
theorem in_J3 : ∀ w ∈ wsJ30, w ∈ lw_all := lw_in wsJ30 [1126, 1128] (by decide +kernel) (by decide +kernel)

/-! java/lang/StringLatin1 -/
set_option maxRecDepth 100000
def RJ4 : String := "java/lang/StringLatin1"
abbrev cJ4_charAt : ByteArray := prog_28_method_2_code
def yJ4_charAt : MethodName := ⟨RJ4, "charAt", "([BI)C"⟩
def dkwJ4_charAt_0 : List UInt8 := [27, 42, 190, 184, 0, 9, 42, 27, 51, 17, 0, 255, 126, 146, 172]
abbrev dktJ4_charAt_0 : List UInt8 := dkwJ4_charAt_0 ++ []
theorem dksJ4_charAt_0 : cJ4_charAt.data.toList.drop 0 = dktJ4_charAt_0 := by decide +kernel
theorem dJ4_charAt_0 : decode cJ4_charAt 0 = .ok (.iload_n 1, 1) := dk_27 (dk_at dksJ4_charAt_0 0 rfl rfl)
theorem dJ4_charAt_1 : decode cJ4_charAt 1 = .ok (.aload_n 0, 1) := dk_42 (dk_at dksJ4_charAt_0 1 rfl rfl)
theorem dJ4_charAt_2 : decode cJ4_charAt 2 = .ok (.arraylength, 1) := dk_190 (dk_at dksJ4_charAt_0 2 rfl rfl)
theorem dJ4_charAt_3 : decode cJ4_charAt 3 = .ok (.invokestatic 9, 3) := dk_184 0 9 (dk_at dksJ4_charAt_0 3 rfl rfl)
theorem dJ4_charAt_6 : decode cJ4_charAt 6 = .ok (.aload_n 0, 1) := dk_42 (dk_at dksJ4_charAt_0 6 rfl rfl)
theorem dJ4_charAt_7 : decode cJ4_charAt 7 = .ok (.iload_n 1, 1) := dk_27 (dk_at dksJ4_charAt_0 7 rfl rfl)
theorem dJ4_charAt_8 : decode cJ4_charAt 8 = .ok (.baload, 1) := dk_51 (dk_at dksJ4_charAt_0 8 rfl rfl)
theorem dJ4_charAt_9 : decode cJ4_charAt 9 = .ok (.sipush 255, 3) := dk_17 0 255 (dk_at dksJ4_charAt_0 9 rfl rfl)
theorem dJ4_charAt_12 : decode cJ4_charAt 12 = .ok (.iand, 1) := dk_126 (dk_at dksJ4_charAt_0 12 rfl rfl)
theorem dJ4_charAt_13 : decode cJ4_charAt 13 = .ok (.i2c, 1) := dk_146 (dk_at dksJ4_charAt_0 13 rfl rfl)
theorem dJ4_charAt_14 : decode cJ4_charAt 14 = .ok (.ireturn, 1) := dk_172 (dk_at dksJ4_charAt_0 14 rfl rfl)
theorem q134 : (Jvm.Cond.initialized "java/lang/StringLatin1") ∈ lw_all := lw_g (lw_at lw_m1 14 rfl) rfl
theorem q844 : (Jvm.Cond.static ({ cls := "java/lang/StringLatin1", name := "charAt", desc := "([BI)C" } : Jvm.MethodName)) ∈ lw_all := lw_g (lw_at lw_m4 4 rfl) rfl
theorem q845 : (Jvm.Cond.code ({ cls := "java/lang/StringLatin1", name := "charAt", desc := "([BI)C" } : Jvm.MethodName) prog_28_method_2_code (2 : Nat) (Option.some Jvm.ClassFile.FieldType.char)) ∈ lw_all := lw_g (lw_at lw_m4 5 rfl) rfl
theorem q846 : (Jvm.Cond.methodLink "java/lang/StringLatin1" (9 : Nat) ({ cls := "java/lang/String", name := "checkIndex", desc := "(II)V" } : Jvm.MethodName)) ∈ lw_all := lw_g (lw_at lw_m4 6 rfl) rfl

/-! jdk/internal/util/Preconditions -/
set_option maxRecDepth 100000
def RJ5 : String := "jdk/internal/util/Preconditions"
abbrev cJ5_checkIndex : ByteArray := prog_34_method_11_code
def yJ5_checkIndex : MethodName := ⟨RJ5, "checkIndex", "(IILjava/util/function/BiFunction;)I"⟩
def dkwJ5_checkIndex_0 : List UInt8 := [26, 155, 0, 8, 26, 27, 161, 0, 10, 44, 26, 27, 184, 0, 95, 191, 26, 172]
abbrev dktJ5_checkIndex_0 : List UInt8 := dkwJ5_checkIndex_0 ++ []
theorem dksJ5_checkIndex_0 : cJ5_checkIndex.data.toList.drop 0 = dktJ5_checkIndex_0 := by decide +kernel
theorem dJ5_checkIndex_0 : decode cJ5_checkIndex 0 = .ok (.iload_n 0, 1) := dk_26 (dk_at dksJ5_checkIndex_0 0 rfl rfl)
theorem dJ5_checkIndex_1 : decode cJ5_checkIndex 1 = .ok (.ifCond .lt 8, 3) := dk_155 0 8 (dk_at dksJ5_checkIndex_0 1 rfl rfl)
theorem dJ5_checkIndex_4 : decode cJ5_checkIndex 4 = .ok (.iload_n 0, 1) := dk_26 (dk_at dksJ5_checkIndex_0 4 rfl rfl)
theorem dJ5_checkIndex_5 : decode cJ5_checkIndex 5 = .ok (.iload_n 1, 1) := dk_27 (dk_at dksJ5_checkIndex_0 5 rfl rfl)
theorem dJ5_checkIndex_6 : decode cJ5_checkIndex 6 = .ok (.if_icmp .lt 10, 3) := dk_161 0 10 (dk_at dksJ5_checkIndex_0 6 rfl rfl)
theorem dJ5_checkIndex_9 : decode cJ5_checkIndex 9 = .ok (.aload_n 2, 1) := dk_44 (dk_at dksJ5_checkIndex_0 9 rfl rfl)
theorem dJ5_checkIndex_10 : decode cJ5_checkIndex 10 = .ok (.iload_n 0, 1) := dk_26 (dk_at dksJ5_checkIndex_0 10 rfl rfl)
theorem dJ5_checkIndex_11 : decode cJ5_checkIndex 11 = .ok (.iload_n 1, 1) := dk_27 (dk_at dksJ5_checkIndex_0 11 rfl rfl)
theorem dJ5_checkIndex_12 : decode cJ5_checkIndex 12 = .ok (.invokestatic 95, 3) := dk_184 0 95 (dk_at dksJ5_checkIndex_0 12 rfl rfl)
theorem dJ5_checkIndex_15 : decode cJ5_checkIndex 15 = .ok (.athrow, 1) := dk_191 (dk_at dksJ5_checkIndex_0 15 rfl rfl)
theorem dJ5_checkIndex_16 : decode cJ5_checkIndex 16 = .ok (.iload_n 0, 1) := dk_26 (dk_at dksJ5_checkIndex_0 16 rfl rfl)
theorem dJ5_checkIndex_17 : decode cJ5_checkIndex 17 = .ok (.ireturn, 1) := dk_172 (dk_at dksJ5_checkIndex_0 17 rfl rfl)
theorem q135 : (Jvm.Cond.initialized "jdk/internal/util/Preconditions") ∈ lw_all := lw_g (lw_at lw_m1 15 rfl) rfl
theorem q850 : (Jvm.Cond.laysStatic "jdk/internal/util/Preconditions" "SIOOBE_FORMATTER" "Ljava/util/function/BiFunction;") ∈ lw_tbl := lw_at lw_m4 10 rfl
theorem q852 : (Jvm.Cond.static ({ cls := "jdk/internal/util/Preconditions", name := "checkIndex", desc := "(IILjava/util/function/BiFunction;)I" } : Jvm.MethodName)) ∈ lw_all := lw_g (lw_at lw_m4 12 rfl) rfl
theorem q853 : (Jvm.Cond.code ({ cls := "jdk/internal/util/Preconditions", name := "checkIndex", desc := "(IILjava/util/function/BiFunction;)I" } : Jvm.MethodName) prog_34_method_11_code (3 : Nat) (Option.some Jvm.ClassFile.FieldType.int)) ∈ lw_all := lw_g (lw_at lw_m4 13 rfl) rfl

/-! java/lang/Integer -/
set_option maxRecDepth 100000
def RJ7 : String := "java/lang/Integer"
abbrev cJ7_bitCount : ByteArray := prog_24_method_49_code
def yJ7_bitCount : MethodName := ⟨RJ7, "bitCount", "(I)I"⟩
def dkwJ7_bitCount_2 : List UInt8 := [26, 16, 63, 126, 172]
abbrev dktJ7_bitCount_2 : List UInt8 := dkwJ7_bitCount_2 ++ []
def dkwJ7_bitCount_1 : List UInt8 := [26, 26, 7, 124, 96, 19, 1, 11, 126, 59, 26, 26, 16, 8, 124, 96, 59, 26, 26, 16, 16, 124, 96, 59]
abbrev dktJ7_bitCount_1 : List UInt8 := dkwJ7_bitCount_1 ++ dktJ7_bitCount_2
def dkwJ7_bitCount_0 : List UInt8 := [26, 26, 4, 124, 19, 1, 9, 126, 100, 59, 26, 19, 1, 10, 126, 26, 5, 124, 19, 1, 10, 126, 96, 59]
abbrev dktJ7_bitCount_0 : List UInt8 := dkwJ7_bitCount_0 ++ dktJ7_bitCount_1
theorem dksJ7_bitCount_0 : cJ7_bitCount.data.toList.drop 0 = dktJ7_bitCount_0 := by decide +kernel
theorem dksJ7_bitCount_1 : cJ7_bitCount.data.toList.drop 24 = dktJ7_bitCount_1 := dk_seg dksJ7_bitCount_0 24 rfl rfl
theorem dksJ7_bitCount_2 : cJ7_bitCount.data.toList.drop 48 = dktJ7_bitCount_2 := dk_seg dksJ7_bitCount_1 24 rfl rfl
theorem dJ7_bitCount_0 : decode cJ7_bitCount 0 = .ok (.iload_n 0, 1) := dk_26 (dk_at dksJ7_bitCount_0 0 rfl rfl)
theorem dJ7_bitCount_1 : decode cJ7_bitCount 1 = .ok (.iload_n 0, 1) := dk_26 (dk_at dksJ7_bitCount_0 1 rfl rfl)
theorem dJ7_bitCount_2 : decode cJ7_bitCount 2 = .ok (.iconst 1, 1) := dk_4 (dk_at dksJ7_bitCount_0 2 rfl rfl)
theorem dJ7_bitCount_3 : decode cJ7_bitCount 3 = .ok (.iushr, 1) := dk_124 (dk_at dksJ7_bitCount_0 3 rfl rfl)
theorem dJ7_bitCount_4 : decode cJ7_bitCount 4 = .ok (.ldc_w 265, 3) := dk_19 1 9 (dk_at dksJ7_bitCount_0 4 rfl rfl)
theorem dJ7_bitCount_7 : decode cJ7_bitCount 7 = .ok (.iand, 1) := dk_126 (dk_at dksJ7_bitCount_0 7 rfl rfl)
theorem dJ7_bitCount_8 : decode cJ7_bitCount 8 = .ok (.isub, 1) := dk_100 (dk_at dksJ7_bitCount_0 8 rfl rfl)
theorem dJ7_bitCount_9 : decode cJ7_bitCount 9 = .ok (.istore_n 0, 1) := dk_59 (dk_at dksJ7_bitCount_0 9 rfl rfl)
theorem dJ7_bitCount_10 : decode cJ7_bitCount 10 = .ok (.iload_n 0, 1) := dk_26 (dk_at dksJ7_bitCount_0 10 rfl rfl)
theorem dJ7_bitCount_11 : decode cJ7_bitCount 11 = .ok (.ldc_w 266, 3) := dk_19 1 10 (dk_at dksJ7_bitCount_0 11 rfl rfl)
theorem dJ7_bitCount_14 : decode cJ7_bitCount 14 = .ok (.iand, 1) := dk_126 (dk_at dksJ7_bitCount_0 14 rfl rfl)
theorem dJ7_bitCount_15 : decode cJ7_bitCount 15 = .ok (.iload_n 0, 1) := dk_26 (dk_at dksJ7_bitCount_0 15 rfl rfl)
theorem dJ7_bitCount_16 : decode cJ7_bitCount 16 = .ok (.iconst 2, 1) := dk_5 (dk_at dksJ7_bitCount_0 16 rfl rfl)
theorem dJ7_bitCount_17 : decode cJ7_bitCount 17 = .ok (.iushr, 1) := dk_124 (dk_at dksJ7_bitCount_0 17 rfl rfl)
theorem dJ7_bitCount_18 : decode cJ7_bitCount 18 = .ok (.ldc_w 266, 3) := dk_19 1 10 (dk_at dksJ7_bitCount_0 18 rfl rfl)
theorem dJ7_bitCount_21 : decode cJ7_bitCount 21 = .ok (.iand, 1) := dk_126 (dk_at dksJ7_bitCount_0 21 rfl rfl)
theorem dJ7_bitCount_22 : decode cJ7_bitCount 22 = .ok (.iadd, 1) := dk_96 (dk_at dksJ7_bitCount_0 22 rfl rfl)
theorem dJ7_bitCount_23 : decode cJ7_bitCount 23 = .ok (.istore_n 0, 1) := dk_59 (dk_at dksJ7_bitCount_0 23 rfl rfl)
theorem dJ7_bitCount_24 : decode cJ7_bitCount 24 = .ok (.iload_n 0, 1) := dk_26 (dk_at dksJ7_bitCount_1 0 rfl rfl)
theorem dJ7_bitCount_25 : decode cJ7_bitCount 25 = .ok (.iload_n 0, 1) := dk_26 (dk_at dksJ7_bitCount_1 1 rfl rfl)
theorem dJ7_bitCount_26 : decode cJ7_bitCount 26 = .ok (.iconst 4, 1) := dk_7 (dk_at dksJ7_bitCount_1 2 rfl rfl)
theorem dJ7_bitCount_27 : decode cJ7_bitCount 27 = .ok (.iushr, 1) := dk_124 (dk_at dksJ7_bitCount_1 3 rfl rfl)
theorem dJ7_bitCount_28 : decode cJ7_bitCount 28 = .ok (.iadd, 1) := dk_96 (dk_at dksJ7_bitCount_1 4 rfl rfl)
theorem dJ7_bitCount_29 : decode cJ7_bitCount 29 = .ok (.ldc_w 267, 3) := dk_19 1 11 (dk_at dksJ7_bitCount_1 5 rfl rfl)
theorem dJ7_bitCount_32 : decode cJ7_bitCount 32 = .ok (.iand, 1) := dk_126 (dk_at dksJ7_bitCount_1 8 rfl rfl)
theorem dJ7_bitCount_33 : decode cJ7_bitCount 33 = .ok (.istore_n 0, 1) := dk_59 (dk_at dksJ7_bitCount_1 9 rfl rfl)
theorem dJ7_bitCount_34 : decode cJ7_bitCount 34 = .ok (.iload_n 0, 1) := dk_26 (dk_at dksJ7_bitCount_1 10 rfl rfl)
theorem dJ7_bitCount_35 : decode cJ7_bitCount 35 = .ok (.iload_n 0, 1) := dk_26 (dk_at dksJ7_bitCount_1 11 rfl rfl)
theorem dJ7_bitCount_36 : decode cJ7_bitCount 36 = .ok (.bipush 8, 2) := dk_16 8 (dk_at dksJ7_bitCount_1 12 rfl rfl)
theorem dJ7_bitCount_38 : decode cJ7_bitCount 38 = .ok (.iushr, 1) := dk_124 (dk_at dksJ7_bitCount_1 14 rfl rfl)
theorem dJ7_bitCount_39 : decode cJ7_bitCount 39 = .ok (.iadd, 1) := dk_96 (dk_at dksJ7_bitCount_1 15 rfl rfl)
theorem dJ7_bitCount_40 : decode cJ7_bitCount 40 = .ok (.istore_n 0, 1) := dk_59 (dk_at dksJ7_bitCount_1 16 rfl rfl)
theorem dJ7_bitCount_41 : decode cJ7_bitCount 41 = .ok (.iload_n 0, 1) := dk_26 (dk_at dksJ7_bitCount_1 17 rfl rfl)
theorem dJ7_bitCount_42 : decode cJ7_bitCount 42 = .ok (.iload_n 0, 1) := dk_26 (dk_at dksJ7_bitCount_1 18 rfl rfl)
theorem dJ7_bitCount_43 : decode cJ7_bitCount 43 = .ok (.bipush 16, 2) := dk_16 16 (dk_at dksJ7_bitCount_1 19 rfl rfl)
theorem dJ7_bitCount_45 : decode cJ7_bitCount 45 = .ok (.iushr, 1) := dk_124 (dk_at dksJ7_bitCount_1 21 rfl rfl)
theorem dJ7_bitCount_46 : decode cJ7_bitCount 46 = .ok (.iadd, 1) := dk_96 (dk_at dksJ7_bitCount_1 22 rfl rfl)
theorem dJ7_bitCount_47 : decode cJ7_bitCount 47 = .ok (.istore_n 0, 1) := dk_59 (dk_at dksJ7_bitCount_1 23 rfl rfl)
theorem dJ7_bitCount_48 : decode cJ7_bitCount 48 = .ok (.iload_n 0, 1) := dk_26 (dk_at dksJ7_bitCount_2 0 rfl rfl)
theorem dJ7_bitCount_49 : decode cJ7_bitCount 49 = .ok (.bipush 63, 2) := dk_16 63 (dk_at dksJ7_bitCount_2 1 rfl rfl)
theorem dJ7_bitCount_51 : decode cJ7_bitCount 51 = .ok (.iand, 1) := dk_126 (dk_at dksJ7_bitCount_2 3 rfl rfl)
theorem dJ7_bitCount_52 : decode cJ7_bitCount 52 = .ok (.ireturn, 1) := dk_172 (dk_at dksJ7_bitCount_2 4 rfl rfl)
abbrev cJ7_numberOfTrailingZeros : ByteArray := prog_24_method_48_code
def yJ7_numberOfTrailingZeros : MethodName := ⟨RJ7, "numberOfTrailingZeros", "(I)I"⟩
def dkwJ7_numberOfTrailingZeros_3 : List UInt8 := [5, 124, 59, 27, 26, 4, 124, 96, 172]
abbrev dktJ7_numberOfTrailingZeros_3 : List UInt8 := dkwJ7_numberOfTrailingZeros_3 ++ []
def dkwJ7_numberOfTrailingZeros_2 : List UInt8 := [124, 59, 26, 16, 16, 164, 0, 10, 132, 1, 4, 26, 7, 124, 59, 26, 7, 164, 0, 10, 132, 1, 2, 26]
abbrev dktJ7_numberOfTrailingZeros_2 : List UInt8 := dkwJ7_numberOfTrailingZeros_2 ++ dktJ7_numberOfTrailingZeros_3
def dkwJ7_numberOfTrailingZeros_1 : List UInt8 := [164, 0, 11, 132, 1, 16, 26, 16, 16, 124, 59, 26, 17, 1, 0, 164, 0, 11, 132, 1, 8, 26, 16, 8]
abbrev dktJ7_numberOfTrailingZeros_1 : List UInt8 := dkwJ7_numberOfTrailingZeros_1 ++ dktJ7_numberOfTrailingZeros_2
def dkwJ7_numberOfTrailingZeros_0 : List UInt8 := [26, 2, 130, 26, 4, 100, 126, 59, 26, 157, 0, 8, 26, 16, 32, 126, 172, 4, 60, 26, 19, 1, 8]
abbrev dktJ7_numberOfTrailingZeros_0 : List UInt8 := dkwJ7_numberOfTrailingZeros_0 ++ dktJ7_numberOfTrailingZeros_1
theorem dksJ7_numberOfTrailingZeros_0 : cJ7_numberOfTrailingZeros.data.toList.drop 0 = dktJ7_numberOfTrailingZeros_0 := by decide +kernel
theorem dksJ7_numberOfTrailingZeros_1 : cJ7_numberOfTrailingZeros.data.toList.drop 23 = dktJ7_numberOfTrailingZeros_1 := dk_seg dksJ7_numberOfTrailingZeros_0 23 rfl rfl
theorem dksJ7_numberOfTrailingZeros_2 : cJ7_numberOfTrailingZeros.data.toList.drop 47 = dktJ7_numberOfTrailingZeros_2 := dk_seg dksJ7_numberOfTrailingZeros_1 24 rfl rfl
theorem dksJ7_numberOfTrailingZeros_3 : cJ7_numberOfTrailingZeros.data.toList.drop 71 = dktJ7_numberOfTrailingZeros_3 := dk_seg dksJ7_numberOfTrailingZeros_2 24 rfl rfl
theorem dJ7_numberOfTrailingZeros_0 : decode cJ7_numberOfTrailingZeros 0 = .ok (.iload_n 0, 1) := dk_26 (dk_at dksJ7_numberOfTrailingZeros_0 0 rfl rfl)
theorem dJ7_numberOfTrailingZeros_1 : decode cJ7_numberOfTrailingZeros 1 = .ok (.iconst (-1), 1) := dk_2 (dk_at dksJ7_numberOfTrailingZeros_0 1 rfl rfl)
theorem dJ7_numberOfTrailingZeros_2 : decode cJ7_numberOfTrailingZeros 2 = .ok (.ixor, 1) := dk_130 (dk_at dksJ7_numberOfTrailingZeros_0 2 rfl rfl)
theorem dJ7_numberOfTrailingZeros_3 : decode cJ7_numberOfTrailingZeros 3 = .ok (.iload_n 0, 1) := dk_26 (dk_at dksJ7_numberOfTrailingZeros_0 3 rfl rfl)
theorem dJ7_numberOfTrailingZeros_4 : decode cJ7_numberOfTrailingZeros 4 = .ok (.iconst 1, 1) := dk_4 (dk_at dksJ7_numberOfTrailingZeros_0 4 rfl rfl)
theorem dJ7_numberOfTrailingZeros_5 : decode cJ7_numberOfTrailingZeros 5 = .ok (.isub, 1) := dk_100 (dk_at dksJ7_numberOfTrailingZeros_0 5 rfl rfl)
theorem dJ7_numberOfTrailingZeros_6 : decode cJ7_numberOfTrailingZeros 6 = .ok (.iand, 1) := dk_126 (dk_at dksJ7_numberOfTrailingZeros_0 6 rfl rfl)
theorem dJ7_numberOfTrailingZeros_7 : decode cJ7_numberOfTrailingZeros 7 = .ok (.istore_n 0, 1) := dk_59 (dk_at dksJ7_numberOfTrailingZeros_0 7 rfl rfl)
theorem dJ7_numberOfTrailingZeros_8 : decode cJ7_numberOfTrailingZeros 8 = .ok (.iload_n 0, 1) := dk_26 (dk_at dksJ7_numberOfTrailingZeros_0 8 rfl rfl)
theorem dJ7_numberOfTrailingZeros_9 : decode cJ7_numberOfTrailingZeros 9 = .ok (.ifCond .gt 8, 3) := dk_157 0 8 (dk_at dksJ7_numberOfTrailingZeros_0 9 rfl rfl)
theorem dJ7_numberOfTrailingZeros_12 : decode cJ7_numberOfTrailingZeros 12 = .ok (.iload_n 0, 1) := dk_26 (dk_at dksJ7_numberOfTrailingZeros_0 12 rfl rfl)
theorem dJ7_numberOfTrailingZeros_13 : decode cJ7_numberOfTrailingZeros 13 = .ok (.bipush 32, 2) := dk_16 32 (dk_at dksJ7_numberOfTrailingZeros_0 13 rfl rfl)
theorem dJ7_numberOfTrailingZeros_15 : decode cJ7_numberOfTrailingZeros 15 = .ok (.iand, 1) := dk_126 (dk_at dksJ7_numberOfTrailingZeros_0 15 rfl rfl)
theorem dJ7_numberOfTrailingZeros_16 : decode cJ7_numberOfTrailingZeros 16 = .ok (.ireturn, 1) := dk_172 (dk_at dksJ7_numberOfTrailingZeros_0 16 rfl rfl)
theorem dJ7_numberOfTrailingZeros_17 : decode cJ7_numberOfTrailingZeros 17 = .ok (.iconst 1, 1) := dk_4 (dk_at dksJ7_numberOfTrailingZeros_0 17 rfl rfl)
theorem dJ7_numberOfTrailingZeros_18 : decode cJ7_numberOfTrailingZeros 18 = .ok (.istore_n 1, 1) := dk_60 (dk_at dksJ7_numberOfTrailingZeros_0 18 rfl rfl)
theorem dJ7_numberOfTrailingZeros_19 : decode cJ7_numberOfTrailingZeros 19 = .ok (.iload_n 0, 1) := dk_26 (dk_at dksJ7_numberOfTrailingZeros_0 19 rfl rfl)
theorem dJ7_numberOfTrailingZeros_20 : decode cJ7_numberOfTrailingZeros 20 = .ok (.ldc_w 264, 3) := dk_19 1 8 (dk_at dksJ7_numberOfTrailingZeros_0 20 rfl rfl)
theorem dJ7_numberOfTrailingZeros_23 : decode cJ7_numberOfTrailingZeros 23 = .ok (.if_icmp .le 11, 3) := dk_164 0 11 (dk_at dksJ7_numberOfTrailingZeros_1 0 rfl rfl)
theorem dJ7_numberOfTrailingZeros_26 : decode cJ7_numberOfTrailingZeros 26 = .ok (.iinc 1 16, 3) := dk_132 1 16 (dk_at dksJ7_numberOfTrailingZeros_1 3 rfl rfl)
theorem dJ7_numberOfTrailingZeros_29 : decode cJ7_numberOfTrailingZeros 29 = .ok (.iload_n 0, 1) := dk_26 (dk_at dksJ7_numberOfTrailingZeros_1 6 rfl rfl)
theorem dJ7_numberOfTrailingZeros_30 : decode cJ7_numberOfTrailingZeros 30 = .ok (.bipush 16, 2) := dk_16 16 (dk_at dksJ7_numberOfTrailingZeros_1 7 rfl rfl)
theorem dJ7_numberOfTrailingZeros_32 : decode cJ7_numberOfTrailingZeros 32 = .ok (.iushr, 1) := dk_124 (dk_at dksJ7_numberOfTrailingZeros_1 9 rfl rfl)
theorem dJ7_numberOfTrailingZeros_33 : decode cJ7_numberOfTrailingZeros 33 = .ok (.istore_n 0, 1) := dk_59 (dk_at dksJ7_numberOfTrailingZeros_1 10 rfl rfl)
theorem dJ7_numberOfTrailingZeros_34 : decode cJ7_numberOfTrailingZeros 34 = .ok (.iload_n 0, 1) := dk_26 (dk_at dksJ7_numberOfTrailingZeros_1 11 rfl rfl)
theorem dJ7_numberOfTrailingZeros_35 : decode cJ7_numberOfTrailingZeros 35 = .ok (.sipush 256, 3) := dk_17 1 0 (dk_at dksJ7_numberOfTrailingZeros_1 12 rfl rfl)
theorem dJ7_numberOfTrailingZeros_38 : decode cJ7_numberOfTrailingZeros 38 = .ok (.if_icmp .le 11, 3) := dk_164 0 11 (dk_at dksJ7_numberOfTrailingZeros_1 15 rfl rfl)
theorem dJ7_numberOfTrailingZeros_41 : decode cJ7_numberOfTrailingZeros 41 = .ok (.iinc 1 8, 3) := dk_132 1 8 (dk_at dksJ7_numberOfTrailingZeros_1 18 rfl rfl)
theorem dJ7_numberOfTrailingZeros_44 : decode cJ7_numberOfTrailingZeros 44 = .ok (.iload_n 0, 1) := dk_26 (dk_at dksJ7_numberOfTrailingZeros_1 21 rfl rfl)
theorem dJ7_numberOfTrailingZeros_45 : decode cJ7_numberOfTrailingZeros 45 = .ok (.bipush 8, 2) := dk_16 8 (dk_at dksJ7_numberOfTrailingZeros_1 22 rfl rfl)
theorem dJ7_numberOfTrailingZeros_47 : decode cJ7_numberOfTrailingZeros 47 = .ok (.iushr, 1) := dk_124 (dk_at dksJ7_numberOfTrailingZeros_2 0 rfl rfl)
theorem dJ7_numberOfTrailingZeros_48 : decode cJ7_numberOfTrailingZeros 48 = .ok (.istore_n 0, 1) := dk_59 (dk_at dksJ7_numberOfTrailingZeros_2 1 rfl rfl)
theorem dJ7_numberOfTrailingZeros_49 : decode cJ7_numberOfTrailingZeros 49 = .ok (.iload_n 0, 1) := dk_26 (dk_at dksJ7_numberOfTrailingZeros_2 2 rfl rfl)
theorem dJ7_numberOfTrailingZeros_50 : decode cJ7_numberOfTrailingZeros 50 = .ok (.bipush 16, 2) := dk_16 16 (dk_at dksJ7_numberOfTrailingZeros_2 3 rfl rfl)
theorem dJ7_numberOfTrailingZeros_52 : decode cJ7_numberOfTrailingZeros 52 = .ok (.if_icmp .le 10, 3) := dk_164 0 10 (dk_at dksJ7_numberOfTrailingZeros_2 5 rfl rfl)
theorem dJ7_numberOfTrailingZeros_55 : decode cJ7_numberOfTrailingZeros 55 = .ok (.iinc 1 4, 3) := dk_132 1 4 (dk_at dksJ7_numberOfTrailingZeros_2 8 rfl rfl)
theorem dJ7_numberOfTrailingZeros_58 : decode cJ7_numberOfTrailingZeros 58 = .ok (.iload_n 0, 1) := dk_26 (dk_at dksJ7_numberOfTrailingZeros_2 11 rfl rfl)
theorem dJ7_numberOfTrailingZeros_59 : decode cJ7_numberOfTrailingZeros 59 = .ok (.iconst 4, 1) := dk_7 (dk_at dksJ7_numberOfTrailingZeros_2 12 rfl rfl)
theorem dJ7_numberOfTrailingZeros_60 : decode cJ7_numberOfTrailingZeros 60 = .ok (.iushr, 1) := dk_124 (dk_at dksJ7_numberOfTrailingZeros_2 13 rfl rfl)
theorem dJ7_numberOfTrailingZeros_61 : decode cJ7_numberOfTrailingZeros 61 = .ok (.istore_n 0, 1) := dk_59 (dk_at dksJ7_numberOfTrailingZeros_2 14 rfl rfl)
theorem dJ7_numberOfTrailingZeros_62 : decode cJ7_numberOfTrailingZeros 62 = .ok (.iload_n 0, 1) := dk_26 (dk_at dksJ7_numberOfTrailingZeros_2 15 rfl rfl)
theorem dJ7_numberOfTrailingZeros_63 : decode cJ7_numberOfTrailingZeros 63 = .ok (.iconst 4, 1) := dk_7 (dk_at dksJ7_numberOfTrailingZeros_2 16 rfl rfl)
theorem dJ7_numberOfTrailingZeros_64 : decode cJ7_numberOfTrailingZeros 64 = .ok (.if_icmp .le 10, 3) := dk_164 0 10 (dk_at dksJ7_numberOfTrailingZeros_2 17 rfl rfl)
theorem dJ7_numberOfTrailingZeros_67 : decode cJ7_numberOfTrailingZeros 67 = .ok (.iinc 1 2, 3) := dk_132 1 2 (dk_at dksJ7_numberOfTrailingZeros_2 20 rfl rfl)
theorem dJ7_numberOfTrailingZeros_70 : decode cJ7_numberOfTrailingZeros 70 = .ok (.iload_n 0, 1) := dk_26 (dk_at dksJ7_numberOfTrailingZeros_2 23 rfl rfl)
theorem dJ7_numberOfTrailingZeros_71 : decode cJ7_numberOfTrailingZeros 71 = .ok (.iconst 2, 1) := dk_5 (dk_at dksJ7_numberOfTrailingZeros_3 0 rfl rfl)
theorem dJ7_numberOfTrailingZeros_72 : decode cJ7_numberOfTrailingZeros 72 = .ok (.iushr, 1) := dk_124 (dk_at dksJ7_numberOfTrailingZeros_3 1 rfl rfl)
theorem dJ7_numberOfTrailingZeros_73 : decode cJ7_numberOfTrailingZeros 73 = .ok (.istore_n 0, 1) := dk_59 (dk_at dksJ7_numberOfTrailingZeros_3 2 rfl rfl)
theorem dJ7_numberOfTrailingZeros_74 : decode cJ7_numberOfTrailingZeros 74 = .ok (.iload_n 1, 1) := dk_27 (dk_at dksJ7_numberOfTrailingZeros_3 3 rfl rfl)
theorem dJ7_numberOfTrailingZeros_75 : decode cJ7_numberOfTrailingZeros 75 = .ok (.iload_n 0, 1) := dk_26 (dk_at dksJ7_numberOfTrailingZeros_3 4 rfl rfl)
theorem dJ7_numberOfTrailingZeros_76 : decode cJ7_numberOfTrailingZeros 76 = .ok (.iconst 1, 1) := dk_4 (dk_at dksJ7_numberOfTrailingZeros_3 5 rfl rfl)
theorem dJ7_numberOfTrailingZeros_77 : decode cJ7_numberOfTrailingZeros 77 = .ok (.iushr, 1) := dk_124 (dk_at dksJ7_numberOfTrailingZeros_3 6 rfl rfl)
theorem dJ7_numberOfTrailingZeros_78 : decode cJ7_numberOfTrailingZeros 78 = .ok (.iadd, 1) := dk_96 (dk_at dksJ7_numberOfTrailingZeros_3 7 rfl rfl)
theorem dJ7_numberOfTrailingZeros_79 : decode cJ7_numberOfTrailingZeros 79 = .ok (.ireturn, 1) := dk_172 (dk_at dksJ7_numberOfTrailingZeros_3 8 rfl rfl)
theorem q137 : (Jvm.Cond.initialized "java/lang/Integer") ∈ lw_all := lw_g (lw_at lw_m1 17 rfl) rfl
theorem q659 : (Jvm.Cond.static ({ cls := "java/lang/Integer", name := "bitCount", desc := "(I)I" } : Jvm.MethodName)) ∈ lw_all := lw_g (lw_at lw_m3 59 rfl) rfl
theorem q660 : (Jvm.Cond.code ({ cls := "java/lang/Integer", name := "bitCount", desc := "(I)I" } : Jvm.MethodName) prog_24_method_49_code (1 : Nat) (Option.some Jvm.ClassFile.FieldType.int)) ∈ lw_all := lw_g (lw_at lw_m3 60 rfl) rfl
theorem q661 : (Jvm.Cond.constant "java/lang/Integer" (265 : Nat) (1431655765 : Int32)) ∈ lw_all := lw_g (lw_at lw_m3 61 rfl) rfl
theorem q662 : (Jvm.Cond.constant "java/lang/Integer" (266 : Nat) (858993459 : Int32)) ∈ lw_all := lw_g (lw_at lw_m3 62 rfl) rfl
theorem q663 : (Jvm.Cond.constant "java/lang/Integer" (267 : Nat) (252645135 : Int32)) ∈ lw_all := lw_g (lw_at lw_m3 63 rfl) rfl
theorem q887 : (Jvm.Cond.static ({ cls := "java/lang/Integer", name := "numberOfTrailingZeros", desc := "(I)I" } : Jvm.MethodName)) ∈ lw_all := lw_g (lw_at lw_m4 47 rfl) rfl
theorem q888 : (Jvm.Cond.code ({ cls := "java/lang/Integer", name := "numberOfTrailingZeros", desc := "(I)I" } : Jvm.MethodName) prog_24_method_48_code (2 : Nat) (Option.some Jvm.ClassFile.FieldType.int)) ∈ lw_all := lw_g (lw_at lw_m4 48 rfl) rfl
theorem q889 : (Jvm.Cond.constant "java/lang/Integer" (264 : Nat) (65536 : Int32)) ∈ lw_all := lw_g (lw_at lw_m4 49 rfl) rfl

/-! java/lang/IllegalArgumentException -/
set_option maxRecDepth 100000
def RJ8 : String := "java/lang/IllegalArgumentException"
def TJ8 : u_T := fun k => match k with
  | 0 => ("java/lang/Throwable", "cause", "Ljava/lang/Throwable;", false)
  | 1 => ("java/lang/Throwable", "stackTrace", "[Ljava/lang/StackTraceElement;", false)
  | 2 => ("java/lang/Throwable", "suppressedExceptions", "Ljava/util/List;", false)
  | 3 => ("java/lang/Throwable", "detailMessage", "Ljava/lang/String;", false)
  | 4 => ("java/lang/Throwable", "backtrace", "Ljava/lang/Object;", false)
  | _ => ("java/lang/Throwable", "depth", "I", false)
def tyJ8 : Nat → FieldType := fun k => match k with
  | 0 => .object "java/lang/Throwable"
  | 1 => .array (.object "java/lang/StackTraceElement")
  | 2 => .object "java/util/List"
  | 3 => .object "java/lang/String"
  | 4 => .object "java/lang/Object"
  | _ => .int
abbrev wsJ80 : List Cond := u_ws RJ8 TJ8 6
theorem nmJ8 : ∀ a, a < 6 → ∀ b, b < 6 → a ≠ b → (TJ8 a).2.1 ≠ (TJ8 b).2.1 := by decide +kernel
theorem tyJ8_ok : ∀ k, k < 6 → parseFieldDescriptor (TJ8 k).2.2.1 = some (tyJ8 k) := by decide +kernel
abbrev cJ8_init : ByteArray := prog_21_method_1_code
def yJ8_init : MethodName := ⟨RJ8, "<init>", "()V"⟩
theorem dJ8_init_0 : decode cJ8_init 0 = .ok (.aload_n 0, 1) := by decide +kernel
theorem dJ8_init_1 : decode cJ8_init 1 = .ok (.invokespecial 1, 3) := by decide +kernel
theorem dJ8_init_4 : decode cJ8_init 4 = .ok (.return_, 1) := by decide +kernel
theorem q138 : (Jvm.Cond.initialized "java/lang/IllegalArgumentException") ∈ lw_all := lw_g (lw_at lw_m1 18 rfl) rfl
theorem q355 : (Jvm.Cond.selects "java/lang/IllegalArgumentException" ({ cls := "java/lang/Throwable", name := "fillInStackTrace", desc := "()Ljava/lang/Throwable;" } : Jvm.MethodName) ({ cls := "java/lang/Throwable", name := "fillInStackTrace", desc := "()Ljava/lang/Throwable;" } : Jvm.MethodName)) ∈ lw_all := lw_g (lw_at lw_m1 235 rfl) rfl
theorem q921 : (Jvm.Cond.instantiable "java/lang/IllegalArgumentException" (6 : Nat)) ∈ lw_all := lw_g (lw_at lw_m4 81 rfl) rfl
theorem q922 : (Jvm.Cond.castable "java/lang/IllegalArgumentException" "java/lang/IllegalArgumentException") ∈ lw_tbl := lw_at lw_m4 82 rfl
theorem q923 : (Jvm.Cond.selects "java/lang/IllegalArgumentException" ({ cls := "java/lang/Throwable", name := "fillInStackTrace", desc := "(I)Ljava/lang/Throwable;" } : Jvm.MethodName) ({ cls := "java/lang/Throwable", name := "fillInStackTrace", desc := "(I)Ljava/lang/Throwable;" } : Jvm.MethodName)) ∈ lw_all := lw_g (lw_at lw_m4 83 rfl) rfl
theorem q924 : (Jvm.Cond.lays "java/lang/IllegalArgumentException" "java/lang/Throwable" "cause" "Ljava/lang/Throwable;") ∈ lw_all := lw_g (lw_at lw_m4 84 rfl) rfl
theorem q925 : (Jvm.Cond.lays "java/lang/IllegalArgumentException" "java/lang/Throwable" "stackTrace" "[Ljava/lang/StackTraceElement;") ∈ lw_all := lw_g (lw_at lw_m4 85 rfl) rfl
theorem q926 : (Jvm.Cond.lays "java/lang/IllegalArgumentException" "java/lang/Throwable" "suppressedExceptions" "Ljava/util/List;") ∈ lw_all := lw_g (lw_at lw_m4 86 rfl) rfl
theorem q927 : (Jvm.Cond.lays "java/lang/IllegalArgumentException" "java/lang/Throwable" "detailMessage" "Ljava/lang/String;") ∈ lw_all := lw_g (lw_at lw_m4 87 rfl) rfl
theorem q928 : (Jvm.Cond.lays "java/lang/IllegalArgumentException" "java/lang/Throwable" "backtrace" "Ljava/lang/Object;") ∈ lw_all := lw_g (lw_at lw_m4 88 rfl) rfl
theorem q930 : (Jvm.Cond.instanceMethod ({ cls := "java/lang/IllegalArgumentException", name := "<init>", desc := "()V" } : Jvm.MethodName)) ∈ lw_all := lw_g (lw_at lw_m4 90 rfl) rfl
theorem q931 : (Jvm.Cond.code ({ cls := "java/lang/IllegalArgumentException", name := "<init>", desc := "()V" } : Jvm.MethodName) prog_21_method_1_code (1 : Nat) (Option.none : Option Jvm.ClassFile.FieldType)) ∈ lw_all := lw_g (lw_at lw_m4 91 rfl) rfl
theorem q932 : (Jvm.Cond.methodLink "java/lang/IllegalArgumentException" (1 : Nat) ({ cls := "java/lang/RuntimeException", name := "<init>", desc := "()V" } : Jvm.MethodName)) ∈ lw_all := lw_g (lw_at lw_m4 92 rfl) rfl
theorem q939 : (Jvm.Cond.lays "java/lang/IllegalArgumentException" "java/lang/Throwable" "depth" "I") ∈ lw_all := lw_g (lw_at lw_m4 99 rfl) rfl
theorem q940 : (Jvm.Cond.superclass "java/lang/IllegalArgumentException" "java/lang/RuntimeException") ∈ lw_all := lw_g (lw_at lw_m4 100 rfl) rfl
theorem q2112 : (Jvm.Cond.castable "java/lang/IllegalArgumentException" "java/lang/Object") ∈ lw_tbl := lw_at lw_m9 72 rfl
theorem in_J8 : ∀ w ∈ wsJ80, w ∈ lw_all := lw_in wsJ80 [924, 925, 926, 927, 928, 939] (by decide +kernel) (by decide +kernel)

/-! java/lang/UnsupportedOperationException -/
set_option maxRecDepth 100000
def RJ9 : String := "java/lang/UnsupportedOperationException"
def TJ9 : u_T := fun k => match k with
  | 0 => ("java/lang/Throwable", "cause", "Ljava/lang/Throwable;", false)
  | 1 => ("java/lang/Throwable", "stackTrace", "[Ljava/lang/StackTraceElement;", false)
  | 2 => ("java/lang/Throwable", "suppressedExceptions", "Ljava/util/List;", false)
  | 3 => ("java/lang/Throwable", "detailMessage", "Ljava/lang/String;", false)
  | 4 => ("java/lang/Throwable", "backtrace", "Ljava/lang/Object;", false)
  | _ => ("java/lang/Throwable", "depth", "I", false)
def tyJ9 : Nat → FieldType := fun k => match k with
  | 0 => .object "java/lang/Throwable"
  | 1 => .array (.object "java/lang/StackTraceElement")
  | 2 => .object "java/util/List"
  | 3 => .object "java/lang/String"
  | 4 => .object "java/lang/Object"
  | _ => .int
abbrev wsJ90 : List Cond := u_ws RJ9 TJ9 6
theorem nmJ9 : ∀ a, a < 6 → ∀ b, b < 6 → a ≠ b → (TJ9 a).2.1 ≠ (TJ9 b).2.1 := by decide +kernel
theorem tyJ9_ok : ∀ k, k < 6 → parseFieldDescriptor (TJ9 k).2.2.1 = some (tyJ9 k) := by decide +kernel
abbrev cJ9_init : ByteArray := prog_32_method_1_code
def yJ9_init : MethodName := ⟨RJ9, "<init>", "()V"⟩
theorem dJ9_init_0 : decode cJ9_init 0 = .ok (.aload_n 0, 1) := by decide +kernel
theorem dJ9_init_1 : decode cJ9_init 1 = .ok (.invokespecial 1, 3) := by decide +kernel
theorem dJ9_init_4 : decode cJ9_init 4 = .ok (.return_, 1) := by decide +kernel
theorem q139 : (Jvm.Cond.initialized "java/lang/UnsupportedOperationException") ∈ lw_all := lw_g (lw_at lw_m1 19 rfl) rfl
theorem q358 : (Jvm.Cond.selects "java/lang/UnsupportedOperationException" ({ cls := "java/lang/Throwable", name := "fillInStackTrace", desc := "()Ljava/lang/Throwable;" } : Jvm.MethodName) ({ cls := "java/lang/Throwable", name := "fillInStackTrace", desc := "()Ljava/lang/Throwable;" } : Jvm.MethodName)) ∈ lw_all := lw_g (lw_at lw_m1 238 rfl) rfl
theorem q945 : (Jvm.Cond.instantiable "java/lang/UnsupportedOperationException" (6 : Nat)) ∈ lw_all := lw_g (lw_at lw_m4 105 rfl) rfl
theorem q946 : (Jvm.Cond.castable "java/lang/UnsupportedOperationException" "java/lang/UnsupportedOperationException") ∈ lw_tbl := lw_at lw_m4 106 rfl
theorem q947 : (Jvm.Cond.selects "java/lang/UnsupportedOperationException" ({ cls := "java/lang/Throwable", name := "fillInStackTrace", desc := "(I)Ljava/lang/Throwable;" } : Jvm.MethodName) ({ cls := "java/lang/Throwable", name := "fillInStackTrace", desc := "(I)Ljava/lang/Throwable;" } : Jvm.MethodName)) ∈ lw_all := lw_g (lw_at lw_m4 107 rfl) rfl
theorem q948 : (Jvm.Cond.lays "java/lang/UnsupportedOperationException" "java/lang/Throwable" "cause" "Ljava/lang/Throwable;") ∈ lw_all := lw_g (lw_at lw_m4 108 rfl) rfl
theorem q949 : (Jvm.Cond.lays "java/lang/UnsupportedOperationException" "java/lang/Throwable" "stackTrace" "[Ljava/lang/StackTraceElement;") ∈ lw_all := lw_g (lw_at lw_m4 109 rfl) rfl
theorem q950 : (Jvm.Cond.lays "java/lang/UnsupportedOperationException" "java/lang/Throwable" "suppressedExceptions" "Ljava/util/List;") ∈ lw_all := lw_g (lw_at lw_m4 110 rfl) rfl
theorem q951 : (Jvm.Cond.lays "java/lang/UnsupportedOperationException" "java/lang/Throwable" "detailMessage" "Ljava/lang/String;") ∈ lw_all := lw_g (lw_at lw_m4 111 rfl) rfl
theorem q952 : (Jvm.Cond.lays "java/lang/UnsupportedOperationException" "java/lang/Throwable" "backtrace" "Ljava/lang/Object;") ∈ lw_all := lw_g (lw_at lw_m4 112 rfl) rfl
theorem q954 : (Jvm.Cond.instanceMethod ({ cls := "java/lang/UnsupportedOperationException", name := "<init>", desc := "()V" } : Jvm.MethodName)) ∈ lw_all := lw_g (lw_at lw_m4 114 rfl) rfl
theorem q955 : (Jvm.Cond.code ({ cls := "java/lang/UnsupportedOperationException", name := "<init>", desc := "()V" } : Jvm.MethodName) prog_32_method_1_code (1 : Nat) (Option.none : Option Jvm.ClassFile.FieldType)) ∈ lw_all := lw_g (lw_at lw_m4 115 rfl) rfl
theorem q956 : (Jvm.Cond.methodLink "java/lang/UnsupportedOperationException" (1 : Nat) ({ cls := "java/lang/RuntimeException", name := "<init>", desc := "()V" } : Jvm.MethodName)) ∈ lw_all := lw_g (lw_at lw_m4 116 rfl) rfl
theorem q957 : (Jvm.Cond.lays "java/lang/UnsupportedOperationException" "java/lang/Throwable" "depth" "I") ∈ lw_all := lw_g (lw_at lw_m4 117 rfl) rfl
theorem q958 : (Jvm.Cond.superclass "java/lang/UnsupportedOperationException" "java/lang/RuntimeException") ∈ lw_all := lw_g (lw_at lw_m4 118 rfl) rfl
theorem q2113 : (Jvm.Cond.castable "java/lang/UnsupportedOperationException" "java/lang/Object") ∈ lw_tbl := lw_at lw_m9 73 rfl
theorem in_J9 : ∀ w ∈ wsJ90, w ∈ lw_all := lw_in wsJ90 [948, 949, 950, 951, 952, 957] (by decide +kernel) (by decide +kernel)

/-! java/lang/IndexOutOfBoundsException -/
set_option maxRecDepth 100000
def RJ10 : String := "java/lang/IndexOutOfBoundsException"
def TJ10 : u_T := fun k => match k with
  | 0 => ("java/lang/Throwable", "cause", "Ljava/lang/Throwable;", false)
  | 1 => ("java/lang/Throwable", "stackTrace", "[Ljava/lang/StackTraceElement;", false)
  | 2 => ("java/lang/Throwable", "suppressedExceptions", "Ljava/util/List;", false)
  | 3 => ("java/lang/Throwable", "detailMessage", "Ljava/lang/String;", false)
  | 4 => ("java/lang/Throwable", "backtrace", "Ljava/lang/Object;", false)
  | _ => ("java/lang/Throwable", "depth", "I", false)
def tyJ10 : Nat → FieldType := fun k => match k with
  | 0 => .object "java/lang/Throwable"
  | 1 => .array (.object "java/lang/StackTraceElement")
  | 2 => .object "java/util/List"
  | 3 => .object "java/lang/String"
  | 4 => .object "java/lang/Object"
  | _ => .int
abbrev wsJ100 : List Cond := u_ws RJ10 TJ10 6
theorem nmJ10 : ∀ a, a < 6 → ∀ b, b < 6 → a ≠ b → (TJ10 a).2.1 ≠ (TJ10 b).2.1 := by decide +kernel
theorem tyJ10_ok : ∀ k, k < 6 → parseFieldDescriptor (TJ10 k).2.2.1 = some (tyJ10 k) := by decide +kernel
abbrev cJ10_init : ByteArray := prog_23_method_2_code
def yJ10_init : MethodName := ⟨RJ10, "<init>", "(Ljava/lang/String;)V"⟩
def dkwJ10_init_0 : List UInt8 := [42, 43, 183, 0, 7, 177]
abbrev dktJ10_init_0 : List UInt8 := dkwJ10_init_0 ++ []
theorem dksJ10_init_0 : cJ10_init.data.toList.drop 0 = dktJ10_init_0 := by decide +kernel
theorem dJ10_init_0 : decode cJ10_init 0 = .ok (.aload_n 0, 1) := dk_42 (dk_at dksJ10_init_0 0 rfl rfl)
theorem dJ10_init_1 : decode cJ10_init 1 = .ok (.aload_n 1, 1) := dk_43 (dk_at dksJ10_init_0 1 rfl rfl)
theorem dJ10_init_2 : decode cJ10_init 2 = .ok (.invokespecial 7, 3) := dk_183 0 7 (dk_at dksJ10_init_0 2 rfl rfl)
theorem dJ10_init_5 : decode cJ10_init 5 = .ok (.return_, 1) := dk_177 (dk_at dksJ10_init_0 5 rfl rfl)
abbrev cJ10_init_2 : ByteArray := prog_23_method_1_code
def yJ10_init_2 : MethodName := ⟨RJ10, "<init>", "()V"⟩
theorem dJ10_init_2_0 : decode cJ10_init_2 0 = .ok (.aload_n 0, 1) := by decide +kernel
theorem dJ10_init_2_1 : decode cJ10_init_2 1 = .ok (.invokespecial 1, 3) := by decide +kernel
theorem dJ10_init_2_4 : decode cJ10_init_2 4 = .ok (.return_, 1) := by decide +kernel
theorem q148 : (Jvm.Cond.initialized "java/lang/IndexOutOfBoundsException") ∈ lw_all := lw_g (lw_at lw_m1 28 rfl) rfl
theorem q357 : (Jvm.Cond.selects "java/lang/IndexOutOfBoundsException" ({ cls := "java/lang/Throwable", name := "fillInStackTrace", desc := "()Ljava/lang/Throwable;" } : Jvm.MethodName) ({ cls := "java/lang/Throwable", name := "fillInStackTrace", desc := "()Ljava/lang/Throwable;" } : Jvm.MethodName)) ∈ lw_all := lw_g (lw_at lw_m1 237 rfl) rfl
theorem q1103 : (Jvm.Cond.instanceMethod ({ cls := "java/lang/IndexOutOfBoundsException", name := "<init>", desc := "(Ljava/lang/String;)V" } : Jvm.MethodName)) ∈ lw_all := lw_g (lw_at lw_m5 23 rfl) rfl
theorem q1104 : (Jvm.Cond.code ({ cls := "java/lang/IndexOutOfBoundsException", name := "<init>", desc := "(Ljava/lang/String;)V" } : Jvm.MethodName) prog_23_method_2_code (2 : Nat) (Option.none : Option Jvm.ClassFile.FieldType)) ∈ lw_all := lw_g (lw_at lw_m5 24 rfl) rfl
theorem q1105 : (Jvm.Cond.methodLink "java/lang/IndexOutOfBoundsException" (7 : Nat) ({ cls := "java/lang/RuntimeException", name := "<init>", desc := "(Ljava/lang/String;)V" } : Jvm.MethodName)) ∈ lw_all := lw_g (lw_at lw_m5 25 rfl) rfl
theorem q1122 : (Jvm.Cond.declares ({ cls := "java/lang/IndexOutOfBoundsException", name := "<init>", desc := "()V" } : Jvm.MethodName)) ∈ lw_tbl := lw_at lw_m5 42 rfl
theorem q1123 : (Jvm.Cond.declares ({ cls := "java/lang/IndexOutOfBoundsException", name := "<init>", desc := "(Ljava/lang/String;)V" } : Jvm.MethodName)) ∈ lw_tbl := lw_at lw_m5 43 rfl
theorem q1143 : (Jvm.Cond.instantiable "java/lang/IndexOutOfBoundsException" (6 : Nat)) ∈ lw_all := lw_g (lw_at lw_m5 63 rfl) rfl
theorem q1144 : (Jvm.Cond.castable "java/lang/IndexOutOfBoundsException" "java/lang/IndexOutOfBoundsException") ∈ lw_tbl := lw_at lw_m5 64 rfl
theorem q1145 : (Jvm.Cond.selects "java/lang/IndexOutOfBoundsException" ({ cls := "java/lang/Throwable", name := "fillInStackTrace", desc := "(I)Ljava/lang/Throwable;" } : Jvm.MethodName) ({ cls := "java/lang/Throwable", name := "fillInStackTrace", desc := "(I)Ljava/lang/Throwable;" } : Jvm.MethodName)) ∈ lw_all := lw_g (lw_at lw_m5 65 rfl) rfl
theorem q1146 : (Jvm.Cond.lays "java/lang/IndexOutOfBoundsException" "java/lang/Throwable" "cause" "Ljava/lang/Throwable;") ∈ lw_all := lw_g (lw_at lw_m5 66 rfl) rfl
theorem q1147 : (Jvm.Cond.lays "java/lang/IndexOutOfBoundsException" "java/lang/Throwable" "stackTrace" "[Ljava/lang/StackTraceElement;") ∈ lw_all := lw_g (lw_at lw_m5 67 rfl) rfl
theorem q1148 : (Jvm.Cond.lays "java/lang/IndexOutOfBoundsException" "java/lang/Throwable" "suppressedExceptions" "Ljava/util/List;") ∈ lw_all := lw_g (lw_at lw_m5 68 rfl) rfl
theorem q1149 : (Jvm.Cond.lays "java/lang/IndexOutOfBoundsException" "java/lang/Throwable" "detailMessage" "Ljava/lang/String;") ∈ lw_all := lw_g (lw_at lw_m5 69 rfl) rfl
theorem q1150 : (Jvm.Cond.lays "java/lang/IndexOutOfBoundsException" "java/lang/Throwable" "backtrace" "Ljava/lang/Object;") ∈ lw_all := lw_g (lw_at lw_m5 70 rfl) rfl
theorem q1152 : (Jvm.Cond.instanceMethod ({ cls := "java/lang/IndexOutOfBoundsException", name := "<init>", desc := "()V" } : Jvm.MethodName)) ∈ lw_all := lw_g (lw_at lw_m5 72 rfl) rfl
theorem q1153 : (Jvm.Cond.code ({ cls := "java/lang/IndexOutOfBoundsException", name := "<init>", desc := "()V" } : Jvm.MethodName) prog_23_method_1_code (1 : Nat) (Option.none : Option Jvm.ClassFile.FieldType)) ∈ lw_all := lw_g (lw_at lw_m5 73 rfl) rfl
theorem q1154 : (Jvm.Cond.methodLink "java/lang/IndexOutOfBoundsException" (1 : Nat) ({ cls := "java/lang/RuntimeException", name := "<init>", desc := "()V" } : Jvm.MethodName)) ∈ lw_all := lw_g (lw_at lw_m5 74 rfl) rfl
theorem q1155 : (Jvm.Cond.lays "java/lang/IndexOutOfBoundsException" "java/lang/Throwable" "depth" "I") ∈ lw_all := lw_g (lw_at lw_m5 75 rfl) rfl
theorem q1156 : (Jvm.Cond.superclass "java/lang/IndexOutOfBoundsException" "java/lang/RuntimeException") ∈ lw_all := lw_g (lw_at lw_m5 76 rfl) rfl
theorem q2122 : (Jvm.Cond.castable "java/lang/IndexOutOfBoundsException" "java/lang/Object") ∈ lw_tbl := lw_at lw_m9 82 rfl
theorem in_J10 : ∀ w ∈ wsJ100, w ∈ lw_all := lw_in wsJ100 [1146, 1147, 1148, 1149, 1150, 1155] (by decide +kernel) (by decide +kernel)

/-! java/util/NoSuchElementException -/
set_option maxRecDepth 100000
def RJ12 : String := "java/util/NoSuchElementException"
def TJ12 : u_T := fun k => match k with
  | 0 => ("java/lang/Throwable", "cause", "Ljava/lang/Throwable;", false)
  | 1 => ("java/lang/Throwable", "stackTrace", "[Ljava/lang/StackTraceElement;", false)
  | 2 => ("java/lang/Throwable", "suppressedExceptions", "Ljava/util/List;", false)
  | 3 => ("java/lang/Throwable", "detailMessage", "Ljava/lang/String;", false)
  | 4 => ("java/lang/Throwable", "backtrace", "Ljava/lang/Object;", false)
  | _ => ("java/lang/Throwable", "depth", "I", false)
def tyJ12 : Nat → FieldType := fun k => match k with
  | 0 => .object "java/lang/Throwable"
  | 1 => .array (.object "java/lang/StackTraceElement")
  | 2 => .object "java/util/List"
  | 3 => .object "java/lang/String"
  | 4 => .object "java/lang/Object"
  | _ => .int
abbrev wsJ120 : List Cond := u_ws RJ12 TJ12 6
theorem nmJ12 : ∀ a, a < 6 → ∀ b, b < 6 → a ≠ b → (TJ12 a).2.1 ≠ (TJ12 b).2.1 := by decide +kernel
theorem tyJ12_ok : ∀ k, k < 6 → parseFieldDescriptor (TJ12 k).2.2.1 = some (tyJ12 k) := by decide +kernel
abbrev cJ12_init : ByteArray := prog_33_method_1_code
def yJ12_init : MethodName := ⟨RJ12, "<init>", "()V"⟩
theorem dJ12_init_0 : decode cJ12_init 0 = .ok (.aload_n 0, 1) := by decide +kernel
theorem dJ12_init_1 : decode cJ12_init 1 = .ok (.invokespecial 1, 3) := by decide +kernel
theorem dJ12_init_4 : decode cJ12_init 4 = .ok (.return_, 1) := by decide +kernel
theorem q150 : (Jvm.Cond.initialized "java/util/NoSuchElementException") ∈ lw_all := lw_g (lw_at lw_m1 30 rfl) rfl
theorem q359 : (Jvm.Cond.selects "java/util/NoSuchElementException" ({ cls := "java/lang/Throwable", name := "fillInStackTrace", desc := "()Ljava/lang/Throwable;" } : Jvm.MethodName) ({ cls := "java/lang/Throwable", name := "fillInStackTrace", desc := "()Ljava/lang/Throwable;" } : Jvm.MethodName)) ∈ lw_all := lw_g (lw_at lw_m1 239 rfl) rfl
theorem q1158 : (Jvm.Cond.instantiable "java/util/NoSuchElementException" (6 : Nat)) ∈ lw_all := lw_g (lw_at lw_m5 78 rfl) rfl
theorem q1159 : (Jvm.Cond.castable "java/util/NoSuchElementException" "java/util/NoSuchElementException") ∈ lw_tbl := lw_at lw_m5 79 rfl
theorem q1160 : (Jvm.Cond.selects "java/util/NoSuchElementException" ({ cls := "java/lang/Throwable", name := "fillInStackTrace", desc := "(I)Ljava/lang/Throwable;" } : Jvm.MethodName) ({ cls := "java/lang/Throwable", name := "fillInStackTrace", desc := "(I)Ljava/lang/Throwable;" } : Jvm.MethodName)) ∈ lw_all := lw_g (lw_at lw_m5 80 rfl) rfl
theorem q1161 : (Jvm.Cond.lays "java/util/NoSuchElementException" "java/lang/Throwable" "cause" "Ljava/lang/Throwable;") ∈ lw_all := lw_g (lw_at lw_m5 81 rfl) rfl
theorem q1162 : (Jvm.Cond.lays "java/util/NoSuchElementException" "java/lang/Throwable" "stackTrace" "[Ljava/lang/StackTraceElement;") ∈ lw_all := lw_g (lw_at lw_m5 82 rfl) rfl
theorem q1163 : (Jvm.Cond.lays "java/util/NoSuchElementException" "java/lang/Throwable" "suppressedExceptions" "Ljava/util/List;") ∈ lw_all := lw_g (lw_at lw_m5 83 rfl) rfl
theorem q1164 : (Jvm.Cond.lays "java/util/NoSuchElementException" "java/lang/Throwable" "detailMessage" "Ljava/lang/String;") ∈ lw_all := lw_g (lw_at lw_m5 84 rfl) rfl
theorem q1165 : (Jvm.Cond.lays "java/util/NoSuchElementException" "java/lang/Throwable" "backtrace" "Ljava/lang/Object;") ∈ lw_all := lw_g (lw_at lw_m5 85 rfl) rfl
theorem q1167 : (Jvm.Cond.instanceMethod ({ cls := "java/util/NoSuchElementException", name := "<init>", desc := "()V" } : Jvm.MethodName)) ∈ lw_all := lw_g (lw_at lw_m5 87 rfl) rfl
theorem q1168 : (Jvm.Cond.code ({ cls := "java/util/NoSuchElementException", name := "<init>", desc := "()V" } : Jvm.MethodName) prog_33_method_1_code (1 : Nat) (Option.none : Option Jvm.ClassFile.FieldType)) ∈ lw_all := lw_g (lw_at lw_m5 88 rfl) rfl
theorem q1169 : (Jvm.Cond.methodLink "java/util/NoSuchElementException" (1 : Nat) ({ cls := "java/lang/RuntimeException", name := "<init>", desc := "()V" } : Jvm.MethodName)) ∈ lw_all := lw_g (lw_at lw_m5 89 rfl) rfl
theorem q1170 : (Jvm.Cond.lays "java/util/NoSuchElementException" "java/lang/Throwable" "depth" "I") ∈ lw_all := lw_g (lw_at lw_m5 90 rfl) rfl
theorem q1171 : (Jvm.Cond.superclass "java/util/NoSuchElementException" "java/lang/RuntimeException") ∈ lw_all := lw_g (lw_at lw_m5 91 rfl) rfl
theorem q2123 : (Jvm.Cond.castable "java/util/NoSuchElementException" "java/lang/Object") ∈ lw_tbl := lw_at lw_m9 83 rfl
theorem in_J12 : ∀ w ∈ wsJ120, w ∈ lw_all := lw_in wsJ120 [1161, 1162, 1163, 1164, 1165, 1170] (by decide +kernel) (by decide +kernel)

/-! java/lang/Math -/
set_option maxRecDepth 100000
def RJ13 : String := "java/lang/Math"
abbrev cJ13_max : ByteArray := prog_25_method_65_code
def yJ13_max : MethodName := ⟨RJ13, "max", "(II)I"⟩
def dkwJ13_max_0 : List UInt8 := [26, 27, 161, 0, 7, 26, 167, 0, 4, 27, 172]
abbrev dktJ13_max_0 : List UInt8 := dkwJ13_max_0 ++ []
theorem dksJ13_max_0 : cJ13_max.data.toList.drop 0 = dktJ13_max_0 := by decide +kernel
theorem dJ13_max_0 : decode cJ13_max 0 = .ok (.iload_n 0, 1) := dk_26 (dk_at dksJ13_max_0 0 rfl rfl)
theorem dJ13_max_1 : decode cJ13_max 1 = .ok (.iload_n 1, 1) := dk_27 (dk_at dksJ13_max_0 1 rfl rfl)
theorem dJ13_max_2 : decode cJ13_max 2 = .ok (.if_icmp .lt 7, 3) := dk_161 0 7 (dk_at dksJ13_max_0 2 rfl rfl)
theorem dJ13_max_5 : decode cJ13_max 5 = .ok (.iload_n 0, 1) := dk_26 (dk_at dksJ13_max_0 5 rfl rfl)
theorem dJ13_max_6 : decode cJ13_max 6 = .ok (.goto 4, 3) := dk_167 0 4 (dk_at dksJ13_max_0 6 rfl rfl)
theorem dJ13_max_9 : decode cJ13_max 9 = .ok (.iload_n 1, 1) := dk_27 (dk_at dksJ13_max_0 9 rfl rfl)
theorem dJ13_max_10 : decode cJ13_max 10 = .ok (.ireturn, 1) := dk_172 (dk_at dksJ13_max_0 10 rfl rfl)
abbrev cJ13_min : ByteArray := prog_25_method_69_code
def yJ13_min : MethodName := ⟨RJ13, "min", "(II)I"⟩
def dkwJ13_min_0 : List UInt8 := [26, 27, 163, 0, 7, 26, 167, 0, 4, 27, 172]
abbrev dktJ13_min_0 : List UInt8 := dkwJ13_min_0 ++ []
theorem dksJ13_min_0 : cJ13_min.data.toList.drop 0 = dktJ13_min_0 := by decide +kernel
theorem dJ13_min_0 : decode cJ13_min 0 = .ok (.iload_n 0, 1) := dk_26 (dk_at dksJ13_min_0 0 rfl rfl)
theorem dJ13_min_1 : decode cJ13_min 1 = .ok (.iload_n 1, 1) := dk_27 (dk_at dksJ13_min_0 1 rfl rfl)
theorem dJ13_min_2 : decode cJ13_min 2 = .ok (.if_icmp .gt 7, 3) := dk_163 0 7 (dk_at dksJ13_min_0 2 rfl rfl)
theorem dJ13_min_5 : decode cJ13_min 5 = .ok (.iload_n 0, 1) := dk_26 (dk_at dksJ13_min_0 5 rfl rfl)
theorem dJ13_min_6 : decode cJ13_min 6 = .ok (.goto 4, 3) := dk_167 0 4 (dk_at dksJ13_min_0 6 rfl rfl)
theorem dJ13_min_9 : decode cJ13_min 9 = .ok (.iload_n 1, 1) := dk_27 (dk_at dksJ13_min_0 9 rfl rfl)
theorem dJ13_min_10 : decode cJ13_min 10 = .ok (.ireturn, 1) := dk_172 (dk_at dksJ13_min_0 10 rfl rfl)
theorem q151 : (Jvm.Cond.initialized "java/lang/Math") ∈ lw_all := lw_g (lw_at lw_m1 31 rfl) rfl
theorem q564 : (Jvm.Cond.static ({ cls := "java/lang/Math", name := "max", desc := "(II)I" } : Jvm.MethodName)) ∈ lw_all := lw_g (lw_at lw_m2 204 rfl) rfl
theorem q565 : (Jvm.Cond.code ({ cls := "java/lang/Math", name := "max", desc := "(II)I" } : Jvm.MethodName) prog_25_method_65_code (2 : Nat) (Option.some Jvm.ClassFile.FieldType.int)) ∈ lw_all := lw_g (lw_at lw_m2 205 rfl) rfl
theorem q740 : (Jvm.Cond.static ({ cls := "java/lang/Math", name := "min", desc := "(II)I" } : Jvm.MethodName)) ∈ lw_all := lw_g (lw_at lw_m3 140 rfl) rfl
theorem q741 : (Jvm.Cond.code ({ cls := "java/lang/Math", name := "min", desc := "(II)I" } : Jvm.MethodName) prog_25_method_69_code (2 : Nat) (Option.some Jvm.ClassFile.FieldType.int)) ∈ lw_all := lw_g (lw_at lw_m3 141 rfl) rfl

/-! java/lang/IllegalStateException -/
set_option maxRecDepth 100000
def RJ14 : String := "java/lang/IllegalStateException"
def TJ14 : u_T := fun k => match k with
  | 0 => ("java/lang/Throwable", "cause", "Ljava/lang/Throwable;", false)
  | 1 => ("java/lang/Throwable", "stackTrace", "[Ljava/lang/StackTraceElement;", false)
  | 2 => ("java/lang/Throwable", "suppressedExceptions", "Ljava/util/List;", false)
  | 3 => ("java/lang/Throwable", "detailMessage", "Ljava/lang/String;", false)
  | 4 => ("java/lang/Throwable", "backtrace", "Ljava/lang/Object;", false)
  | _ => ("java/lang/Throwable", "depth", "I", false)
def tyJ14 : Nat → FieldType := fun k => match k with
  | 0 => .object "java/lang/Throwable"
  | 1 => .array (.object "java/lang/StackTraceElement")
  | 2 => .object "java/util/List"
  | 3 => .object "java/lang/String"
  | 4 => .object "java/lang/Object"
  | _ => .int
abbrev wsJ140 : List Cond := u_ws RJ14 TJ14 6
theorem nmJ14 : ∀ a, a < 6 → ∀ b, b < 6 → a ≠ b → (TJ14 a).2.1 ≠ (TJ14 b).2.1 := by decide +kernel
theorem tyJ14_ok : ∀ k, k < 6 → parseFieldDescriptor (TJ14 k).2.2.1 = some (tyJ14 k) := by decide +kernel
abbrev cJ14_init : ByteArray := prog_22_method_1_code
def yJ14_init : MethodName := ⟨RJ14, "<init>", "()V"⟩
theorem dJ14_init_0 : decode cJ14_init 0 = .ok (.aload_n 0, 1) := by decide +kernel
theorem dJ14_init_1 : decode cJ14_init 1 = .ok (.invokespecial 1, 3) := by decide +kernel
theorem dJ14_init_4 : decode cJ14_init 4 = .ok (.return_, 1) := by decide +kernel
theorem q152 : (Jvm.Cond.initialized "java/lang/IllegalStateException") ∈ lw_all := lw_g (lw_at lw_m1 32 rfl) rfl
theorem q356 : (Jvm.Cond.selects "java/lang/IllegalStateException" ({ cls := "java/lang/Throwable", name := "fillInStackTrace", desc := "()Ljava/lang/Throwable;" } : Jvm.MethodName) ({ cls := "java/lang/Throwable", name := "fillInStackTrace", desc := "()Ljava/lang/Throwable;" } : Jvm.MethodName)) ∈ lw_all := lw_g (lw_at lw_m1 236 rfl) rfl
theorem q1216 : (Jvm.Cond.instantiable "java/lang/IllegalStateException" (6 : Nat)) ∈ lw_all := lw_g (lw_at lw_m5 136 rfl) rfl
theorem q1217 : (Jvm.Cond.castable "java/lang/IllegalStateException" "java/lang/IllegalStateException") ∈ lw_tbl := lw_at lw_m5 137 rfl
theorem q1218 : (Jvm.Cond.selects "java/lang/IllegalStateException" ({ cls := "java/lang/Throwable", name := "fillInStackTrace", desc := "(I)Ljava/lang/Throwable;" } : Jvm.MethodName) ({ cls := "java/lang/Throwable", name := "fillInStackTrace", desc := "(I)Ljava/lang/Throwable;" } : Jvm.MethodName)) ∈ lw_all := lw_g (lw_at lw_m5 138 rfl) rfl
theorem q1219 : (Jvm.Cond.lays "java/lang/IllegalStateException" "java/lang/Throwable" "cause" "Ljava/lang/Throwable;") ∈ lw_all := lw_g (lw_at lw_m5 139 rfl) rfl
theorem q1220 : (Jvm.Cond.lays "java/lang/IllegalStateException" "java/lang/Throwable" "stackTrace" "[Ljava/lang/StackTraceElement;") ∈ lw_all := lw_g (lw_at lw_m5 140 rfl) rfl
theorem q1221 : (Jvm.Cond.lays "java/lang/IllegalStateException" "java/lang/Throwable" "suppressedExceptions" "Ljava/util/List;") ∈ lw_all := lw_g (lw_at lw_m5 141 rfl) rfl
theorem q1222 : (Jvm.Cond.lays "java/lang/IllegalStateException" "java/lang/Throwable" "detailMessage" "Ljava/lang/String;") ∈ lw_all := lw_g (lw_at lw_m5 142 rfl) rfl
theorem q1223 : (Jvm.Cond.lays "java/lang/IllegalStateException" "java/lang/Throwable" "backtrace" "Ljava/lang/Object;") ∈ lw_all := lw_g (lw_at lw_m5 143 rfl) rfl
theorem q1225 : (Jvm.Cond.instanceMethod ({ cls := "java/lang/IllegalStateException", name := "<init>", desc := "()V" } : Jvm.MethodName)) ∈ lw_all := lw_g (lw_at lw_m5 145 rfl) rfl
theorem q1226 : (Jvm.Cond.code ({ cls := "java/lang/IllegalStateException", name := "<init>", desc := "()V" } : Jvm.MethodName) prog_22_method_1_code (1 : Nat) (Option.none : Option Jvm.ClassFile.FieldType)) ∈ lw_all := lw_g (lw_at lw_m5 146 rfl) rfl
theorem q1227 : (Jvm.Cond.methodLink "java/lang/IllegalStateException" (1 : Nat) ({ cls := "java/lang/RuntimeException", name := "<init>", desc := "()V" } : Jvm.MethodName)) ∈ lw_all := lw_g (lw_at lw_m5 147 rfl) rfl
theorem q1228 : (Jvm.Cond.lays "java/lang/IllegalStateException" "java/lang/Throwable" "depth" "I") ∈ lw_all := lw_g (lw_at lw_m5 148 rfl) rfl
theorem q1229 : (Jvm.Cond.superclass "java/lang/IllegalStateException" "java/lang/RuntimeException") ∈ lw_all := lw_g (lw_at lw_m5 149 rfl) rfl
theorem q2124 : (Jvm.Cond.castable "java/lang/IllegalStateException" "java/lang/Object") ∈ lw_tbl := lw_at lw_m9 84 rfl
theorem in_J14 : ∀ w ∈ wsJ140, w ∈ lw_all := lw_in wsJ140 [1219, 1220, 1221, 1222, 1223, 1228] (by decide +kernel) (by decide +kernel)

/-! java/lang/Object -/
set_option maxRecDepth 100000
def RJ15 : String := "java/lang/Object"
abbrev cJ15_init : ByteArray := object_method_1_code
def yJ15_init : MethodName := ⟨RJ15, "<init>", "()V"⟩
theorem dJ15_init_0 : decode cJ15_init 0 = .ok (.return_, 1) := by decide +kernel
theorem q159 : (Jvm.Cond.instanceMethod ({ cls := "java/lang/Object", name := "<init>", desc := "()V" } : Jvm.MethodName)) ∈ lw_all := lw_g (lw_at lw_m1 39 rfl) rfl
theorem q160 : (Jvm.Cond.code ({ cls := "java/lang/Object", name := "<init>", desc := "()V" } : Jvm.MethodName) object_method_1_code (1 : Nat) (Option.none : Option Jvm.ClassFile.FieldType)) ∈ lw_all := lw_g (lw_at lw_m1 40 rfl) rfl

/-! GhostAssizeLaw -/
set_option maxRecDepth 100000
def RX0 : String := "GhostAssizeLaw"
abbrev cX0_court : ByteArray := method_3_code
def yX0_court : MethodName := ⟨RX0, "court", "(LGhostAssize;[J)I"⟩
def dkwX0_court_0 : List UInt8 := [43, 3, 42, 182, 0, 7, 133, 80, 167, 0, 9, 77, 4, 172, 77, 5, 172, 3, 172]
abbrev dktX0_court_0 : List UInt8 := dkwX0_court_0 ++ []
theorem dksX0_court_0 : cX0_court.data.toList.drop 0 = dktX0_court_0 := by decide +kernel
theorem dX0_court_0 : decode cX0_court 0 = .ok (.aload_n 1, 1) := dk_43 (dk_at dksX0_court_0 0 rfl rfl)
theorem dX0_court_1 : decode cX0_court 1 = .ok (.iconst 0, 1) := dk_3 (dk_at dksX0_court_0 1 rfl rfl)
theorem dX0_court_2 : decode cX0_court 2 = .ok (.aload_n 0, 1) := dk_42 (dk_at dksX0_court_0 2 rfl rfl)
theorem dX0_court_3 : decode cX0_court 3 = .ok (.invokevirtual 7, 3) := dk_182 0 7 (dk_at dksX0_court_0 3 rfl rfl)
theorem dX0_court_6 : decode cX0_court 6 = .ok (.i2l, 1) := dk_133 (dk_at dksX0_court_0 6 rfl rfl)
theorem dX0_court_7 : decode cX0_court 7 = .ok (.lastore, 1) := dk_80 (dk_at dksX0_court_0 7 rfl rfl)
theorem dX0_court_8 : decode cX0_court 8 = .ok (.goto 9, 3) := dk_167 0 9 (dk_at dksX0_court_0 8 rfl rfl)
theorem dX0_court_11 : decode cX0_court 11 = .ok (.astore_n 2, 1) := dk_77 (dk_at dksX0_court_0 11 rfl rfl)
theorem dX0_court_12 : decode cX0_court 12 = .ok (.iconst 1, 1) := dk_4 (dk_at dksX0_court_0 12 rfl rfl)
theorem dX0_court_13 : decode cX0_court 13 = .ok (.ireturn, 1) := dk_172 (dk_at dksX0_court_0 13 rfl rfl)
theorem dX0_court_14 : decode cX0_court 14 = .ok (.astore_n 2, 1) := dk_77 (dk_at dksX0_court_0 14 rfl rfl)
theorem dX0_court_15 : decode cX0_court 15 = .ok (.iconst 2, 1) := dk_5 (dk_at dksX0_court_0 15 rfl rfl)
theorem dX0_court_16 : decode cX0_court 16 = .ok (.ireturn, 1) := dk_172 (dk_at dksX0_court_0 16 rfl rfl)
theorem dX0_court_17 : decode cX0_court 17 = .ok (.iconst 0, 1) := dk_3 (dk_at dksX0_court_0 17 rfl rfl)
theorem dX0_court_18 : decode cX0_court 18 = .ok (.ireturn, 1) := dk_172 (dk_at dksX0_court_0 18 rfl rfl)
abbrev cX0_law : ByteArray := method_4_code
def yX0_law : MethodName := ⟨RX0, "law", "(LGhostAssize;[J)I"⟩
def dkwX0_law_0 : List UInt8 := [43, 3, 42, 182, 0, 17, 133, 80, 167, 0, 6, 77, 4, 172, 3, 172]
abbrev dktX0_law_0 : List UInt8 := dkwX0_law_0 ++ []
theorem dksX0_law_0 : cX0_law.data.toList.drop 0 = dktX0_law_0 := by decide +kernel
theorem dX0_law_0 : decode cX0_law 0 = .ok (.aload_n 1, 1) := dk_43 (dk_at dksX0_law_0 0 rfl rfl)
theorem dX0_law_1 : decode cX0_law 1 = .ok (.iconst 0, 1) := dk_3 (dk_at dksX0_law_0 1 rfl rfl)
theorem dX0_law_2 : decode cX0_law 2 = .ok (.aload_n 0, 1) := dk_42 (dk_at dksX0_law_0 2 rfl rfl)
theorem dX0_law_3 : decode cX0_law 3 = .ok (.invokevirtual 17, 3) := dk_182 0 17 (dk_at dksX0_law_0 3 rfl rfl)
theorem dX0_law_6 : decode cX0_law 6 = .ok (.i2l, 1) := dk_133 (dk_at dksX0_law_0 6 rfl rfl)
theorem dX0_law_7 : decode cX0_law 7 = .ok (.lastore, 1) := dk_80 (dk_at dksX0_law_0 7 rfl rfl)
theorem dX0_law_8 : decode cX0_law 8 = .ok (.goto 6, 3) := dk_167 0 6 (dk_at dksX0_law_0 8 rfl rfl)
theorem dX0_law_11 : decode cX0_law 11 = .ok (.astore_n 2, 1) := dk_77 (dk_at dksX0_law_0 11 rfl rfl)
theorem dX0_law_12 : decode cX0_law 12 = .ok (.iconst 1, 1) := dk_4 (dk_at dksX0_law_0 12 rfl rfl)
theorem dX0_law_13 : decode cX0_law 13 = .ok (.ireturn, 1) := dk_172 (dk_at dksX0_law_0 13 rfl rfl)
theorem dX0_law_14 : decode cX0_law 14 = .ok (.iconst 0, 1) := dk_3 (dk_at dksX0_law_0 14 rfl rfl)
theorem dX0_law_15 : decode cX0_law 15 = .ok (.ireturn, 1) := dk_172 (dk_at dksX0_law_0 15 rfl rfl)
abbrev cX0_prop : ByteArray := method_5_code
def yX0_prop : MethodName := ⟨RX0, "prop", "(LGhostAssize;II[J)I"⟩
def dkwX0_prop_0 : List UInt8 := [45, 3, 42, 27, 28, 182, 0, 20, 133, 80, 167, 0, 11, 58, 4, 4, 172, 58, 4, 5, 172, 3, 172]
abbrev dktX0_prop_0 : List UInt8 := dkwX0_prop_0 ++ []
theorem dksX0_prop_0 : cX0_prop.data.toList.drop 0 = dktX0_prop_0 := by decide +kernel
theorem dX0_prop_0 : decode cX0_prop 0 = .ok (.aload_n 3, 1) := dk_45 (dk_at dksX0_prop_0 0 rfl rfl)
theorem dX0_prop_1 : decode cX0_prop 1 = .ok (.iconst 0, 1) := dk_3 (dk_at dksX0_prop_0 1 rfl rfl)
theorem dX0_prop_2 : decode cX0_prop 2 = .ok (.aload_n 0, 1) := dk_42 (dk_at dksX0_prop_0 2 rfl rfl)
theorem dX0_prop_3 : decode cX0_prop 3 = .ok (.iload_n 1, 1) := dk_27 (dk_at dksX0_prop_0 3 rfl rfl)
theorem dX0_prop_4 : decode cX0_prop 4 = .ok (.iload_n 2, 1) := dk_28 (dk_at dksX0_prop_0 4 rfl rfl)
theorem dX0_prop_5 : decode cX0_prop 5 = .ok (.invokevirtual 20, 3) := dk_182 0 20 (dk_at dksX0_prop_0 5 rfl rfl)
theorem dX0_prop_8 : decode cX0_prop 8 = .ok (.i2l, 1) := dk_133 (dk_at dksX0_prop_0 8 rfl rfl)
theorem dX0_prop_9 : decode cX0_prop 9 = .ok (.lastore, 1) := dk_80 (dk_at dksX0_prop_0 9 rfl rfl)
theorem dX0_prop_10 : decode cX0_prop 10 = .ok (.goto 11, 3) := dk_167 0 11 (dk_at dksX0_prop_0 10 rfl rfl)
theorem dX0_prop_13 : decode cX0_prop 13 = .ok (.astore 4, 2) := dk_58 4 (dk_at dksX0_prop_0 13 rfl rfl)
theorem dX0_prop_15 : decode cX0_prop 15 = .ok (.iconst 1, 1) := dk_4 (dk_at dksX0_prop_0 15 rfl rfl)
theorem dX0_prop_16 : decode cX0_prop 16 = .ok (.ireturn, 1) := dk_172 (dk_at dksX0_prop_0 16 rfl rfl)
theorem dX0_prop_17 : decode cX0_prop 17 = .ok (.astore 4, 2) := dk_58 4 (dk_at dksX0_prop_0 17 rfl rfl)
theorem dX0_prop_19 : decode cX0_prop 19 = .ok (.iconst 2, 1) := dk_5 (dk_at dksX0_prop_0 19 rfl rfl)
theorem dX0_prop_20 : decode cX0_prop 20 = .ok (.ireturn, 1) := dk_172 (dk_at dksX0_prop_0 20 rfl rfl)
theorem dX0_prop_21 : decode cX0_prop 21 = .ok (.iconst 0, 1) := dk_3 (dk_at dksX0_prop_0 21 rfl rfl)
theorem dX0_prop_22 : decode cX0_prop 22 = .ok (.ireturn, 1) := dk_172 (dk_at dksX0_prop_0 22 rfl rfl)
abbrev cX0_slot : ByteArray := method_6_code
def yX0_slot : MethodName := ⟨RX0, "slot", "(LGhostAssize;I[J)I"⟩
def dkwX0_slot_0 : List UInt8 := [44, 3, 42, 27, 182, 0, 28, 133, 80, 167, 0, 6, 78, 4, 172, 3, 172]
abbrev dktX0_slot_0 : List UInt8 := dkwX0_slot_0 ++ []
theorem dksX0_slot_0 : cX0_slot.data.toList.drop 0 = dktX0_slot_0 := by decide +kernel
theorem dX0_slot_0 : decode cX0_slot 0 = .ok (.aload_n 2, 1) := dk_44 (dk_at dksX0_slot_0 0 rfl rfl)
theorem dX0_slot_1 : decode cX0_slot 1 = .ok (.iconst 0, 1) := dk_3 (dk_at dksX0_slot_0 1 rfl rfl)
theorem dX0_slot_2 : decode cX0_slot 2 = .ok (.aload_n 0, 1) := dk_42 (dk_at dksX0_slot_0 2 rfl rfl)
theorem dX0_slot_3 : decode cX0_slot 3 = .ok (.iload_n 1, 1) := dk_27 (dk_at dksX0_slot_0 3 rfl rfl)
theorem dX0_slot_4 : decode cX0_slot 4 = .ok (.invokevirtual 28, 3) := dk_182 0 28 (dk_at dksX0_slot_0 4 rfl rfl)
theorem dX0_slot_7 : decode cX0_slot 7 = .ok (.i2l, 1) := dk_133 (dk_at dksX0_slot_0 7 rfl rfl)
theorem dX0_slot_8 : decode cX0_slot 8 = .ok (.lastore, 1) := dk_80 (dk_at dksX0_slot_0 8 rfl rfl)
theorem dX0_slot_9 : decode cX0_slot 9 = .ok (.goto 6, 3) := dk_167 0 6 (dk_at dksX0_slot_0 9 rfl rfl)
theorem dX0_slot_12 : decode cX0_slot 12 = .ok (.astore_n 3, 1) := dk_78 (dk_at dksX0_slot_0 12 rfl rfl)
theorem dX0_slot_13 : decode cX0_slot 13 = .ok (.iconst 1, 1) := dk_4 (dk_at dksX0_slot_0 13 rfl rfl)
theorem dX0_slot_14 : decode cX0_slot 14 = .ok (.ireturn, 1) := dk_172 (dk_at dksX0_slot_0 14 rfl rfl)
theorem dX0_slot_15 : decode cX0_slot 15 = .ok (.iconst 0, 1) := dk_3 (dk_at dksX0_slot_0 15 rfl rfl)
theorem dX0_slot_16 : decode cX0_slot 16 = .ok (.ireturn, 1) := dk_172 (dk_at dksX0_slot_0 16 rfl rfl)
abbrev cX0_accused : ByteArray := method_7_code
def yX0_accused : MethodName := ⟨RX0, "accused", "(LGhostAssize;II[J)I"⟩
def dkwX0_accused_0 : List UInt8 := [45, 3, 42, 27, 28, 182, 0, 32, 133, 80, 167, 0, 11, 58, 4, 4, 172, 58, 4, 5, 172, 3, 172]
abbrev dktX0_accused_0 : List UInt8 := dkwX0_accused_0 ++ []
theorem dksX0_accused_0 : cX0_accused.data.toList.drop 0 = dktX0_accused_0 := by decide +kernel
theorem dX0_accused_0 : decode cX0_accused 0 = .ok (.aload_n 3, 1) := dk_45 (dk_at dksX0_accused_0 0 rfl rfl)
theorem dX0_accused_1 : decode cX0_accused 1 = .ok (.iconst 0, 1) := dk_3 (dk_at dksX0_accused_0 1 rfl rfl)
theorem dX0_accused_2 : decode cX0_accused 2 = .ok (.aload_n 0, 1) := dk_42 (dk_at dksX0_accused_0 2 rfl rfl)
theorem dX0_accused_3 : decode cX0_accused 3 = .ok (.iload_n 1, 1) := dk_27 (dk_at dksX0_accused_0 3 rfl rfl)
theorem dX0_accused_4 : decode cX0_accused 4 = .ok (.iload_n 2, 1) := dk_28 (dk_at dksX0_accused_0 4 rfl rfl)
theorem dX0_accused_5 : decode cX0_accused 5 = .ok (.invokevirtual 32, 3) := dk_182 0 32 (dk_at dksX0_accused_0 5 rfl rfl)
theorem dX0_accused_8 : decode cX0_accused 8 = .ok (.i2l, 1) := dk_133 (dk_at dksX0_accused_0 8 rfl rfl)
theorem dX0_accused_9 : decode cX0_accused 9 = .ok (.lastore, 1) := dk_80 (dk_at dksX0_accused_0 9 rfl rfl)
theorem dX0_accused_10 : decode cX0_accused 10 = .ok (.goto 11, 3) := dk_167 0 11 (dk_at dksX0_accused_0 10 rfl rfl)
theorem dX0_accused_13 : decode cX0_accused 13 = .ok (.astore 4, 2) := dk_58 4 (dk_at dksX0_accused_0 13 rfl rfl)
theorem dX0_accused_15 : decode cX0_accused 15 = .ok (.iconst 1, 1) := dk_4 (dk_at dksX0_accused_0 15 rfl rfl)
theorem dX0_accused_16 : decode cX0_accused 16 = .ok (.ireturn, 1) := dk_172 (dk_at dksX0_accused_0 16 rfl rfl)
theorem dX0_accused_17 : decode cX0_accused 17 = .ok (.astore 4, 2) := dk_58 4 (dk_at dksX0_accused_0 17 rfl rfl)
theorem dX0_accused_19 : decode cX0_accused 19 = .ok (.iconst 2, 1) := dk_5 (dk_at dksX0_accused_0 19 rfl rfl)
theorem dX0_accused_20 : decode cX0_accused 20 = .ok (.ireturn, 1) := dk_172 (dk_at dksX0_accused_0 20 rfl rfl)
theorem dX0_accused_21 : decode cX0_accused 21 = .ok (.iconst 0, 1) := dk_3 (dk_at dksX0_accused_0 21 rfl rfl)
theorem dX0_accused_22 : decode cX0_accused 22 = .ok (.ireturn, 1) := dk_172 (dk_at dksX0_accused_0 22 rfl rfl)
abbrev cX0_fright : ByteArray := method_8_code
def yX0_fright : MethodName := ⟨RX0, "fright", "(LGhostAssize;IIIZ[J)I"⟩
def dkwX0_fright_1 : List UInt8 := [172, 3, 172]
abbrev dktX0_fright_1 : List UInt8 := dkwX0_fright_1 ++ []
def dkwX0_fright_0 : List UInt8 := [25, 5, 3, 42, 27, 28, 29, 21, 4, 182, 0, 35, 133, 80, 167, 0, 11, 58, 6, 4, 172, 58, 6, 5]
abbrev dktX0_fright_0 : List UInt8 := dkwX0_fright_0 ++ dktX0_fright_1
theorem dksX0_fright_0 : cX0_fright.data.toList.drop 0 = dktX0_fright_0 := by decide +kernel
theorem dksX0_fright_1 : cX0_fright.data.toList.drop 24 = dktX0_fright_1 := dk_seg dksX0_fright_0 24 rfl rfl
theorem dX0_fright_0 : decode cX0_fright 0 = .ok (.aload 5, 2) := dk_25 5 (dk_at dksX0_fright_0 0 rfl rfl)
theorem dX0_fright_2 : decode cX0_fright 2 = .ok (.iconst 0, 1) := dk_3 (dk_at dksX0_fright_0 2 rfl rfl)
theorem dX0_fright_3 : decode cX0_fright 3 = .ok (.aload_n 0, 1) := dk_42 (dk_at dksX0_fright_0 3 rfl rfl)
theorem dX0_fright_4 : decode cX0_fright 4 = .ok (.iload_n 1, 1) := dk_27 (dk_at dksX0_fright_0 4 rfl rfl)
theorem dX0_fright_5 : decode cX0_fright 5 = .ok (.iload_n 2, 1) := dk_28 (dk_at dksX0_fright_0 5 rfl rfl)
theorem dX0_fright_6 : decode cX0_fright 6 = .ok (.iload_n 3, 1) := dk_29 (dk_at dksX0_fright_0 6 rfl rfl)
theorem dX0_fright_7 : decode cX0_fright 7 = .ok (.iload 4, 2) := dk_21 4 (dk_at dksX0_fright_0 7 rfl rfl)
theorem dX0_fright_9 : decode cX0_fright 9 = .ok (.invokevirtual 35, 3) := dk_182 0 35 (dk_at dksX0_fright_0 9 rfl rfl)
theorem dX0_fright_12 : decode cX0_fright 12 = .ok (.i2l, 1) := dk_133 (dk_at dksX0_fright_0 12 rfl rfl)
theorem dX0_fright_13 : decode cX0_fright 13 = .ok (.lastore, 1) := dk_80 (dk_at dksX0_fright_0 13 rfl rfl)
theorem dX0_fright_14 : decode cX0_fright 14 = .ok (.goto 11, 3) := dk_167 0 11 (dk_at dksX0_fright_0 14 rfl rfl)
theorem dX0_fright_17 : decode cX0_fright 17 = .ok (.astore 6, 2) := dk_58 6 (dk_at dksX0_fright_0 17 rfl rfl)
theorem dX0_fright_19 : decode cX0_fright 19 = .ok (.iconst 1, 1) := dk_4 (dk_at dksX0_fright_0 19 rfl rfl)
theorem dX0_fright_20 : decode cX0_fright 20 = .ok (.ireturn, 1) := dk_172 (dk_at dksX0_fright_0 20 rfl rfl)
theorem dX0_fright_21 : decode cX0_fright 21 = .ok (.astore 6, 2) := dk_58 6 (dk_at dksX0_fright_0 21 rfl rfl)
theorem dX0_fright_23 : decode cX0_fright 23 = .ok (.iconst 2, 1) := dk_5 (dk_at dksX0_fright_0 23 rfl rfl)
theorem dX0_fright_24 : decode cX0_fright 24 = .ok (.ireturn, 1) := dk_172 (dk_at dksX0_fright_1 0 rfl rfl)
theorem dX0_fright_25 : decode cX0_fright 25 = .ok (.iconst 0, 1) := dk_3 (dk_at dksX0_fright_1 1 rfl rfl)
theorem dX0_fright_26 : decode cX0_fright 26 = .ok (.ireturn, 1) := dk_172 (dk_at dksX0_fright_1 2 rfl rfl)
abbrev cX0_send : ByteArray := method_9_code
def yX0_send : MethodName := ⟨RX0, "send", "(LGhostAssize;I[J)I"⟩
def dkwX0_send_0 : List UInt8 := [44, 3, 42, 27, 182, 0, 39, 133, 80, 167, 0, 9, 78, 4, 172, 78, 5, 172, 3, 172]
abbrev dktX0_send_0 : List UInt8 := dkwX0_send_0 ++ []
theorem dksX0_send_0 : cX0_send.data.toList.drop 0 = dktX0_send_0 := by decide +kernel
theorem dX0_send_0 : decode cX0_send 0 = .ok (.aload_n 2, 1) := dk_44 (dk_at dksX0_send_0 0 rfl rfl)
theorem dX0_send_1 : decode cX0_send 1 = .ok (.iconst 0, 1) := dk_3 (dk_at dksX0_send_0 1 rfl rfl)
theorem dX0_send_2 : decode cX0_send 2 = .ok (.aload_n 0, 1) := dk_42 (dk_at dksX0_send_0 2 rfl rfl)
theorem dX0_send_3 : decode cX0_send 3 = .ok (.iload_n 1, 1) := dk_27 (dk_at dksX0_send_0 3 rfl rfl)
theorem dX0_send_4 : decode cX0_send 4 = .ok (.invokevirtual 39, 3) := dk_182 0 39 (dk_at dksX0_send_0 4 rfl rfl)
theorem dX0_send_7 : decode cX0_send 7 = .ok (.i2l, 1) := dk_133 (dk_at dksX0_send_0 7 rfl rfl)
theorem dX0_send_8 : decode cX0_send 8 = .ok (.lastore, 1) := dk_80 (dk_at dksX0_send_0 8 rfl rfl)
theorem dX0_send_9 : decode cX0_send 9 = .ok (.goto 9, 3) := dk_167 0 9 (dk_at dksX0_send_0 9 rfl rfl)
theorem dX0_send_12 : decode cX0_send 12 = .ok (.astore_n 3, 1) := dk_78 (dk_at dksX0_send_0 12 rfl rfl)
theorem dX0_send_13 : decode cX0_send 13 = .ok (.iconst 1, 1) := dk_4 (dk_at dksX0_send_0 13 rfl rfl)
theorem dX0_send_14 : decode cX0_send 14 = .ok (.ireturn, 1) := dk_172 (dk_at dksX0_send_0 14 rfl rfl)
theorem dX0_send_15 : decode cX0_send 15 = .ok (.astore_n 3, 1) := dk_78 (dk_at dksX0_send_0 15 rfl rfl)
theorem dX0_send_16 : decode cX0_send 16 = .ok (.iconst 2, 1) := dk_5 (dk_at dksX0_send_0 16 rfl rfl)
theorem dX0_send_17 : decode cX0_send 17 = .ok (.ireturn, 1) := dk_172 (dk_at dksX0_send_0 17 rfl rfl)
theorem dX0_send_18 : decode cX0_send 18 = .ok (.iconst 0, 1) := dk_3 (dk_at dksX0_send_0 18 rfl rfl)
theorem dX0_send_19 : decode cX0_send 19 = .ok (.ireturn, 1) := dk_172 (dk_at dksX0_send_0 19 rfl rfl)
abbrev cX0_nail : ByteArray := method_10_code
def yX0_nail : MethodName := ⟨RX0, "nail", "(LGhostAssize;II)I"⟩
def dkwX0_nail_0 : List UInt8 := [42, 27, 28, 182, 0, 44, 167, 0, 9, 78, 4, 172, 78, 5, 172, 3, 172]
abbrev dktX0_nail_0 : List UInt8 := dkwX0_nail_0 ++ []
theorem dksX0_nail_0 : cX0_nail.data.toList.drop 0 = dktX0_nail_0 := by decide +kernel
theorem dX0_nail_0 : decode cX0_nail 0 = .ok (.aload_n 0, 1) := dk_42 (dk_at dksX0_nail_0 0 rfl rfl)
theorem dX0_nail_1 : decode cX0_nail 1 = .ok (.iload_n 1, 1) := dk_27 (dk_at dksX0_nail_0 1 rfl rfl)
theorem dX0_nail_2 : decode cX0_nail 2 = .ok (.iload_n 2, 1) := dk_28 (dk_at dksX0_nail_0 2 rfl rfl)
theorem dX0_nail_3 : decode cX0_nail 3 = .ok (.invokevirtual 44, 3) := dk_182 0 44 (dk_at dksX0_nail_0 3 rfl rfl)
theorem dX0_nail_6 : decode cX0_nail 6 = .ok (.goto 9, 3) := dk_167 0 9 (dk_at dksX0_nail_0 6 rfl rfl)
theorem dX0_nail_9 : decode cX0_nail 9 = .ok (.astore_n 3, 1) := dk_78 (dk_at dksX0_nail_0 9 rfl rfl)
theorem dX0_nail_10 : decode cX0_nail 10 = .ok (.iconst 1, 1) := dk_4 (dk_at dksX0_nail_0 10 rfl rfl)
theorem dX0_nail_11 : decode cX0_nail 11 = .ok (.ireturn, 1) := dk_172 (dk_at dksX0_nail_0 11 rfl rfl)
theorem dX0_nail_12 : decode cX0_nail 12 = .ok (.astore_n 3, 1) := dk_78 (dk_at dksX0_nail_0 12 rfl rfl)
theorem dX0_nail_13 : decode cX0_nail 13 = .ok (.iconst 2, 1) := dk_5 (dk_at dksX0_nail_0 13 rfl rfl)
theorem dX0_nail_14 : decode cX0_nail 14 = .ok (.ireturn, 1) := dk_172 (dk_at dksX0_nail_0 14 rfl rfl)
theorem dX0_nail_15 : decode cX0_nail 15 = .ok (.iconst 0, 1) := dk_3 (dk_at dksX0_nail_0 15 rfl rfl)
theorem dX0_nail_16 : decode cX0_nail 16 = .ok (.ireturn, 1) := dk_172 (dk_at dksX0_nail_0 16 rfl rfl)
abbrev cX0_down : ByteArray := method_11_code
def yX0_down : MethodName := ⟨RX0, "down", "(LGhostAssize;I[J)I"⟩
def dkwX0_down_0 : List UInt8 := [44, 3, 42, 27, 182, 0, 48, 133, 80, 167, 0, 9, 78, 4, 172, 78, 5, 172, 3, 172]
abbrev dktX0_down_0 : List UInt8 := dkwX0_down_0 ++ []
theorem dksX0_down_0 : cX0_down.data.toList.drop 0 = dktX0_down_0 := by decide +kernel
theorem dX0_down_0 : decode cX0_down 0 = .ok (.aload_n 2, 1) := dk_44 (dk_at dksX0_down_0 0 rfl rfl)
theorem dX0_down_1 : decode cX0_down 1 = .ok (.iconst 0, 1) := dk_3 (dk_at dksX0_down_0 1 rfl rfl)
theorem dX0_down_2 : decode cX0_down 2 = .ok (.aload_n 0, 1) := dk_42 (dk_at dksX0_down_0 2 rfl rfl)
theorem dX0_down_3 : decode cX0_down 3 = .ok (.iload_n 1, 1) := dk_27 (dk_at dksX0_down_0 3 rfl rfl)
theorem dX0_down_4 : decode cX0_down 4 = .ok (.invokevirtual 48, 3) := dk_182 0 48 (dk_at dksX0_down_0 4 rfl rfl)
theorem dX0_down_7 : decode cX0_down 7 = .ok (.i2l, 1) := dk_133 (dk_at dksX0_down_0 7 rfl rfl)
theorem dX0_down_8 : decode cX0_down 8 = .ok (.lastore, 1) := dk_80 (dk_at dksX0_down_0 8 rfl rfl)
theorem dX0_down_9 : decode cX0_down 9 = .ok (.goto 9, 3) := dk_167 0 9 (dk_at dksX0_down_0 9 rfl rfl)
theorem dX0_down_12 : decode cX0_down 12 = .ok (.astore_n 3, 1) := dk_78 (dk_at dksX0_down_0 12 rfl rfl)
theorem dX0_down_13 : decode cX0_down 13 = .ok (.iconst 1, 1) := dk_4 (dk_at dksX0_down_0 13 rfl rfl)
theorem dX0_down_14 : decode cX0_down 14 = .ok (.ireturn, 1) := dk_172 (dk_at dksX0_down_0 14 rfl rfl)
theorem dX0_down_15 : decode cX0_down 15 = .ok (.astore_n 3, 1) := dk_78 (dk_at dksX0_down_0 15 rfl rfl)
theorem dX0_down_16 : decode cX0_down 16 = .ok (.iconst 2, 1) := dk_5 (dk_at dksX0_down_0 16 rfl rfl)
theorem dX0_down_17 : decode cX0_down 17 = .ok (.ireturn, 1) := dk_172 (dk_at dksX0_down_0 17 rfl rfl)
theorem dX0_down_18 : decode cX0_down 18 = .ok (.iconst 0, 1) := dk_3 (dk_at dksX0_down_0 18 rfl rfl)
theorem dX0_down_19 : decode cX0_down 19 = .ok (.ireturn, 1) := dk_172 (dk_at dksX0_down_0 19 rfl rfl)
abbrev cX0_mend : ByteArray := method_12_code
def yX0_mend : MethodName := ⟨RX0, "mend", "(LGhostAssize;I[J)I"⟩
def dkwX0_mend_0 : List UInt8 := [44, 3, 42, 27, 182, 0, 51, 133, 80, 167, 0, 6, 78, 4, 172, 3, 172]
abbrev dktX0_mend_0 : List UInt8 := dkwX0_mend_0 ++ []
theorem dksX0_mend_0 : cX0_mend.data.toList.drop 0 = dktX0_mend_0 := by decide +kernel
theorem dX0_mend_0 : decode cX0_mend 0 = .ok (.aload_n 2, 1) := dk_44 (dk_at dksX0_mend_0 0 rfl rfl)
theorem dX0_mend_1 : decode cX0_mend 1 = .ok (.iconst 0, 1) := dk_3 (dk_at dksX0_mend_0 1 rfl rfl)
theorem dX0_mend_2 : decode cX0_mend 2 = .ok (.aload_n 0, 1) := dk_42 (dk_at dksX0_mend_0 2 rfl rfl)
theorem dX0_mend_3 : decode cX0_mend 3 = .ok (.iload_n 1, 1) := dk_27 (dk_at dksX0_mend_0 3 rfl rfl)
theorem dX0_mend_4 : decode cX0_mend 4 = .ok (.invokevirtual 51, 3) := dk_182 0 51 (dk_at dksX0_mend_0 4 rfl rfl)
theorem dX0_mend_7 : decode cX0_mend 7 = .ok (.i2l, 1) := dk_133 (dk_at dksX0_mend_0 7 rfl rfl)
theorem dX0_mend_8 : decode cX0_mend 8 = .ok (.lastore, 1) := dk_80 (dk_at dksX0_mend_0 8 rfl rfl)
theorem dX0_mend_9 : decode cX0_mend 9 = .ok (.goto 6, 3) := dk_167 0 6 (dk_at dksX0_mend_0 9 rfl rfl)
theorem dX0_mend_12 : decode cX0_mend 12 = .ok (.astore_n 3, 1) := dk_78 (dk_at dksX0_mend_0 12 rfl rfl)
theorem dX0_mend_13 : decode cX0_mend 13 = .ok (.iconst 1, 1) := dk_4 (dk_at dksX0_mend_0 13 rfl rfl)
theorem dX0_mend_14 : decode cX0_mend 14 = .ok (.ireturn, 1) := dk_172 (dk_at dksX0_mend_0 14 rfl rfl)
theorem dX0_mend_15 : decode cX0_mend 15 = .ok (.iconst 0, 1) := dk_3 (dk_at dksX0_mend_0 15 rfl rfl)
theorem dX0_mend_16 : decode cX0_mend 16 = .ok (.ireturn, 1) := dk_172 (dk_at dksX0_mend_0 16 rfl rfl)
abbrev cX0_recall : ByteArray := method_13_code
def yX0_recall : MethodName := ⟨RX0, "recall", "(LGhostAssize;I)I"⟩
def dkwX0_recall_0 : List UInt8 := [42, 27, 182, 0, 54, 167, 0, 9, 77, 4, 172, 77, 5, 172, 3, 172]
abbrev dktX0_recall_0 : List UInt8 := dkwX0_recall_0 ++ []
theorem dksX0_recall_0 : cX0_recall.data.toList.drop 0 = dktX0_recall_0 := by decide +kernel
theorem dX0_recall_0 : decode cX0_recall 0 = .ok (.aload_n 0, 1) := dk_42 (dk_at dksX0_recall_0 0 rfl rfl)
theorem dX0_recall_1 : decode cX0_recall 1 = .ok (.iload_n 1, 1) := dk_27 (dk_at dksX0_recall_0 1 rfl rfl)
theorem dX0_recall_2 : decode cX0_recall 2 = .ok (.invokevirtual 54, 3) := dk_182 0 54 (dk_at dksX0_recall_0 2 rfl rfl)
theorem dX0_recall_5 : decode cX0_recall 5 = .ok (.goto 9, 3) := dk_167 0 9 (dk_at dksX0_recall_0 5 rfl rfl)
theorem dX0_recall_8 : decode cX0_recall 8 = .ok (.astore_n 2, 1) := dk_77 (dk_at dksX0_recall_0 8 rfl rfl)
theorem dX0_recall_9 : decode cX0_recall 9 = .ok (.iconst 1, 1) := dk_4 (dk_at dksX0_recall_0 9 rfl rfl)
theorem dX0_recall_10 : decode cX0_recall 10 = .ok (.ireturn, 1) := dk_172 (dk_at dksX0_recall_0 10 rfl rfl)
theorem dX0_recall_11 : decode cX0_recall 11 = .ok (.astore_n 2, 1) := dk_77 (dk_at dksX0_recall_0 11 rfl rfl)
theorem dX0_recall_12 : decode cX0_recall 12 = .ok (.iconst 2, 1) := dk_5 (dk_at dksX0_recall_0 12 rfl rfl)
theorem dX0_recall_13 : decode cX0_recall 13 = .ok (.ireturn, 1) := dk_172 (dk_at dksX0_recall_0 13 rfl rfl)
theorem dX0_recall_14 : decode cX0_recall 14 = .ok (.iconst 0, 1) := dk_3 (dk_at dksX0_recall_0 14 rfl rfl)
theorem dX0_recall_15 : decode cX0_recall 15 = .ok (.ireturn, 1) := dk_172 (dk_at dksX0_recall_0 15 rfl rfl)
abbrev cX0_inside : ByteArray := method_14_code
def yX0_inside : MethodName := ⟨RX0, "inside", "(LGhostAssize;I[J)I"⟩
def dkwX0_inside_0 : List UInt8 := [44, 3, 42, 27, 182, 0, 58, 133, 80, 167, 0, 9, 78, 4, 172, 78, 5, 172, 3, 172]
abbrev dktX0_inside_0 : List UInt8 := dkwX0_inside_0 ++ []
theorem dksX0_inside_0 : cX0_inside.data.toList.drop 0 = dktX0_inside_0 := by decide +kernel
theorem dX0_inside_0 : decode cX0_inside 0 = .ok (.aload_n 2, 1) := dk_44 (dk_at dksX0_inside_0 0 rfl rfl)
theorem dX0_inside_1 : decode cX0_inside 1 = .ok (.iconst 0, 1) := dk_3 (dk_at dksX0_inside_0 1 rfl rfl)
theorem dX0_inside_2 : decode cX0_inside 2 = .ok (.aload_n 0, 1) := dk_42 (dk_at dksX0_inside_0 2 rfl rfl)
theorem dX0_inside_3 : decode cX0_inside 3 = .ok (.iload_n 1, 1) := dk_27 (dk_at dksX0_inside_0 3 rfl rfl)
theorem dX0_inside_4 : decode cX0_inside 4 = .ok (.invokevirtual 58, 3) := dk_182 0 58 (dk_at dksX0_inside_0 4 rfl rfl)
theorem dX0_inside_7 : decode cX0_inside 7 = .ok (.i2l, 1) := dk_133 (dk_at dksX0_inside_0 7 rfl rfl)
theorem dX0_inside_8 : decode cX0_inside 8 = .ok (.lastore, 1) := dk_80 (dk_at dksX0_inside_0 8 rfl rfl)
theorem dX0_inside_9 : decode cX0_inside 9 = .ok (.goto 9, 3) := dk_167 0 9 (dk_at dksX0_inside_0 9 rfl rfl)
theorem dX0_inside_12 : decode cX0_inside 12 = .ok (.astore_n 3, 1) := dk_78 (dk_at dksX0_inside_0 12 rfl rfl)
theorem dX0_inside_13 : decode cX0_inside 13 = .ok (.iconst 1, 1) := dk_4 (dk_at dksX0_inside_0 13 rfl rfl)
theorem dX0_inside_14 : decode cX0_inside 14 = .ok (.ireturn, 1) := dk_172 (dk_at dksX0_inside_0 14 rfl rfl)
theorem dX0_inside_15 : decode cX0_inside 15 = .ok (.astore_n 3, 1) := dk_78 (dk_at dksX0_inside_0 15 rfl rfl)
theorem dX0_inside_16 : decode cX0_inside 16 = .ok (.iconst 2, 1) := dk_5 (dk_at dksX0_inside_0 16 rfl rfl)
theorem dX0_inside_17 : decode cX0_inside 17 = .ok (.ireturn, 1) := dk_172 (dk_at dksX0_inside_0 17 rfl rfl)
theorem dX0_inside_18 : decode cX0_inside 18 = .ok (.iconst 0, 1) := dk_3 (dk_at dksX0_inside_0 18 rfl rfl)
theorem dX0_inside_19 : decode cX0_inside 19 = .ok (.ireturn, 1) := dk_172 (dk_at dksX0_inside_0 19 rfl rfl)
abbrev cX0_calm : ByteArray := method_15_code
def yX0_calm : MethodName := ⟨RX0, "calm", "(LGhostAssize;I[J)I"⟩
def dkwX0_calm_0 : List UInt8 := [44, 3, 42, 27, 182, 0, 61, 133, 80, 167, 0, 6, 78, 4, 172, 3, 172]
abbrev dktX0_calm_0 : List UInt8 := dkwX0_calm_0 ++ []
theorem dksX0_calm_0 : cX0_calm.data.toList.drop 0 = dktX0_calm_0 := by decide +kernel
theorem dX0_calm_0 : decode cX0_calm 0 = .ok (.aload_n 2, 1) := dk_44 (dk_at dksX0_calm_0 0 rfl rfl)
theorem dX0_calm_1 : decode cX0_calm 1 = .ok (.iconst 0, 1) := dk_3 (dk_at dksX0_calm_0 1 rfl rfl)
theorem dX0_calm_2 : decode cX0_calm 2 = .ok (.aload_n 0, 1) := dk_42 (dk_at dksX0_calm_0 2 rfl rfl)
theorem dX0_calm_3 : decode cX0_calm 3 = .ok (.iload_n 1, 1) := dk_27 (dk_at dksX0_calm_0 3 rfl rfl)
theorem dX0_calm_4 : decode cX0_calm 4 = .ok (.invokevirtual 61, 3) := dk_182 0 61 (dk_at dksX0_calm_0 4 rfl rfl)
theorem dX0_calm_7 : decode cX0_calm 7 = .ok (.i2l, 1) := dk_133 (dk_at dksX0_calm_0 7 rfl rfl)
theorem dX0_calm_8 : decode cX0_calm 8 = .ok (.lastore, 1) := dk_80 (dk_at dksX0_calm_0 8 rfl rfl)
theorem dX0_calm_9 : decode cX0_calm 9 = .ok (.goto 6, 3) := dk_167 0 6 (dk_at dksX0_calm_0 9 rfl rfl)
theorem dX0_calm_12 : decode cX0_calm 12 = .ok (.astore_n 3, 1) := dk_78 (dk_at dksX0_calm_0 12 rfl rfl)
theorem dX0_calm_13 : decode cX0_calm 13 = .ok (.iconst 1, 1) := dk_4 (dk_at dksX0_calm_0 13 rfl rfl)
theorem dX0_calm_14 : decode cX0_calm 14 = .ok (.ireturn, 1) := dk_172 (dk_at dksX0_calm_0 14 rfl rfl)
theorem dX0_calm_15 : decode cX0_calm 15 = .ok (.iconst 0, 1) := dk_3 (dk_at dksX0_calm_0 15 rfl rfl)
theorem dX0_calm_16 : decode cX0_calm 16 = .ok (.ireturn, 1) := dk_172 (dk_at dksX0_calm_0 16 rfl rfl)
abbrev cX0_mornings : ByteArray := method_16_code
def yX0_mornings : MethodName := ⟨RX0, "mornings", "(LGhostAssize;I[J)I"⟩
def dkwX0_mornings_0 : List UInt8 := [44, 3, 42, 27, 182, 0, 64, 133, 80, 167, 0, 6, 78, 4, 172, 3, 172]
abbrev dktX0_mornings_0 : List UInt8 := dkwX0_mornings_0 ++ []
theorem dksX0_mornings_0 : cX0_mornings.data.toList.drop 0 = dktX0_mornings_0 := by decide +kernel
theorem dX0_mornings_0 : decode cX0_mornings 0 = .ok (.aload_n 2, 1) := dk_44 (dk_at dksX0_mornings_0 0 rfl rfl)
theorem dX0_mornings_1 : decode cX0_mornings 1 = .ok (.iconst 0, 1) := dk_3 (dk_at dksX0_mornings_0 1 rfl rfl)
theorem dX0_mornings_2 : decode cX0_mornings 2 = .ok (.aload_n 0, 1) := dk_42 (dk_at dksX0_mornings_0 2 rfl rfl)
theorem dX0_mornings_3 : decode cX0_mornings 3 = .ok (.iload_n 1, 1) := dk_27 (dk_at dksX0_mornings_0 3 rfl rfl)
theorem dX0_mornings_4 : decode cX0_mornings 4 = .ok (.invokevirtual 64, 3) := dk_182 0 64 (dk_at dksX0_mornings_0 4 rfl rfl)
theorem dX0_mornings_7 : decode cX0_mornings 7 = .ok (.i2l, 1) := dk_133 (dk_at dksX0_mornings_0 7 rfl rfl)
theorem dX0_mornings_8 : decode cX0_mornings 8 = .ok (.lastore, 1) := dk_80 (dk_at dksX0_mornings_0 8 rfl rfl)
theorem dX0_mornings_9 : decode cX0_mornings 9 = .ok (.goto 6, 3) := dk_167 0 6 (dk_at dksX0_mornings_0 9 rfl rfl)
theorem dX0_mornings_12 : decode cX0_mornings 12 = .ok (.astore_n 3, 1) := dk_78 (dk_at dksX0_mornings_0 12 rfl rfl)
theorem dX0_mornings_13 : decode cX0_mornings 13 = .ok (.iconst 1, 1) := dk_4 (dk_at dksX0_mornings_0 13 rfl rfl)
theorem dX0_mornings_14 : decode cX0_mornings 14 = .ok (.ireturn, 1) := dk_172 (dk_at dksX0_mornings_0 14 rfl rfl)
theorem dX0_mornings_15 : decode cX0_mornings 15 = .ok (.iconst 0, 1) := dk_3 (dk_at dksX0_mornings_0 15 rfl rfl)
theorem dX0_mornings_16 : decode cX0_mornings 16 = .ok (.ireturn, 1) := dk_172 (dk_at dksX0_mornings_0 16 rfl rfl)
abbrev cX0_straight : ByteArray := method_17_code
def yX0_straight : MethodName := ⟨RX0, "straight", "(LGhostAssize;I[J)I"⟩
def dkwX0_straight_0 : List UInt8 := [44, 3, 42, 27, 182, 0, 67, 133, 80, 167, 0, 6, 78, 4, 172, 3, 172]
abbrev dktX0_straight_0 : List UInt8 := dkwX0_straight_0 ++ []
theorem dksX0_straight_0 : cX0_straight.data.toList.drop 0 = dktX0_straight_0 := by decide +kernel
theorem dX0_straight_0 : decode cX0_straight 0 = .ok (.aload_n 2, 1) := dk_44 (dk_at dksX0_straight_0 0 rfl rfl)
theorem dX0_straight_1 : decode cX0_straight 1 = .ok (.iconst 0, 1) := dk_3 (dk_at dksX0_straight_0 1 rfl rfl)
theorem dX0_straight_2 : decode cX0_straight 2 = .ok (.aload_n 0, 1) := dk_42 (dk_at dksX0_straight_0 2 rfl rfl)
theorem dX0_straight_3 : decode cX0_straight 3 = .ok (.iload_n 1, 1) := dk_27 (dk_at dksX0_straight_0 3 rfl rfl)
theorem dX0_straight_4 : decode cX0_straight 4 = .ok (.invokevirtual 67, 3) := dk_182 0 67 (dk_at dksX0_straight_0 4 rfl rfl)
theorem dX0_straight_7 : decode cX0_straight 7 = .ok (.i2l, 1) := dk_133 (dk_at dksX0_straight_0 7 rfl rfl)
theorem dX0_straight_8 : decode cX0_straight 8 = .ok (.lastore, 1) := dk_80 (dk_at dksX0_straight_0 8 rfl rfl)
theorem dX0_straight_9 : decode cX0_straight 9 = .ok (.goto 6, 3) := dk_167 0 6 (dk_at dksX0_straight_0 9 rfl rfl)
theorem dX0_straight_12 : decode cX0_straight 12 = .ok (.astore_n 3, 1) := dk_78 (dk_at dksX0_straight_0 12 rfl rfl)
theorem dX0_straight_13 : decode cX0_straight 13 = .ok (.iconst 1, 1) := dk_4 (dk_at dksX0_straight_0 13 rfl rfl)
theorem dX0_straight_14 : decode cX0_straight 14 = .ok (.ireturn, 1) := dk_172 (dk_at dksX0_straight_0 14 rfl rfl)
theorem dX0_straight_15 : decode cX0_straight 15 = .ok (.iconst 0, 1) := dk_3 (dk_at dksX0_straight_0 15 rfl rfl)
theorem dX0_straight_16 : decode cX0_straight 16 = .ok (.ireturn, 1) := dk_172 (dk_at dksX0_straight_0 16 rfl rfl)
abbrev cX0_tense : ByteArray := method_18_code
def yX0_tense : MethodName := ⟨RX0, "tense", "(LGhostAssize;II[J)I"⟩
def dkwX0_tense_0 : List UInt8 := [45, 3, 42, 27, 28, 182, 0, 70, 133, 80, 167, 0, 7, 58, 4, 4, 172, 3, 172]
abbrev dktX0_tense_0 : List UInt8 := dkwX0_tense_0 ++ []
theorem dksX0_tense_0 : cX0_tense.data.toList.drop 0 = dktX0_tense_0 := by decide +kernel
theorem dX0_tense_0 : decode cX0_tense 0 = .ok (.aload_n 3, 1) := dk_45 (dk_at dksX0_tense_0 0 rfl rfl)
theorem dX0_tense_1 : decode cX0_tense 1 = .ok (.iconst 0, 1) := dk_3 (dk_at dksX0_tense_0 1 rfl rfl)
theorem dX0_tense_2 : decode cX0_tense 2 = .ok (.aload_n 0, 1) := dk_42 (dk_at dksX0_tense_0 2 rfl rfl)
theorem dX0_tense_3 : decode cX0_tense 3 = .ok (.iload_n 1, 1) := dk_27 (dk_at dksX0_tense_0 3 rfl rfl)
theorem dX0_tense_4 : decode cX0_tense 4 = .ok (.iload_n 2, 1) := dk_28 (dk_at dksX0_tense_0 4 rfl rfl)
theorem dX0_tense_5 : decode cX0_tense 5 = .ok (.invokevirtual 70, 3) := dk_182 0 70 (dk_at dksX0_tense_0 5 rfl rfl)
theorem dX0_tense_8 : decode cX0_tense 8 = .ok (.i2l, 1) := dk_133 (dk_at dksX0_tense_0 8 rfl rfl)
theorem dX0_tense_9 : decode cX0_tense 9 = .ok (.lastore, 1) := dk_80 (dk_at dksX0_tense_0 9 rfl rfl)
theorem dX0_tense_10 : decode cX0_tense 10 = .ok (.goto 7, 3) := dk_167 0 7 (dk_at dksX0_tense_0 10 rfl rfl)
theorem dX0_tense_13 : decode cX0_tense 13 = .ok (.astore 4, 2) := dk_58 4 (dk_at dksX0_tense_0 13 rfl rfl)
theorem dX0_tense_15 : decode cX0_tense 15 = .ok (.iconst 1, 1) := dk_4 (dk_at dksX0_tense_0 15 rfl rfl)
theorem dX0_tense_16 : decode cX0_tense 16 = .ok (.ireturn, 1) := dk_172 (dk_at dksX0_tense_0 16 rfl rfl)
theorem dX0_tense_17 : decode cX0_tense 17 = .ok (.iconst 0, 1) := dk_3 (dk_at dksX0_tense_0 17 rfl rfl)
theorem dX0_tense_18 : decode cX0_tense 18 = .ok (.ireturn, 1) := dk_172 (dk_at dksX0_tense_0 18 rfl rfl)
abbrev cX0_ways : ByteArray := method_19_code
def yX0_ways : MethodName := ⟨RX0, "ways", "(LGhostAssize;I[J)I"⟩
def dkwX0_ways_0 : List UInt8 := [44, 3, 42, 27, 182, 0, 73, 133, 80, 167, 0, 6, 78, 4, 172, 3, 172]
abbrev dktX0_ways_0 : List UInt8 := dkwX0_ways_0 ++ []
theorem dksX0_ways_0 : cX0_ways.data.toList.drop 0 = dktX0_ways_0 := by decide +kernel
theorem dX0_ways_0 : decode cX0_ways 0 = .ok (.aload_n 2, 1) := dk_44 (dk_at dksX0_ways_0 0 rfl rfl)
theorem dX0_ways_1 : decode cX0_ways 1 = .ok (.iconst 0, 1) := dk_3 (dk_at dksX0_ways_0 1 rfl rfl)
theorem dX0_ways_2 : decode cX0_ways 2 = .ok (.aload_n 0, 1) := dk_42 (dk_at dksX0_ways_0 2 rfl rfl)
theorem dX0_ways_3 : decode cX0_ways 3 = .ok (.iload_n 1, 1) := dk_27 (dk_at dksX0_ways_0 3 rfl rfl)
theorem dX0_ways_4 : decode cX0_ways 4 = .ok (.invokevirtual 73, 3) := dk_182 0 73 (dk_at dksX0_ways_0 4 rfl rfl)
theorem dX0_ways_7 : decode cX0_ways 7 = .ok (.i2l, 1) := dk_133 (dk_at dksX0_ways_0 7 rfl rfl)
theorem dX0_ways_8 : decode cX0_ways 8 = .ok (.lastore, 1) := dk_80 (dk_at dksX0_ways_0 8 rfl rfl)
theorem dX0_ways_9 : decode cX0_ways 9 = .ok (.goto 6, 3) := dk_167 0 6 (dk_at dksX0_ways_0 9 rfl rfl)
theorem dX0_ways_12 : decode cX0_ways 12 = .ok (.astore_n 3, 1) := dk_78 (dk_at dksX0_ways_0 12 rfl rfl)
theorem dX0_ways_13 : decode cX0_ways 13 = .ok (.iconst 1, 1) := dk_4 (dk_at dksX0_ways_0 13 rfl rfl)
theorem dX0_ways_14 : decode cX0_ways 14 = .ok (.ireturn, 1) := dk_172 (dk_at dksX0_ways_0 14 rfl rfl)
theorem dX0_ways_15 : decode cX0_ways 15 = .ok (.iconst 0, 1) := dk_3 (dk_at dksX0_ways_0 15 rfl rfl)
theorem dX0_ways_16 : decode cX0_ways 16 = .ok (.ireturn, 1) := dk_172 (dk_at dksX0_ways_0 16 rfl rfl)
abbrev cX0_at : ByteArray := method_20_code
def yX0_at : MethodName := ⟨RX0, "at", "(LGhostAssize;II[J)I"⟩
def dkwX0_at_0 : List UInt8 := [45, 3, 42, 27, 28, 182, 0, 76, 133, 80, 167, 0, 7, 58, 4, 4, 172, 3, 172]
abbrev dktX0_at_0 : List UInt8 := dkwX0_at_0 ++ []
theorem dksX0_at_0 : cX0_at.data.toList.drop 0 = dktX0_at_0 := by decide +kernel
theorem dX0_at_0 : decode cX0_at 0 = .ok (.aload_n 3, 1) := dk_45 (dk_at dksX0_at_0 0 rfl rfl)
theorem dX0_at_1 : decode cX0_at 1 = .ok (.iconst 0, 1) := dk_3 (dk_at dksX0_at_0 1 rfl rfl)
theorem dX0_at_2 : decode cX0_at 2 = .ok (.aload_n 0, 1) := dk_42 (dk_at dksX0_at_0 2 rfl rfl)
theorem dX0_at_3 : decode cX0_at 3 = .ok (.iload_n 1, 1) := dk_27 (dk_at dksX0_at_0 3 rfl rfl)
theorem dX0_at_4 : decode cX0_at 4 = .ok (.iload_n 2, 1) := dk_28 (dk_at dksX0_at_0 4 rfl rfl)
theorem dX0_at_5 : decode cX0_at 5 = .ok (.invokevirtual 76, 3) := dk_182 0 76 (dk_at dksX0_at_0 5 rfl rfl)
theorem dX0_at_8 : decode cX0_at 8 = .ok (.i2l, 1) := dk_133 (dk_at dksX0_at_0 8 rfl rfl)
theorem dX0_at_9 : decode cX0_at 9 = .ok (.lastore, 1) := dk_80 (dk_at dksX0_at_0 9 rfl rfl)
theorem dX0_at_10 : decode cX0_at 10 = .ok (.goto 7, 3) := dk_167 0 7 (dk_at dksX0_at_0 10 rfl rfl)
theorem dX0_at_13 : decode cX0_at 13 = .ok (.astore 4, 2) := dk_58 4 (dk_at dksX0_at_0 13 rfl rfl)
theorem dX0_at_15 : decode cX0_at 15 = .ok (.iconst 1, 1) := dk_4 (dk_at dksX0_at_0 15 rfl rfl)
theorem dX0_at_16 : decode cX0_at 16 = .ok (.ireturn, 1) := dk_172 (dk_at dksX0_at_0 16 rfl rfl)
theorem dX0_at_17 : decode cX0_at 17 = .ok (.iconst 0, 1) := dk_3 (dk_at dksX0_at_0 17 rfl rfl)
theorem dX0_at_18 : decode cX0_at 18 = .ok (.ireturn, 1) := dk_172 (dk_at dksX0_at_0 18 rfl rfl)
abbrev cX0_odds : ByteArray := method_21_code
def yX0_odds : MethodName := ⟨RX0, "odds", "(LGhostAssize;I[J)I"⟩
def dkwX0_odds_0 : List UInt8 := [44, 3, 42, 27, 182, 0, 79, 133, 80, 167, 0, 6, 78, 4, 172, 3, 172]
abbrev dktX0_odds_0 : List UInt8 := dkwX0_odds_0 ++ []
theorem dksX0_odds_0 : cX0_odds.data.toList.drop 0 = dktX0_odds_0 := by decide +kernel
theorem dX0_odds_0 : decode cX0_odds 0 = .ok (.aload_n 2, 1) := dk_44 (dk_at dksX0_odds_0 0 rfl rfl)
theorem dX0_odds_1 : decode cX0_odds 1 = .ok (.iconst 0, 1) := dk_3 (dk_at dksX0_odds_0 1 rfl rfl)
theorem dX0_odds_2 : decode cX0_odds 2 = .ok (.aload_n 0, 1) := dk_42 (dk_at dksX0_odds_0 2 rfl rfl)
theorem dX0_odds_3 : decode cX0_odds 3 = .ok (.iload_n 1, 1) := dk_27 (dk_at dksX0_odds_0 3 rfl rfl)
theorem dX0_odds_4 : decode cX0_odds 4 = .ok (.invokevirtual 79, 3) := dk_182 0 79 (dk_at dksX0_odds_0 4 rfl rfl)
theorem dX0_odds_7 : decode cX0_odds 7 = .ok (.i2l, 1) := dk_133 (dk_at dksX0_odds_0 7 rfl rfl)
theorem dX0_odds_8 : decode cX0_odds 8 = .ok (.lastore, 1) := dk_80 (dk_at dksX0_odds_0 8 rfl rfl)
theorem dX0_odds_9 : decode cX0_odds 9 = .ok (.goto 6, 3) := dk_167 0 6 (dk_at dksX0_odds_0 9 rfl rfl)
theorem dX0_odds_12 : decode cX0_odds 12 = .ok (.astore_n 3, 1) := dk_78 (dk_at dksX0_odds_0 12 rfl rfl)
theorem dX0_odds_13 : decode cX0_odds 13 = .ok (.iconst 1, 1) := dk_4 (dk_at dksX0_odds_0 13 rfl rfl)
theorem dX0_odds_14 : decode cX0_odds 14 = .ok (.ireturn, 1) := dk_172 (dk_at dksX0_odds_0 14 rfl rfl)
theorem dX0_odds_15 : decode cX0_odds 15 = .ok (.iconst 0, 1) := dk_3 (dk_at dksX0_odds_0 15 rfl rfl)
theorem dX0_odds_16 : decode cX0_odds 16 = .ok (.ireturn, 1) := dk_172 (dk_at dksX0_odds_0 16 rfl rfl)
abbrev cX0_found : ByteArray := method_22_code
def yX0_found : MethodName := ⟨RX0, "found", "(LGhostAssize;IZ[J)I"⟩
def dkwX0_found_0 : List UInt8 := [45, 3, 42, 27, 28, 182, 0, 82, 133, 80, 167, 0, 7, 58, 4, 4, 172, 3, 172]
abbrev dktX0_found_0 : List UInt8 := dkwX0_found_0 ++ []
theorem dksX0_found_0 : cX0_found.data.toList.drop 0 = dktX0_found_0 := by decide +kernel
theorem dX0_found_0 : decode cX0_found 0 = .ok (.aload_n 3, 1) := dk_45 (dk_at dksX0_found_0 0 rfl rfl)
theorem dX0_found_1 : decode cX0_found 1 = .ok (.iconst 0, 1) := dk_3 (dk_at dksX0_found_0 1 rfl rfl)
theorem dX0_found_2 : decode cX0_found 2 = .ok (.aload_n 0, 1) := dk_42 (dk_at dksX0_found_0 2 rfl rfl)
theorem dX0_found_3 : decode cX0_found 3 = .ok (.iload_n 1, 1) := dk_27 (dk_at dksX0_found_0 3 rfl rfl)
theorem dX0_found_4 : decode cX0_found 4 = .ok (.iload_n 2, 1) := dk_28 (dk_at dksX0_found_0 4 rfl rfl)
theorem dX0_found_5 : decode cX0_found 5 = .ok (.invokevirtual 82, 3) := dk_182 0 82 (dk_at dksX0_found_0 5 rfl rfl)
theorem dX0_found_8 : decode cX0_found 8 = .ok (.i2l, 1) := dk_133 (dk_at dksX0_found_0 8 rfl rfl)
theorem dX0_found_9 : decode cX0_found 9 = .ok (.lastore, 1) := dk_80 (dk_at dksX0_found_0 9 rfl rfl)
theorem dX0_found_10 : decode cX0_found 10 = .ok (.goto 7, 3) := dk_167 0 7 (dk_at dksX0_found_0 10 rfl rfl)
theorem dX0_found_13 : decode cX0_found 13 = .ok (.astore 4, 2) := dk_58 4 (dk_at dksX0_found_0 13 rfl rfl)
theorem dX0_found_15 : decode cX0_found 15 = .ok (.iconst 1, 1) := dk_4 (dk_at dksX0_found_0 15 rfl rfl)
theorem dX0_found_16 : decode cX0_found 16 = .ok (.ireturn, 1) := dk_172 (dk_at dksX0_found_0 16 rfl rfl)
theorem dX0_found_17 : decode cX0_found 17 = .ok (.iconst 0, 1) := dk_3 (dk_at dksX0_found_0 17 rfl rfl)
theorem dX0_found_18 : decode cX0_found 18 = .ok (.ireturn, 1) := dk_172 (dk_at dksX0_found_0 18 rfl rfl)
abbrev cX0_ask : ByteArray := method_23_code
def yX0_ask : MethodName := ⟨RX0, "ask", "(LGhostAssize;I[J)I"⟩
def dkwX0_ask_0 : List UInt8 := [44, 3, 42, 27, 182, 0, 86, 133, 80, 167, 0, 6, 78, 4, 172, 3, 172]
abbrev dktX0_ask_0 : List UInt8 := dkwX0_ask_0 ++ []
theorem dksX0_ask_0 : cX0_ask.data.toList.drop 0 = dktX0_ask_0 := by decide +kernel
theorem dX0_ask_0 : decode cX0_ask 0 = .ok (.aload_n 2, 1) := dk_44 (dk_at dksX0_ask_0 0 rfl rfl)
theorem dX0_ask_1 : decode cX0_ask 1 = .ok (.iconst 0, 1) := dk_3 (dk_at dksX0_ask_0 1 rfl rfl)
theorem dX0_ask_2 : decode cX0_ask 2 = .ok (.aload_n 0, 1) := dk_42 (dk_at dksX0_ask_0 2 rfl rfl)
theorem dX0_ask_3 : decode cX0_ask 3 = .ok (.iload_n 1, 1) := dk_27 (dk_at dksX0_ask_0 3 rfl rfl)
theorem dX0_ask_4 : decode cX0_ask 4 = .ok (.invokevirtual 86, 3) := dk_182 0 86 (dk_at dksX0_ask_0 4 rfl rfl)
theorem dX0_ask_7 : decode cX0_ask 7 = .ok (.i2l, 1) := dk_133 (dk_at dksX0_ask_0 7 rfl rfl)
theorem dX0_ask_8 : decode cX0_ask 8 = .ok (.lastore, 1) := dk_80 (dk_at dksX0_ask_0 8 rfl rfl)
theorem dX0_ask_9 : decode cX0_ask 9 = .ok (.goto 6, 3) := dk_167 0 6 (dk_at dksX0_ask_0 9 rfl rfl)
theorem dX0_ask_12 : decode cX0_ask 12 = .ok (.astore_n 3, 1) := dk_78 (dk_at dksX0_ask_0 12 rfl rfl)
theorem dX0_ask_13 : decode cX0_ask 13 = .ok (.iconst 1, 1) := dk_4 (dk_at dksX0_ask_0 13 rfl rfl)
theorem dX0_ask_14 : decode cX0_ask 14 = .ok (.ireturn, 1) := dk_172 (dk_at dksX0_ask_0 14 rfl rfl)
theorem dX0_ask_15 : decode cX0_ask 15 = .ok (.iconst 0, 1) := dk_3 (dk_at dksX0_ask_0 15 rfl rfl)
theorem dX0_ask_16 : decode cX0_ask 16 = .ok (.ireturn, 1) := dk_172 (dk_at dksX0_ask_0 16 rfl rfl)
abbrev cX0_car : ByteArray := method_24_code
def yX0_car : MethodName := ⟨RX0, "car", "(LGhostAssize;II[J)I"⟩
def dkwX0_car_0 : List UInt8 := [45, 3, 42, 27, 28, 182, 0, 89, 133, 80, 167, 0, 11, 58, 4, 4, 172, 58, 4, 5, 172, 3, 172]
abbrev dktX0_car_0 : List UInt8 := dkwX0_car_0 ++ []
theorem dksX0_car_0 : cX0_car.data.toList.drop 0 = dktX0_car_0 := by decide +kernel
theorem dX0_car_0 : decode cX0_car 0 = .ok (.aload_n 3, 1) := dk_45 (dk_at dksX0_car_0 0 rfl rfl)
theorem dX0_car_1 : decode cX0_car 1 = .ok (.iconst 0, 1) := dk_3 (dk_at dksX0_car_0 1 rfl rfl)
theorem dX0_car_2 : decode cX0_car 2 = .ok (.aload_n 0, 1) := dk_42 (dk_at dksX0_car_0 2 rfl rfl)
theorem dX0_car_3 : decode cX0_car 3 = .ok (.iload_n 1, 1) := dk_27 (dk_at dksX0_car_0 3 rfl rfl)
theorem dX0_car_4 : decode cX0_car 4 = .ok (.iload_n 2, 1) := dk_28 (dk_at dksX0_car_0 4 rfl rfl)
theorem dX0_car_5 : decode cX0_car 5 = .ok (.invokevirtual 89, 3) := dk_182 0 89 (dk_at dksX0_car_0 5 rfl rfl)
theorem dX0_car_8 : decode cX0_car 8 = .ok (.i2l, 1) := dk_133 (dk_at dksX0_car_0 8 rfl rfl)
theorem dX0_car_9 : decode cX0_car 9 = .ok (.lastore, 1) := dk_80 (dk_at dksX0_car_0 9 rfl rfl)
theorem dX0_car_10 : decode cX0_car 10 = .ok (.goto 11, 3) := dk_167 0 11 (dk_at dksX0_car_0 10 rfl rfl)
theorem dX0_car_13 : decode cX0_car 13 = .ok (.astore 4, 2) := dk_58 4 (dk_at dksX0_car_0 13 rfl rfl)
theorem dX0_car_15 : decode cX0_car 15 = .ok (.iconst 1, 1) := dk_4 (dk_at dksX0_car_0 15 rfl rfl)
theorem dX0_car_16 : decode cX0_car 16 = .ok (.ireturn, 1) := dk_172 (dk_at dksX0_car_0 16 rfl rfl)
theorem dX0_car_17 : decode cX0_car 17 = .ok (.astore 4, 2) := dk_58 4 (dk_at dksX0_car_0 17 rfl rfl)
theorem dX0_car_19 : decode cX0_car 19 = .ok (.iconst 2, 1) := dk_5 (dk_at dksX0_car_0 19 rfl rfl)
theorem dX0_car_20 : decode cX0_car 20 = .ok (.ireturn, 1) := dk_172 (dk_at dksX0_car_0 20 rfl rfl)
theorem dX0_car_21 : decode cX0_car 21 = .ok (.iconst 0, 1) := dk_3 (dk_at dksX0_car_0 21 rfl rfl)
theorem dX0_car_22 : decode cX0_car 22 = .ok (.ireturn, 1) := dk_172 (dk_at dksX0_car_0 22 rfl rfl)
abbrev cX0_corners : ByteArray := method_25_code
def yX0_corners : MethodName := ⟨RX0, "corners", "(LGhostAssize;I[J)I"⟩
def dkwX0_corners_0 : List UInt8 := [44, 3, 42, 27, 182, 0, 92, 133, 80, 167, 0, 6, 78, 4, 172, 3, 172]
abbrev dktX0_corners_0 : List UInt8 := dkwX0_corners_0 ++ []
theorem dksX0_corners_0 : cX0_corners.data.toList.drop 0 = dktX0_corners_0 := by decide +kernel
theorem dX0_corners_0 : decode cX0_corners 0 = .ok (.aload_n 2, 1) := dk_44 (dk_at dksX0_corners_0 0 rfl rfl)
theorem dX0_corners_1 : decode cX0_corners 1 = .ok (.iconst 0, 1) := dk_3 (dk_at dksX0_corners_0 1 rfl rfl)
theorem dX0_corners_2 : decode cX0_corners 2 = .ok (.aload_n 0, 1) := dk_42 (dk_at dksX0_corners_0 2 rfl rfl)
theorem dX0_corners_3 : decode cX0_corners 3 = .ok (.iload_n 1, 1) := dk_27 (dk_at dksX0_corners_0 3 rfl rfl)
theorem dX0_corners_4 : decode cX0_corners 4 = .ok (.invokevirtual 92, 3) := dk_182 0 92 (dk_at dksX0_corners_0 4 rfl rfl)
theorem dX0_corners_7 : decode cX0_corners 7 = .ok (.i2l, 1) := dk_133 (dk_at dksX0_corners_0 7 rfl rfl)
theorem dX0_corners_8 : decode cX0_corners 8 = .ok (.lastore, 1) := dk_80 (dk_at dksX0_corners_0 8 rfl rfl)
theorem dX0_corners_9 : decode cX0_corners 9 = .ok (.goto 6, 3) := dk_167 0 6 (dk_at dksX0_corners_0 9 rfl rfl)
theorem dX0_corners_12 : decode cX0_corners 12 = .ok (.astore_n 3, 1) := dk_78 (dk_at dksX0_corners_0 12 rfl rfl)
theorem dX0_corners_13 : decode cX0_corners 13 = .ok (.iconst 1, 1) := dk_4 (dk_at dksX0_corners_0 13 rfl rfl)
theorem dX0_corners_14 : decode cX0_corners 14 = .ok (.ireturn, 1) := dk_172 (dk_at dksX0_corners_0 14 rfl rfl)
theorem dX0_corners_15 : decode cX0_corners 15 = .ok (.iconst 0, 1) := dk_3 (dk_at dksX0_corners_0 15 rfl rfl)
theorem dX0_corners_16 : decode cX0_corners 16 = .ok (.ireturn, 1) := dk_172 (dk_at dksX0_corners_0 16 rfl rfl)
abbrev cX0_usher : ByteArray := method_26_code
def yX0_usher : MethodName := ⟨RX0, "usher", "(LGhostAssize;I[J)I"⟩
def dkwX0_usher_0 : List UInt8 := [44, 3, 42, 27, 182, 0, 95, 133, 80, 167, 0, 6, 78, 4, 172, 3, 172]
abbrev dktX0_usher_0 : List UInt8 := dkwX0_usher_0 ++ []
theorem dksX0_usher_0 : cX0_usher.data.toList.drop 0 = dktX0_usher_0 := by decide +kernel
theorem dX0_usher_0 : decode cX0_usher 0 = .ok (.aload_n 2, 1) := dk_44 (dk_at dksX0_usher_0 0 rfl rfl)
theorem dX0_usher_1 : decode cX0_usher 1 = .ok (.iconst 0, 1) := dk_3 (dk_at dksX0_usher_0 1 rfl rfl)
theorem dX0_usher_2 : decode cX0_usher 2 = .ok (.aload_n 0, 1) := dk_42 (dk_at dksX0_usher_0 2 rfl rfl)
theorem dX0_usher_3 : decode cX0_usher 3 = .ok (.iload_n 1, 1) := dk_27 (dk_at dksX0_usher_0 3 rfl rfl)
theorem dX0_usher_4 : decode cX0_usher 4 = .ok (.invokevirtual 95, 3) := dk_182 0 95 (dk_at dksX0_usher_0 4 rfl rfl)
theorem dX0_usher_7 : decode cX0_usher 7 = .ok (.i2l, 1) := dk_133 (dk_at dksX0_usher_0 7 rfl rfl)
theorem dX0_usher_8 : decode cX0_usher 8 = .ok (.lastore, 1) := dk_80 (dk_at dksX0_usher_0 8 rfl rfl)
theorem dX0_usher_9 : decode cX0_usher 9 = .ok (.goto 6, 3) := dk_167 0 6 (dk_at dksX0_usher_0 9 rfl rfl)
theorem dX0_usher_12 : decode cX0_usher 12 = .ok (.astore_n 3, 1) := dk_78 (dk_at dksX0_usher_0 12 rfl rfl)
theorem dX0_usher_13 : decode cX0_usher 13 = .ok (.iconst 1, 1) := dk_4 (dk_at dksX0_usher_0 13 rfl rfl)
theorem dX0_usher_14 : decode cX0_usher 14 = .ok (.ireturn, 1) := dk_172 (dk_at dksX0_usher_0 14 rfl rfl)
theorem dX0_usher_15 : decode cX0_usher 15 = .ok (.iconst 0, 1) := dk_3 (dk_at dksX0_usher_0 15 rfl rfl)
theorem dX0_usher_16 : decode cX0_usher 16 = .ok (.ireturn, 1) := dk_172 (dk_at dksX0_usher_0 16 rfl rfl)
abbrev cX0_lasts : ByteArray := method_27_code
def yX0_lasts : MethodName := ⟨RX0, "lasts", "(LGhostAssize;II[J)I"⟩
def dkwX0_lasts_0 : List UInt8 := [45, 3, 42, 27, 28, 182, 0, 98, 133, 80, 167, 0, 7, 58, 4, 4, 172, 3, 172]
abbrev dktX0_lasts_0 : List UInt8 := dkwX0_lasts_0 ++ []
theorem dksX0_lasts_0 : cX0_lasts.data.toList.drop 0 = dktX0_lasts_0 := by decide +kernel
theorem dX0_lasts_0 : decode cX0_lasts 0 = .ok (.aload_n 3, 1) := dk_45 (dk_at dksX0_lasts_0 0 rfl rfl)
theorem dX0_lasts_1 : decode cX0_lasts 1 = .ok (.iconst 0, 1) := dk_3 (dk_at dksX0_lasts_0 1 rfl rfl)
theorem dX0_lasts_2 : decode cX0_lasts 2 = .ok (.aload_n 0, 1) := dk_42 (dk_at dksX0_lasts_0 2 rfl rfl)
theorem dX0_lasts_3 : decode cX0_lasts 3 = .ok (.iload_n 1, 1) := dk_27 (dk_at dksX0_lasts_0 3 rfl rfl)
theorem dX0_lasts_4 : decode cX0_lasts 4 = .ok (.iload_n 2, 1) := dk_28 (dk_at dksX0_lasts_0 4 rfl rfl)
theorem dX0_lasts_5 : decode cX0_lasts 5 = .ok (.invokevirtual 98, 3) := dk_182 0 98 (dk_at dksX0_lasts_0 5 rfl rfl)
theorem dX0_lasts_8 : decode cX0_lasts 8 = .ok (.i2l, 1) := dk_133 (dk_at dksX0_lasts_0 8 rfl rfl)
theorem dX0_lasts_9 : decode cX0_lasts 9 = .ok (.lastore, 1) := dk_80 (dk_at dksX0_lasts_0 9 rfl rfl)
theorem dX0_lasts_10 : decode cX0_lasts 10 = .ok (.goto 7, 3) := dk_167 0 7 (dk_at dksX0_lasts_0 10 rfl rfl)
theorem dX0_lasts_13 : decode cX0_lasts 13 = .ok (.astore 4, 2) := dk_58 4 (dk_at dksX0_lasts_0 13 rfl rfl)
theorem dX0_lasts_15 : decode cX0_lasts 15 = .ok (.iconst 1, 1) := dk_4 (dk_at dksX0_lasts_0 15 rfl rfl)
theorem dX0_lasts_16 : decode cX0_lasts 16 = .ok (.ireturn, 1) := dk_172 (dk_at dksX0_lasts_0 16 rfl rfl)
theorem dX0_lasts_17 : decode cX0_lasts 17 = .ok (.iconst 0, 1) := dk_3 (dk_at dksX0_lasts_0 17 rfl rfl)
theorem dX0_lasts_18 : decode cX0_lasts 18 = .ok (.ireturn, 1) := dk_172 (dk_at dksX0_lasts_0 18 rfl rfl)
abbrev cX0_share : ByteArray := method_28_code
def yX0_share : MethodName := ⟨RX0, "share", "(LGhostAssize;II[J)I"⟩
def dkwX0_share_0 : List UInt8 := [45, 3, 42, 27, 28, 182, 0, 101, 133, 80, 167, 0, 7, 58, 4, 4, 172, 3, 172]
abbrev dktX0_share_0 : List UInt8 := dkwX0_share_0 ++ []
theorem dksX0_share_0 : cX0_share.data.toList.drop 0 = dktX0_share_0 := by decide +kernel
theorem dX0_share_0 : decode cX0_share 0 = .ok (.aload_n 3, 1) := dk_45 (dk_at dksX0_share_0 0 rfl rfl)
theorem dX0_share_1 : decode cX0_share 1 = .ok (.iconst 0, 1) := dk_3 (dk_at dksX0_share_0 1 rfl rfl)
theorem dX0_share_2 : decode cX0_share 2 = .ok (.aload_n 0, 1) := dk_42 (dk_at dksX0_share_0 2 rfl rfl)
theorem dX0_share_3 : decode cX0_share 3 = .ok (.iload_n 1, 1) := dk_27 (dk_at dksX0_share_0 3 rfl rfl)
theorem dX0_share_4 : decode cX0_share 4 = .ok (.iload_n 2, 1) := dk_28 (dk_at dksX0_share_0 4 rfl rfl)
theorem dX0_share_5 : decode cX0_share 5 = .ok (.invokevirtual 101, 3) := dk_182 0 101 (dk_at dksX0_share_0 5 rfl rfl)
theorem dX0_share_8 : decode cX0_share 8 = .ok (.i2l, 1) := dk_133 (dk_at dksX0_share_0 8 rfl rfl)
theorem dX0_share_9 : decode cX0_share 9 = .ok (.lastore, 1) := dk_80 (dk_at dksX0_share_0 9 rfl rfl)
theorem dX0_share_10 : decode cX0_share 10 = .ok (.goto 7, 3) := dk_167 0 7 (dk_at dksX0_share_0 10 rfl rfl)
theorem dX0_share_13 : decode cX0_share 13 = .ok (.astore 4, 2) := dk_58 4 (dk_at dksX0_share_0 13 rfl rfl)
theorem dX0_share_15 : decode cX0_share 15 = .ok (.iconst 1, 1) := dk_4 (dk_at dksX0_share_0 15 rfl rfl)
theorem dX0_share_16 : decode cX0_share 16 = .ok (.ireturn, 1) := dk_172 (dk_at dksX0_share_0 16 rfl rfl)
theorem dX0_share_17 : decode cX0_share 17 = .ok (.iconst 0, 1) := dk_3 (dk_at dksX0_share_0 17 rfl rfl)
theorem dX0_share_18 : decode cX0_share 18 = .ok (.ireturn, 1) := dk_172 (dk_at dksX0_share_0 18 rfl rfl)
abbrev cX0_trial : ByteArray := method_29_code
def yX0_trial : MethodName := ⟨RX0, "trial", "(LGhostAssize;I[J)I"⟩
def dkwX0_trial_0 : List UInt8 := [44, 3, 42, 27, 182, 0, 104, 133, 80, 167, 0, 6, 78, 4, 172, 3, 172]
abbrev dktX0_trial_0 : List UInt8 := dkwX0_trial_0 ++ []
theorem dksX0_trial_0 : cX0_trial.data.toList.drop 0 = dktX0_trial_0 := by decide +kernel
theorem dX0_trial_0 : decode cX0_trial 0 = .ok (.aload_n 2, 1) := dk_44 (dk_at dksX0_trial_0 0 rfl rfl)
theorem dX0_trial_1 : decode cX0_trial 1 = .ok (.iconst 0, 1) := dk_3 (dk_at dksX0_trial_0 1 rfl rfl)
theorem dX0_trial_2 : decode cX0_trial 2 = .ok (.aload_n 0, 1) := dk_42 (dk_at dksX0_trial_0 2 rfl rfl)
theorem dX0_trial_3 : decode cX0_trial 3 = .ok (.iload_n 1, 1) := dk_27 (dk_at dksX0_trial_0 3 rfl rfl)
theorem dX0_trial_4 : decode cX0_trial 4 = .ok (.invokevirtual 104, 3) := dk_182 0 104 (dk_at dksX0_trial_0 4 rfl rfl)
theorem dX0_trial_7 : decode cX0_trial 7 = .ok (.i2l, 1) := dk_133 (dk_at dksX0_trial_0 7 rfl rfl)
theorem dX0_trial_8 : decode cX0_trial 8 = .ok (.lastore, 1) := dk_80 (dk_at dksX0_trial_0 8 rfl rfl)
theorem dX0_trial_9 : decode cX0_trial 9 = .ok (.goto 6, 3) := dk_167 0 6 (dk_at dksX0_trial_0 9 rfl rfl)
theorem dX0_trial_12 : decode cX0_trial 12 = .ok (.astore_n 3, 1) := dk_78 (dk_at dksX0_trial_0 12 rfl rfl)
theorem dX0_trial_13 : decode cX0_trial 13 = .ok (.iconst 1, 1) := dk_4 (dk_at dksX0_trial_0 13 rfl rfl)
theorem dX0_trial_14 : decode cX0_trial 14 = .ok (.ireturn, 1) := dk_172 (dk_at dksX0_trial_0 14 rfl rfl)
theorem dX0_trial_15 : decode cX0_trial 15 = .ok (.iconst 0, 1) := dk_3 (dk_at dksX0_trial_0 15 rfl rfl)
theorem dX0_trial_16 : decode cX0_trial 16 = .ok (.ireturn, 1) := dk_172 (dk_at dksX0_trial_0 16 rfl rfl)
abbrev cX0_span : ByteArray := method_30_code
def yX0_span : MethodName := ⟨RX0, "span", "(LGhostAssize;IZ[J)I"⟩
def dkwX0_span_0 : List UInt8 := [45, 3, 42, 27, 28, 182, 0, 107, 133, 80, 167, 0, 7, 58, 4, 4, 172, 3, 172]
abbrev dktX0_span_0 : List UInt8 := dkwX0_span_0 ++ []
theorem dksX0_span_0 : cX0_span.data.toList.drop 0 = dktX0_span_0 := by decide +kernel
theorem dX0_span_0 : decode cX0_span 0 = .ok (.aload_n 3, 1) := dk_45 (dk_at dksX0_span_0 0 rfl rfl)
theorem dX0_span_1 : decode cX0_span 1 = .ok (.iconst 0, 1) := dk_3 (dk_at dksX0_span_0 1 rfl rfl)
theorem dX0_span_2 : decode cX0_span 2 = .ok (.aload_n 0, 1) := dk_42 (dk_at dksX0_span_0 2 rfl rfl)
theorem dX0_span_3 : decode cX0_span 3 = .ok (.iload_n 1, 1) := dk_27 (dk_at dksX0_span_0 3 rfl rfl)
theorem dX0_span_4 : decode cX0_span 4 = .ok (.iload_n 2, 1) := dk_28 (dk_at dksX0_span_0 4 rfl rfl)
theorem dX0_span_5 : decode cX0_span 5 = .ok (.invokevirtual 107, 3) := dk_182 0 107 (dk_at dksX0_span_0 5 rfl rfl)
theorem dX0_span_8 : decode cX0_span 8 = .ok (.i2l, 1) := dk_133 (dk_at dksX0_span_0 8 rfl rfl)
theorem dX0_span_9 : decode cX0_span 9 = .ok (.lastore, 1) := dk_80 (dk_at dksX0_span_0 9 rfl rfl)
theorem dX0_span_10 : decode cX0_span 10 = .ok (.goto 7, 3) := dk_167 0 7 (dk_at dksX0_span_0 10 rfl rfl)
theorem dX0_span_13 : decode cX0_span 13 = .ok (.astore 4, 2) := dk_58 4 (dk_at dksX0_span_0 13 rfl rfl)
theorem dX0_span_15 : decode cX0_span 15 = .ok (.iconst 1, 1) := dk_4 (dk_at dksX0_span_0 15 rfl rfl)
theorem dX0_span_16 : decode cX0_span 16 = .ok (.ireturn, 1) := dk_172 (dk_at dksX0_span_0 16 rfl rfl)
theorem dX0_span_17 : decode cX0_span 17 = .ok (.iconst 0, 1) := dk_3 (dk_at dksX0_span_0 17 rfl rfl)
theorem dX0_span_18 : decode cX0_span 18 = .ok (.ireturn, 1) := dk_172 (dk_at dksX0_span_0 18 rfl rfl)
abbrev cX0_led : ByteArray := method_31_code
def yX0_led : MethodName := ⟨RX0, "led", "(LGhostAssize;IZ[J)I"⟩
def dkwX0_led_0 : List UInt8 := [45, 3, 42, 27, 28, 182, 0, 110, 133, 80, 167, 0, 7, 58, 4, 4, 172, 3, 172]
abbrev dktX0_led_0 : List UInt8 := dkwX0_led_0 ++ []
theorem dksX0_led_0 : cX0_led.data.toList.drop 0 = dktX0_led_0 := by decide +kernel
theorem dX0_led_0 : decode cX0_led 0 = .ok (.aload_n 3, 1) := dk_45 (dk_at dksX0_led_0 0 rfl rfl)
theorem dX0_led_1 : decode cX0_led 1 = .ok (.iconst 0, 1) := dk_3 (dk_at dksX0_led_0 1 rfl rfl)
theorem dX0_led_2 : decode cX0_led 2 = .ok (.aload_n 0, 1) := dk_42 (dk_at dksX0_led_0 2 rfl rfl)
theorem dX0_led_3 : decode cX0_led 3 = .ok (.iload_n 1, 1) := dk_27 (dk_at dksX0_led_0 3 rfl rfl)
theorem dX0_led_4 : decode cX0_led 4 = .ok (.iload_n 2, 1) := dk_28 (dk_at dksX0_led_0 4 rfl rfl)
theorem dX0_led_5 : decode cX0_led 5 = .ok (.invokevirtual 110, 3) := dk_182 0 110 (dk_at dksX0_led_0 5 rfl rfl)
theorem dX0_led_8 : decode cX0_led 8 = .ok (.i2l, 1) := dk_133 (dk_at dksX0_led_0 8 rfl rfl)
theorem dX0_led_9 : decode cX0_led 9 = .ok (.lastore, 1) := dk_80 (dk_at dksX0_led_0 9 rfl rfl)
theorem dX0_led_10 : decode cX0_led 10 = .ok (.goto 7, 3) := dk_167 0 7 (dk_at dksX0_led_0 10 rfl rfl)
theorem dX0_led_13 : decode cX0_led 13 = .ok (.astore 4, 2) := dk_58 4 (dk_at dksX0_led_0 13 rfl rfl)
theorem dX0_led_15 : decode cX0_led 15 = .ok (.iconst 1, 1) := dk_4 (dk_at dksX0_led_0 15 rfl rfl)
theorem dX0_led_16 : decode cX0_led 16 = .ok (.ireturn, 1) := dk_172 (dk_at dksX0_led_0 16 rfl rfl)
theorem dX0_led_17 : decode cX0_led 17 = .ok (.iconst 0, 1) := dk_3 (dk_at dksX0_led_0 17 rfl rfl)
theorem dX0_led_18 : decode cX0_led 18 = .ok (.ireturn, 1) := dk_172 (dk_at dksX0_led_0 18 rfl rfl)
abbrev cX0_log : ByteArray := method_32_code
def yX0_log : MethodName := ⟨RX0, "log", "(LGhostAssize;II[J)I"⟩
def dkwX0_log_0 : List UInt8 := [45, 3, 42, 27, 28, 182, 0, 113, 133, 80, 167, 0, 7, 58, 4, 4, 172, 3, 172]
abbrev dktX0_log_0 : List UInt8 := dkwX0_log_0 ++ []
theorem dksX0_log_0 : cX0_log.data.toList.drop 0 = dktX0_log_0 := by decide +kernel
theorem dX0_log_0 : decode cX0_log 0 = .ok (.aload_n 3, 1) := dk_45 (dk_at dksX0_log_0 0 rfl rfl)
theorem dX0_log_1 : decode cX0_log 1 = .ok (.iconst 0, 1) := dk_3 (dk_at dksX0_log_0 1 rfl rfl)
theorem dX0_log_2 : decode cX0_log 2 = .ok (.aload_n 0, 1) := dk_42 (dk_at dksX0_log_0 2 rfl rfl)
theorem dX0_log_3 : decode cX0_log 3 = .ok (.iload_n 1, 1) := dk_27 (dk_at dksX0_log_0 3 rfl rfl)
theorem dX0_log_4 : decode cX0_log 4 = .ok (.iload_n 2, 1) := dk_28 (dk_at dksX0_log_0 4 rfl rfl)
theorem dX0_log_5 : decode cX0_log 5 = .ok (.invokevirtual 113, 3) := dk_182 0 113 (dk_at dksX0_log_0 5 rfl rfl)
theorem dX0_log_8 : decode cX0_log 8 = .ok (.i2l, 1) := dk_133 (dk_at dksX0_log_0 8 rfl rfl)
theorem dX0_log_9 : decode cX0_log 9 = .ok (.lastore, 1) := dk_80 (dk_at dksX0_log_0 9 rfl rfl)
theorem dX0_log_10 : decode cX0_log 10 = .ok (.goto 7, 3) := dk_167 0 7 (dk_at dksX0_log_0 10 rfl rfl)
theorem dX0_log_13 : decode cX0_log 13 = .ok (.astore 4, 2) := dk_58 4 (dk_at dksX0_log_0 13 rfl rfl)
theorem dX0_log_15 : decode cX0_log 15 = .ok (.iconst 1, 1) := dk_4 (dk_at dksX0_log_0 15 rfl rfl)
theorem dX0_log_16 : decode cX0_log 16 = .ok (.ireturn, 1) := dk_172 (dk_at dksX0_log_0 16 rfl rfl)
theorem dX0_log_17 : decode cX0_log 17 = .ok (.iconst 0, 1) := dk_3 (dk_at dksX0_log_0 17 rfl rfl)
theorem dX0_log_18 : decode cX0_log 18 = .ok (.ireturn, 1) := dk_172 (dk_at dksX0_log_0 18 rfl rfl)
theorem q120 : (Jvm.Cond.initialized "GhostAssizeLaw") ∈ lw_all := lw_g (lw_at lw_m1 0 rfl) rfl
theorem q153 : (Jvm.Cond.classLink "GhostAssizeLaw" (8 : Nat) "GhostAssize") ∈ lw_all := lw_g (lw_at lw_m1 33 rfl) rfl
theorem q155 : (Jvm.Cond.methodLink "GhostAssizeLaw" (116 : Nat) ({ cls := "GhostAssize", name := "<init>", desc := "()V" } : Jvm.MethodName)) ∈ lw_all := lw_g (lw_at lw_m1 35 rfl) rfl
theorem q520 : (Jvm.Cond.methodLink "GhostAssizeLaw" (120 : Nat) ({ cls := "GhostAssize", name := "feed", desc := "(IIIII)I" } : Jvm.MethodName)) ∈ lw_all := lw_g (lw_at lw_m2 160 rfl) rfl
theorem q528 : (Jvm.Cond.methodLink "GhostAssizeLaw" (125 : Nat) ({ cls := "GhostAssize", name := "end", desc := "(I)Z" } : Jvm.MethodName)) ∈ lw_all := lw_g (lw_at lw_m2 168 rfl) rfl
theorem q535 : (Jvm.Cond.methodLink "GhostAssizeLaw" (142 : Nat) ({ cls := "GhostAssize", name := "fault", desc := "()I" } : Jvm.MethodName)) ∈ lw_all := lw_g (lw_at lw_m2 175 rfl) rfl
theorem q539 : (Jvm.Cond.methodLink "GhostAssizeLaw" (202 : Nat) ({ cls := "GhostAssize", name := "gap", desc := "()I" } : Jvm.MethodName)) ∈ lw_all := lw_g (lw_at lw_m2 179 rfl) rfl
theorem q632 : (Jvm.Cond.methodLink "GhostAssizeLaw" (206 : Nat) ({ cls := "GhostAssize", name := "errors", desc := "(Z)I" } : Jvm.MethodName)) ∈ lw_all := lw_g (lw_at lw_m3 32 rfl) rfl
theorem q636 : (Jvm.Cond.methodLink "GhostAssizeLaw" (211 : Nat) ({ cls := "GhostAssize", name := "swap", desc := "()I" } : Jvm.MethodName)) ∈ lw_all := lw_g (lw_at lw_m3 36 rfl) rfl
theorem q645 : (Jvm.Cond.methodLink "GhostAssizeLaw" (215 : Nat) ({ cls := "GhostAssize", name := "next", desc := "()I" } : Jvm.MethodName)) ∈ lw_all := lw_g (lw_at lw_m3 45 rfl) rfl
theorem q650 : (Jvm.Cond.methodLink "GhostAssizeLaw" (232 : Nat) ({ cls := "GhostAssize", name := "cover", desc := "()I" } : Jvm.MethodName)) ∈ lw_all := lw_g (lw_at lw_m3 50 rfl) rfl
theorem q664 : (Jvm.Cond.methodLink "GhostAssizeLaw" (236 : Nat) ({ cls := "GhostAssize", name := "leave", desc := "()I" } : Jvm.MethodName)) ∈ lw_all := lw_g (lw_at lw_m3 64 rfl) rfl
theorem q722 : (Jvm.Cond.methodLink "GhostAssizeLaw" (240 : Nat) ({ cls := "GhostAssize", name := "bravest", desc := "()I" } : Jvm.MethodName)) ∈ lw_all := lw_g (lw_at lw_m3 122 rfl) rfl
theorem q727 : (Jvm.Cond.methodLink "GhostAssizeLaw" (244 : Nat) ({ cls := "GhostAssize", name := "alike", desc := "()I" } : Jvm.MethodName)) ∈ lw_all := lw_g (lw_at lw_m3 127 rfl) rfl
theorem q731 : (Jvm.Cond.methodLink "GhostAssizeLaw" (254 : Nat) ({ cls := "GhostAssize", name := "all", desc := "(Z)I" } : Jvm.MethodName)) ∈ lw_all := lw_g (lw_at lw_m3 131 rfl) rfl
theorem q742 : (Jvm.Cond.methodLink "GhostAssizeLaw" (261 : Nat) ({ cls := "GhostAssize", name := "loudest", desc := "()I" } : Jvm.MethodName)) ∈ lw_all := lw_g (lw_at lw_m3 142 rfl) rfl
theorem q750 : (Jvm.Cond.methodLink "GhostAssizeLaw" (277 : Nat) ({ cls := "GhostAssize", name := "seed", desc := "(I)I" } : Jvm.MethodName)) ∈ lw_all := lw_g (lw_at lw_m3 150 rfl) rfl
theorem q754 : (Jvm.Cond.methodLink "GhostAssizeLaw" (281 : Nat) ({ cls := "GhostAssize", name := "undo", desc := "()Z" } : Jvm.MethodName)) ∈ lw_all := lw_g (lw_at lw_m3 154 rfl) rfl
theorem q758 : (Jvm.Cond.methodLink "GhostAssizeLaw" (286 : Nat) ({ cls := "GhostAssize", name := "image", desc := "()V" } : Jvm.MethodName)) ∈ lw_all := lw_g (lw_at lw_m3 158 rfl) rfl
theorem q762 : (Jvm.Cond.methodLink "GhostAssizeLaw" (290 : Nat) ({ cls := "GhostAssize", name := "back", desc := "()Z" } : Jvm.MethodName)) ∈ lw_all := lw_g (lw_at lw_m3 162 rfl) rfl
theorem q766 : (Jvm.Cond.methodLink "GhostAssizeLaw" (294 : Nat) ({ cls := "GhostAssize", name := "count", desc := "(I)I" } : Jvm.MethodName)) ∈ lw_all := lw_g (lw_at lw_m3 166 rfl) rfl
theorem q782 : (Jvm.Cond.methodLink "GhostAssizeLaw" (130 : Nat) ({ cls := "GhostAssizeLaw", name := "court", desc := "(LGhostAssize;[J)I" } : Jvm.MethodName)) ∈ lw_all := lw_g (lw_at lw_m3 182 rfl) rfl
theorem q783 : (Jvm.Cond.static ({ cls := "GhostAssizeLaw", name := "court", desc := "(LGhostAssize;[J)I" } : Jvm.MethodName)) ∈ lw_all := lw_g (lw_at lw_m3 183 rfl) rfl
theorem q784 : (Jvm.Cond.codeWith ({ cls := "GhostAssizeLaw", name := "court", desc := "(LGhostAssize;[J)I" } : Jvm.MethodName) method_3_code (3 : Nat) (Option.some Jvm.ClassFile.FieldType.int) [((0 : Nat), (8 : Nat), (11 : Nat), (13 : Nat)), ((0 : Nat), (8 : Nat), (14 : Nat), (15 : Nat))]) ∈ lw_all := lw_g (lw_at lw_m3 184 rfl) rfl
theorem q785 : (Jvm.Cond.classLink "GhostAssizeLaw" (13 : Nat) "java/lang/IllegalArgumentException") ∈ lw_all := lw_g (lw_at lw_m3 185 rfl) rfl
theorem q786 : (Jvm.Cond.classLink "GhostAssizeLaw" (15 : Nat) "java/lang/UnsupportedOperationException") ∈ lw_all := lw_g (lw_at lw_m3 186 rfl) rfl
theorem q787 : (Jvm.Cond.methodLink "GhostAssizeLaw" (7 : Nat) ({ cls := "GhostAssize", name := "court", desc := "()I" } : Jvm.MethodName)) ∈ lw_all := lw_g (lw_at lw_m3 187 rfl) rfl
theorem q959 : (Jvm.Cond.methodLink "GhostAssizeLaw" (139 : Nat) ({ cls := "GhostAssizeLaw", name := "law", desc := "(LGhostAssize;[J)I" } : Jvm.MethodName)) ∈ lw_all := lw_g (lw_at lw_m4 119 rfl) rfl
theorem q960 : (Jvm.Cond.static ({ cls := "GhostAssizeLaw", name := "law", desc := "(LGhostAssize;[J)I" } : Jvm.MethodName)) ∈ lw_all := lw_g (lw_at lw_m4 120 rfl) rfl
theorem q961 : (Jvm.Cond.codeWith ({ cls := "GhostAssizeLaw", name := "law", desc := "(LGhostAssize;[J)I" } : Jvm.MethodName) method_4_code (3 : Nat) (Option.some Jvm.ClassFile.FieldType.int) [((0 : Nat), (8 : Nat), (11 : Nat), (13 : Nat))]) ∈ lw_all := lw_g (lw_at lw_m4 121 rfl) rfl
theorem q962 : (Jvm.Cond.methodLink "GhostAssizeLaw" (17 : Nat) ({ cls := "GhostAssize", name := "law", desc := "()I" } : Jvm.MethodName)) ∈ lw_all := lw_g (lw_at lw_m4 122 rfl) rfl
theorem q1095 : (Jvm.Cond.methodLink "GhostAssizeLaw" (146 : Nat) ({ cls := "GhostAssizeLaw", name := "prop", desc := "(LGhostAssize;II[J)I" } : Jvm.MethodName)) ∈ lw_all := lw_g (lw_at lw_m5 15 rfl) rfl
theorem q1096 : (Jvm.Cond.static ({ cls := "GhostAssizeLaw", name := "prop", desc := "(LGhostAssize;II[J)I" } : Jvm.MethodName)) ∈ lw_all := lw_g (lw_at lw_m5 16 rfl) rfl
theorem q1097 : (Jvm.Cond.codeWith ({ cls := "GhostAssizeLaw", name := "prop", desc := "(LGhostAssize;II[J)I" } : Jvm.MethodName) method_5_code (5 : Nat) (Option.some Jvm.ClassFile.FieldType.int) [((0 : Nat), (10 : Nat), (13 : Nat), (24 : Nat)), ((0 : Nat), (10 : Nat), (17 : Nat), (26 : Nat))]) ∈ lw_all := lw_g (lw_at lw_m5 17 rfl) rfl
theorem q1098 : (Jvm.Cond.classLink "GhostAssizeLaw" (24 : Nat) "java/lang/IndexOutOfBoundsException") ∈ lw_all := lw_g (lw_at lw_m5 18 rfl) rfl
theorem q1130 : (Jvm.Cond.classLink "GhostAssizeLaw" (26 : Nat) "java/util/NoSuchElementException") ∈ lw_all := lw_g (lw_at lw_m5 50 rfl) rfl
theorem q1131 : (Jvm.Cond.methodLink "GhostAssizeLaw" (20 : Nat) ({ cls := "GhostAssize", name := "prop", desc := "(II)I" } : Jvm.MethodName)) ∈ lw_all := lw_g (lw_at lw_m5 51 rfl) rfl
theorem q1172 : (Jvm.Cond.methodLink "GhostAssizeLaw" (150 : Nat) ({ cls := "GhostAssizeLaw", name := "slot", desc := "(LGhostAssize;I[J)I" } : Jvm.MethodName)) ∈ lw_all := lw_g (lw_at lw_m5 92 rfl) rfl
theorem q1173 : (Jvm.Cond.static ({ cls := "GhostAssizeLaw", name := "slot", desc := "(LGhostAssize;I[J)I" } : Jvm.MethodName)) ∈ lw_all := lw_g (lw_at lw_m5 93 rfl) rfl
theorem q1174 : (Jvm.Cond.codeWith ({ cls := "GhostAssizeLaw", name := "slot", desc := "(LGhostAssize;I[J)I" } : Jvm.MethodName) method_6_code (4 : Nat) (Option.some Jvm.ClassFile.FieldType.int) [((0 : Nat), (9 : Nat), (12 : Nat), (24 : Nat))]) ∈ lw_all := lw_g (lw_at lw_m5 94 rfl) rfl
theorem q1175 : (Jvm.Cond.methodLink "GhostAssizeLaw" (28 : Nat) ({ cls := "GhostAssize", name := "slot", desc := "(I)I" } : Jvm.MethodName)) ∈ lw_all := lw_g (lw_at lw_m5 95 rfl) rfl
theorem q1182 : (Jvm.Cond.methodLink "GhostAssizeLaw" (154 : Nat) ({ cls := "GhostAssizeLaw", name := "accused", desc := "(LGhostAssize;II[J)I" } : Jvm.MethodName)) ∈ lw_all := lw_g (lw_at lw_m5 102 rfl) rfl
theorem q1183 : (Jvm.Cond.static ({ cls := "GhostAssizeLaw", name := "accused", desc := "(LGhostAssize;II[J)I" } : Jvm.MethodName)) ∈ lw_all := lw_g (lw_at lw_m5 103 rfl) rfl
theorem q1184 : (Jvm.Cond.codeWith ({ cls := "GhostAssizeLaw", name := "accused", desc := "(LGhostAssize;II[J)I" } : Jvm.MethodName) method_7_code (5 : Nat) (Option.some Jvm.ClassFile.FieldType.int) [((0 : Nat), (10 : Nat), (13 : Nat), (24 : Nat)), ((0 : Nat), (10 : Nat), (17 : Nat), (26 : Nat))]) ∈ lw_all := lw_g (lw_at lw_m5 104 rfl) rfl
theorem q1185 : (Jvm.Cond.methodLink "GhostAssizeLaw" (32 : Nat) ({ cls := "GhostAssize", name := "accused", desc := "(II)I" } : Jvm.MethodName)) ∈ lw_all := lw_g (lw_at lw_m5 105 rfl) rfl
theorem q1193 : (Jvm.Cond.methodLink "GhostAssizeLaw" (157 : Nat) ({ cls := "GhostAssizeLaw", name := "fright", desc := "(LGhostAssize;IIIZ[J)I" } : Jvm.MethodName)) ∈ lw_all := lw_g (lw_at lw_m5 113 rfl) rfl
theorem q1194 : (Jvm.Cond.static ({ cls := "GhostAssizeLaw", name := "fright", desc := "(LGhostAssize;IIIZ[J)I" } : Jvm.MethodName)) ∈ lw_all := lw_g (lw_at lw_m5 114 rfl) rfl
theorem q1195 : (Jvm.Cond.codeWith ({ cls := "GhostAssizeLaw", name := "fright", desc := "(LGhostAssize;IIIZ[J)I" } : Jvm.MethodName) method_8_code (7 : Nat) (Option.some Jvm.ClassFile.FieldType.int) [((0 : Nat), (14 : Nat), (17 : Nat), (24 : Nat)), ((0 : Nat), (14 : Nat), (21 : Nat), (13 : Nat))]) ∈ lw_all := lw_g (lw_at lw_m5 115 rfl) rfl
theorem q1196 : (Jvm.Cond.methodLink "GhostAssizeLaw" (35 : Nat) ({ cls := "GhostAssize", name := "fright", desc := "(IIIZ)I" } : Jvm.MethodName)) ∈ lw_all := lw_g (lw_at lw_m5 116 rfl) rfl
theorem q1204 : (Jvm.Cond.methodLink "GhostAssizeLaw" (161 : Nat) ({ cls := "GhostAssizeLaw", name := "send", desc := "(LGhostAssize;I[J)I" } : Jvm.MethodName)) ∈ lw_all := lw_g (lw_at lw_m5 124 rfl) rfl
theorem q1205 : (Jvm.Cond.static ({ cls := "GhostAssizeLaw", name := "send", desc := "(LGhostAssize;I[J)I" } : Jvm.MethodName)) ∈ lw_all := lw_g (lw_at lw_m5 125 rfl) rfl
theorem q1206 : (Jvm.Cond.codeWith ({ cls := "GhostAssizeLaw", name := "send", desc := "(LGhostAssize;I[J)I" } : Jvm.MethodName) method_9_code (4 : Nat) (Option.some Jvm.ClassFile.FieldType.int) [((0 : Nat), (9 : Nat), (12 : Nat), (24 : Nat)), ((0 : Nat), (9 : Nat), (15 : Nat), (42 : Nat))]) ∈ lw_all := lw_g (lw_at lw_m5 126 rfl) rfl
theorem q1207 : (Jvm.Cond.classLink "GhostAssizeLaw" (42 : Nat) "java/lang/IllegalStateException") ∈ lw_all := lw_g (lw_at lw_m5 127 rfl) rfl
theorem q1208 : (Jvm.Cond.methodLink "GhostAssizeLaw" (39 : Nat) ({ cls := "GhostAssize", name := "send", desc := "(I)I" } : Jvm.MethodName)) ∈ lw_all := lw_g (lw_at lw_m5 128 rfl) rfl
theorem q1238 : (Jvm.Cond.methodLink "GhostAssizeLaw" (164 : Nat) ({ cls := "GhostAssizeLaw", name := "nail", desc := "(LGhostAssize;II)I" } : Jvm.MethodName)) ∈ lw_all := lw_g (lw_at lw_m5 158 rfl) rfl
theorem q1239 : (Jvm.Cond.static ({ cls := "GhostAssizeLaw", name := "nail", desc := "(LGhostAssize;II)I" } : Jvm.MethodName)) ∈ lw_all := lw_g (lw_at lw_m5 159 rfl) rfl
theorem q1240 : (Jvm.Cond.codeWith ({ cls := "GhostAssizeLaw", name := "nail", desc := "(LGhostAssize;II)I" } : Jvm.MethodName) method_10_code (4 : Nat) (Option.some Jvm.ClassFile.FieldType.int) [((0 : Nat), (6 : Nat), (9 : Nat), (24 : Nat)), ((0 : Nat), (6 : Nat), (12 : Nat), (42 : Nat))]) ∈ lw_all := lw_g (lw_at lw_m5 160 rfl) rfl
theorem q1241 : (Jvm.Cond.methodLink "GhostAssizeLaw" (44 : Nat) ({ cls := "GhostAssize", name := "nail", desc := "(II)V" } : Jvm.MethodName)) ∈ lw_all := lw_g (lw_at lw_m5 161 rfl) rfl
theorem q1246 : (Jvm.Cond.methodLink "GhostAssizeLaw" (168 : Nat) ({ cls := "GhostAssizeLaw", name := "down", desc := "(LGhostAssize;I[J)I" } : Jvm.MethodName)) ∈ lw_all := lw_g (lw_at lw_m5 166 rfl) rfl
theorem q1247 : (Jvm.Cond.static ({ cls := "GhostAssizeLaw", name := "down", desc := "(LGhostAssize;I[J)I" } : Jvm.MethodName)) ∈ lw_all := lw_g (lw_at lw_m5 167 rfl) rfl
theorem q1248 : (Jvm.Cond.codeWith ({ cls := "GhostAssizeLaw", name := "down", desc := "(LGhostAssize;I[J)I" } : Jvm.MethodName) method_11_code (4 : Nat) (Option.some Jvm.ClassFile.FieldType.int) [((0 : Nat), (9 : Nat), (12 : Nat), (24 : Nat)), ((0 : Nat), (9 : Nat), (15 : Nat), (42 : Nat))]) ∈ lw_all := lw_g (lw_at lw_m5 168 rfl) rfl
theorem q1249 : (Jvm.Cond.methodLink "GhostAssizeLaw" (48 : Nat) ({ cls := "GhostAssize", name := "down", desc := "(I)I" } : Jvm.MethodName)) ∈ lw_all := lw_g (lw_at lw_m5 169 rfl) rfl
theorem q1253 : (Jvm.Cond.methodLink "GhostAssizeLaw" (171 : Nat) ({ cls := "GhostAssizeLaw", name := "mend", desc := "(LGhostAssize;I[J)I" } : Jvm.MethodName)) ∈ lw_all := lw_g (lw_at lw_m5 173 rfl) rfl
theorem q1254 : (Jvm.Cond.static ({ cls := "GhostAssizeLaw", name := "mend", desc := "(LGhostAssize;I[J)I" } : Jvm.MethodName)) ∈ lw_all := lw_g (lw_at lw_m5 174 rfl) rfl
theorem q1255 : (Jvm.Cond.codeWith ({ cls := "GhostAssizeLaw", name := "mend", desc := "(LGhostAssize;I[J)I" } : Jvm.MethodName) method_12_code (4 : Nat) (Option.some Jvm.ClassFile.FieldType.int) [((0 : Nat), (9 : Nat), (12 : Nat), (24 : Nat))]) ∈ lw_all := lw_g (lw_at lw_m5 175 rfl) rfl
theorem q1256 : (Jvm.Cond.methodLink "GhostAssizeLaw" (51 : Nat) ({ cls := "GhostAssize", name := "mend", desc := "(I)I" } : Jvm.MethodName)) ∈ lw_all := lw_g (lw_at lw_m5 176 rfl) rfl
theorem q1260 : (Jvm.Cond.methodLink "GhostAssizeLaw" (174 : Nat) ({ cls := "GhostAssizeLaw", name := "recall", desc := "(LGhostAssize;I)I" } : Jvm.MethodName)) ∈ lw_all := lw_g (lw_at lw_m5 180 rfl) rfl
theorem q1261 : (Jvm.Cond.static ({ cls := "GhostAssizeLaw", name := "recall", desc := "(LGhostAssize;I)I" } : Jvm.MethodName)) ∈ lw_all := lw_g (lw_at lw_m5 181 rfl) rfl
theorem q1262 : (Jvm.Cond.codeWith ({ cls := "GhostAssizeLaw", name := "recall", desc := "(LGhostAssize;I)I" } : Jvm.MethodName) method_13_code (3 : Nat) (Option.some Jvm.ClassFile.FieldType.int) [((0 : Nat), (5 : Nat), (8 : Nat), (24 : Nat)), ((0 : Nat), (5 : Nat), (11 : Nat), (42 : Nat))]) ∈ lw_all := lw_g (lw_at lw_m5 182 rfl) rfl
theorem q1263 : (Jvm.Cond.methodLink "GhostAssizeLaw" (54 : Nat) ({ cls := "GhostAssize", name := "recall", desc := "(I)V" } : Jvm.MethodName)) ∈ lw_all := lw_g (lw_at lw_m5 183 rfl) rfl
theorem q1267 : (Jvm.Cond.methodLink "GhostAssizeLaw" (178 : Nat) ({ cls := "GhostAssizeLaw", name := "inside", desc := "(LGhostAssize;I[J)I" } : Jvm.MethodName)) ∈ lw_all := lw_g (lw_at lw_m5 187 rfl) rfl
theorem q1268 : (Jvm.Cond.static ({ cls := "GhostAssizeLaw", name := "inside", desc := "(LGhostAssize;I[J)I" } : Jvm.MethodName)) ∈ lw_all := lw_g (lw_at lw_m5 188 rfl) rfl
theorem q1269 : (Jvm.Cond.codeWith ({ cls := "GhostAssizeLaw", name := "inside", desc := "(LGhostAssize;I[J)I" } : Jvm.MethodName) method_14_code (4 : Nat) (Option.some Jvm.ClassFile.FieldType.int) [((0 : Nat), (9 : Nat), (12 : Nat), (24 : Nat)), ((0 : Nat), (9 : Nat), (15 : Nat), (42 : Nat))]) ∈ lw_all := lw_g (lw_at lw_m5 189 rfl) rfl
theorem q1270 : (Jvm.Cond.methodLink "GhostAssizeLaw" (58 : Nat) ({ cls := "GhostAssize", name := "inside", desc := "(I)I" } : Jvm.MethodName)) ∈ lw_all := lw_g (lw_at lw_m5 190 rfl) rfl
theorem q1274 : (Jvm.Cond.methodLink "GhostAssizeLaw" (181 : Nat) ({ cls := "GhostAssizeLaw", name := "calm", desc := "(LGhostAssize;I[J)I" } : Jvm.MethodName)) ∈ lw_all := lw_g (lw_at lw_m5 194 rfl) rfl
theorem q1275 : (Jvm.Cond.static ({ cls := "GhostAssizeLaw", name := "calm", desc := "(LGhostAssize;I[J)I" } : Jvm.MethodName)) ∈ lw_all := lw_g (lw_at lw_m5 195 rfl) rfl
theorem q1276 : (Jvm.Cond.codeWith ({ cls := "GhostAssizeLaw", name := "calm", desc := "(LGhostAssize;I[J)I" } : Jvm.MethodName) method_15_code (4 : Nat) (Option.some Jvm.ClassFile.FieldType.int) [((0 : Nat), (9 : Nat), (12 : Nat), (13 : Nat))]) ∈ lw_all := lw_g (lw_at lw_m5 196 rfl) rfl
theorem q1277 : (Jvm.Cond.methodLink "GhostAssizeLaw" (61 : Nat) ({ cls := "GhostAssize", name := "calm", desc := "(I)I" } : Jvm.MethodName)) ∈ lw_all := lw_g (lw_at lw_m5 197 rfl) rfl
theorem q1281 : (Jvm.Cond.methodLink "GhostAssizeLaw" (184 : Nat) ({ cls := "GhostAssizeLaw", name := "mornings", desc := "(LGhostAssize;I[J)I" } : Jvm.MethodName)) ∈ lw_all := lw_g (lw_at lw_m5 201 rfl) rfl
theorem q1282 : (Jvm.Cond.static ({ cls := "GhostAssizeLaw", name := "mornings", desc := "(LGhostAssize;I[J)I" } : Jvm.MethodName)) ∈ lw_all := lw_g (lw_at lw_m5 202 rfl) rfl
theorem q1283 : (Jvm.Cond.codeWith ({ cls := "GhostAssizeLaw", name := "mornings", desc := "(LGhostAssize;I[J)I" } : Jvm.MethodName) method_16_code (4 : Nat) (Option.some Jvm.ClassFile.FieldType.int) [((0 : Nat), (9 : Nat), (12 : Nat), (13 : Nat))]) ∈ lw_all := lw_g (lw_at lw_m5 203 rfl) rfl
theorem q1284 : (Jvm.Cond.methodLink "GhostAssizeLaw" (64 : Nat) ({ cls := "GhostAssize", name := "mornings", desc := "(I)I" } : Jvm.MethodName)) ∈ lw_all := lw_g (lw_at lw_m5 204 rfl) rfl
theorem q1289 : (Jvm.Cond.methodLink "GhostAssizeLaw" (187 : Nat) ({ cls := "GhostAssizeLaw", name := "straight", desc := "(LGhostAssize;I[J)I" } : Jvm.MethodName)) ∈ lw_all := lw_g (lw_at lw_m5 209 rfl) rfl
theorem q1290 : (Jvm.Cond.static ({ cls := "GhostAssizeLaw", name := "straight", desc := "(LGhostAssize;I[J)I" } : Jvm.MethodName)) ∈ lw_all := lw_g (lw_at lw_m5 210 rfl) rfl
theorem q1291 : (Jvm.Cond.codeWith ({ cls := "GhostAssizeLaw", name := "straight", desc := "(LGhostAssize;I[J)I" } : Jvm.MethodName) method_17_code (4 : Nat) (Option.some Jvm.ClassFile.FieldType.int) [((0 : Nat), (9 : Nat), (12 : Nat), (24 : Nat))]) ∈ lw_all := lw_g (lw_at lw_m5 211 rfl) rfl
theorem q1292 : (Jvm.Cond.methodLink "GhostAssizeLaw" (67 : Nat) ({ cls := "GhostAssize", name := "straight", desc := "(I)I" } : Jvm.MethodName)) ∈ lw_all := lw_g (lw_at lw_m5 212 rfl) rfl
theorem q1296 : (Jvm.Cond.methodLink "GhostAssizeLaw" (190 : Nat) ({ cls := "GhostAssizeLaw", name := "tense", desc := "(LGhostAssize;II[J)I" } : Jvm.MethodName)) ∈ lw_all := lw_g (lw_at lw_m5 216 rfl) rfl
theorem q1297 : (Jvm.Cond.static ({ cls := "GhostAssizeLaw", name := "tense", desc := "(LGhostAssize;II[J)I" } : Jvm.MethodName)) ∈ lw_all := lw_g (lw_at lw_m5 217 rfl) rfl
theorem q1298 : (Jvm.Cond.codeWith ({ cls := "GhostAssizeLaw", name := "tense", desc := "(LGhostAssize;II[J)I" } : Jvm.MethodName) method_18_code (5 : Nat) (Option.some Jvm.ClassFile.FieldType.int) [((0 : Nat), (10 : Nat), (13 : Nat), (24 : Nat))]) ∈ lw_all := lw_g (lw_at lw_m5 218 rfl) rfl
theorem q1299 : (Jvm.Cond.methodLink "GhostAssizeLaw" (70 : Nat) ({ cls := "GhostAssize", name := "tense", desc := "(II)I" } : Jvm.MethodName)) ∈ lw_all := lw_g (lw_at lw_m5 219 rfl) rfl
theorem q1303 : (Jvm.Cond.methodLink "GhostAssizeLaw" (193 : Nat) ({ cls := "GhostAssizeLaw", name := "ways", desc := "(LGhostAssize;I[J)I" } : Jvm.MethodName)) ∈ lw_all := lw_g (lw_at lw_m5 223 rfl) rfl
theorem q1304 : (Jvm.Cond.static ({ cls := "GhostAssizeLaw", name := "ways", desc := "(LGhostAssize;I[J)I" } : Jvm.MethodName)) ∈ lw_all := lw_g (lw_at lw_m5 224 rfl) rfl
theorem q1305 : (Jvm.Cond.codeWith ({ cls := "GhostAssizeLaw", name := "ways", desc := "(LGhostAssize;I[J)I" } : Jvm.MethodName) method_19_code (4 : Nat) (Option.some Jvm.ClassFile.FieldType.int) [((0 : Nat), (9 : Nat), (12 : Nat), (24 : Nat))]) ∈ lw_all := lw_g (lw_at lw_m5 225 rfl) rfl
theorem q1306 : (Jvm.Cond.methodLink "GhostAssizeLaw" (73 : Nat) ({ cls := "GhostAssize", name := "ways", desc := "(I)I" } : Jvm.MethodName)) ∈ lw_all := lw_g (lw_at lw_m5 226 rfl) rfl
theorem q1310 : (Jvm.Cond.methodLink "GhostAssizeLaw" (196 : Nat) ({ cls := "GhostAssizeLaw", name := "at", desc := "(LGhostAssize;II[J)I" } : Jvm.MethodName)) ∈ lw_all := lw_g (lw_at lw_m5 230 rfl) rfl
theorem q1311 : (Jvm.Cond.static ({ cls := "GhostAssizeLaw", name := "at", desc := "(LGhostAssize;II[J)I" } : Jvm.MethodName)) ∈ lw_all := lw_g (lw_at lw_m5 231 rfl) rfl
theorem q1312 : (Jvm.Cond.codeWith ({ cls := "GhostAssizeLaw", name := "at", desc := "(LGhostAssize;II[J)I" } : Jvm.MethodName) method_20_code (5 : Nat) (Option.some Jvm.ClassFile.FieldType.int) [((0 : Nat), (10 : Nat), (13 : Nat), (24 : Nat))]) ∈ lw_all := lw_g (lw_at lw_m5 232 rfl) rfl
theorem q1313 : (Jvm.Cond.methodLink "GhostAssizeLaw" (76 : Nat) ({ cls := "GhostAssize", name := "at", desc := "(II)I" } : Jvm.MethodName)) ∈ lw_all := lw_g (lw_at lw_m5 233 rfl) rfl
theorem q1317 : (Jvm.Cond.methodLink "GhostAssizeLaw" (199 : Nat) ({ cls := "GhostAssizeLaw", name := "odds", desc := "(LGhostAssize;I[J)I" } : Jvm.MethodName)) ∈ lw_all := lw_g (lw_at lw_m5 237 rfl) rfl
theorem q1318 : (Jvm.Cond.static ({ cls := "GhostAssizeLaw", name := "odds", desc := "(LGhostAssize;I[J)I" } : Jvm.MethodName)) ∈ lw_all := lw_g (lw_at lw_m5 238 rfl) rfl
theorem q1319 : (Jvm.Cond.codeWith ({ cls := "GhostAssizeLaw", name := "odds", desc := "(LGhostAssize;I[J)I" } : Jvm.MethodName) method_21_code (4 : Nat) (Option.some Jvm.ClassFile.FieldType.int) [((0 : Nat), (9 : Nat), (12 : Nat), (24 : Nat))]) ∈ lw_all := lw_g (lw_at lw_m5 239 rfl) rfl
theorem q1320 : (Jvm.Cond.methodLink "GhostAssizeLaw" (79 : Nat) ({ cls := "GhostAssize", name := "odds", desc := "(I)I" } : Jvm.MethodName)) ∈ lw_all := lw_g (lw_at lw_m6 0 rfl) rfl
theorem q1324 : (Jvm.Cond.methodLink "GhostAssizeLaw" (219 : Nat) ({ cls := "GhostAssizeLaw", name := "found", desc := "(LGhostAssize;IZ[J)I" } : Jvm.MethodName)) ∈ lw_all := lw_g (lw_at lw_m6 4 rfl) rfl
theorem q1325 : (Jvm.Cond.static ({ cls := "GhostAssizeLaw", name := "found", desc := "(LGhostAssize;IZ[J)I" } : Jvm.MethodName)) ∈ lw_all := lw_g (lw_at lw_m6 5 rfl) rfl
theorem q1326 : (Jvm.Cond.codeWith ({ cls := "GhostAssizeLaw", name := "found", desc := "(LGhostAssize;IZ[J)I" } : Jvm.MethodName) method_22_code (5 : Nat) (Option.some Jvm.ClassFile.FieldType.int) [((0 : Nat), (10 : Nat), (13 : Nat), (13 : Nat))]) ∈ lw_all := lw_g (lw_at lw_m6 6 rfl) rfl
theorem q1327 : (Jvm.Cond.methodLink "GhostAssizeLaw" (82 : Nat) ({ cls := "GhostAssize", name := "found", desc := "(IZ)I" } : Jvm.MethodName)) ∈ lw_all := lw_g (lw_at lw_m6 7 rfl) rfl
theorem q1335 : (Jvm.Cond.methodLink "GhostAssizeLaw" (223 : Nat) ({ cls := "GhostAssizeLaw", name := "ask", desc := "(LGhostAssize;I[J)I" } : Jvm.MethodName)) ∈ lw_all := lw_g (lw_at lw_m6 15 rfl) rfl
theorem q1336 : (Jvm.Cond.static ({ cls := "GhostAssizeLaw", name := "ask", desc := "(LGhostAssize;I[J)I" } : Jvm.MethodName)) ∈ lw_all := lw_g (lw_at lw_m6 16 rfl) rfl
theorem q1337 : (Jvm.Cond.codeWith ({ cls := "GhostAssizeLaw", name := "ask", desc := "(LGhostAssize;I[J)I" } : Jvm.MethodName) method_23_code (4 : Nat) (Option.some Jvm.ClassFile.FieldType.int) [((0 : Nat), (9 : Nat), (12 : Nat), (13 : Nat))]) ∈ lw_all := lw_g (lw_at lw_m6 17 rfl) rfl
theorem q1338 : (Jvm.Cond.methodLink "GhostAssizeLaw" (86 : Nat) ({ cls := "GhostAssize", name := "ask", desc := "(I)I" } : Jvm.MethodName)) ∈ lw_all := lw_g (lw_at lw_m6 18 rfl) rfl
theorem q1346 : (Jvm.Cond.methodLink "GhostAssizeLaw" (226 : Nat) ({ cls := "GhostAssizeLaw", name := "car", desc := "(LGhostAssize;II[J)I" } : Jvm.MethodName)) ∈ lw_all := lw_g (lw_at lw_m6 26 rfl) rfl
theorem q1347 : (Jvm.Cond.static ({ cls := "GhostAssizeLaw", name := "car", desc := "(LGhostAssize;II[J)I" } : Jvm.MethodName)) ∈ lw_all := lw_g (lw_at lw_m6 27 rfl) rfl
theorem q1348 : (Jvm.Cond.codeWith ({ cls := "GhostAssizeLaw", name := "car", desc := "(LGhostAssize;II[J)I" } : Jvm.MethodName) method_24_code (5 : Nat) (Option.some Jvm.ClassFile.FieldType.int) [((0 : Nat), (10 : Nat), (13 : Nat), (24 : Nat)), ((0 : Nat), (10 : Nat), (17 : Nat), (13 : Nat))]) ∈ lw_all := lw_g (lw_at lw_m6 28 rfl) rfl
theorem q1349 : (Jvm.Cond.methodLink "GhostAssizeLaw" (89 : Nat) ({ cls := "GhostAssize", name := "car", desc := "(II)I" } : Jvm.MethodName)) ∈ lw_all := lw_g (lw_at lw_m6 29 rfl) rfl
theorem q1353 : (Jvm.Cond.methodLink "GhostAssizeLaw" (229 : Nat) ({ cls := "GhostAssizeLaw", name := "corners", desc := "(LGhostAssize;I[J)I" } : Jvm.MethodName)) ∈ lw_all := lw_g (lw_at lw_m6 33 rfl) rfl
theorem q1354 : (Jvm.Cond.static ({ cls := "GhostAssizeLaw", name := "corners", desc := "(LGhostAssize;I[J)I" } : Jvm.MethodName)) ∈ lw_all := lw_g (lw_at lw_m6 34 rfl) rfl
theorem q1355 : (Jvm.Cond.codeWith ({ cls := "GhostAssizeLaw", name := "corners", desc := "(LGhostAssize;I[J)I" } : Jvm.MethodName) method_25_code (4 : Nat) (Option.some Jvm.ClassFile.FieldType.int) [((0 : Nat), (9 : Nat), (12 : Nat), (24 : Nat))]) ∈ lw_all := lw_g (lw_at lw_m6 35 rfl) rfl
theorem q1356 : (Jvm.Cond.methodLink "GhostAssizeLaw" (92 : Nat) ({ cls := "GhostAssize", name := "corners", desc := "(I)I" } : Jvm.MethodName)) ∈ lw_all := lw_g (lw_at lw_m6 36 rfl) rfl
theorem q1360 : (Jvm.Cond.methodLink "GhostAssizeLaw" (248 : Nat) ({ cls := "GhostAssizeLaw", name := "usher", desc := "(LGhostAssize;I[J)I" } : Jvm.MethodName)) ∈ lw_all := lw_g (lw_at lw_m6 40 rfl) rfl
theorem q1361 : (Jvm.Cond.static ({ cls := "GhostAssizeLaw", name := "usher", desc := "(LGhostAssize;I[J)I" } : Jvm.MethodName)) ∈ lw_all := lw_g (lw_at lw_m6 41 rfl) rfl
theorem q1362 : (Jvm.Cond.codeWith ({ cls := "GhostAssizeLaw", name := "usher", desc := "(LGhostAssize;I[J)I" } : Jvm.MethodName) method_26_code (4 : Nat) (Option.some Jvm.ClassFile.FieldType.int) [((0 : Nat), (9 : Nat), (12 : Nat), (24 : Nat))]) ∈ lw_all := lw_g (lw_at lw_m6 42 rfl) rfl
theorem q1363 : (Jvm.Cond.methodLink "GhostAssizeLaw" (95 : Nat) ({ cls := "GhostAssize", name := "usher", desc := "(I)I" } : Jvm.MethodName)) ∈ lw_all := lw_g (lw_at lw_m6 43 rfl) rfl
theorem q1375 : (Jvm.Cond.methodLink "GhostAssizeLaw" (251 : Nat) ({ cls := "GhostAssizeLaw", name := "lasts", desc := "(LGhostAssize;II[J)I" } : Jvm.MethodName)) ∈ lw_all := lw_g (lw_at lw_m6 55 rfl) rfl
theorem q1376 : (Jvm.Cond.static ({ cls := "GhostAssizeLaw", name := "lasts", desc := "(LGhostAssize;II[J)I" } : Jvm.MethodName)) ∈ lw_all := lw_g (lw_at lw_m6 56 rfl) rfl
theorem q1377 : (Jvm.Cond.codeWith ({ cls := "GhostAssizeLaw", name := "lasts", desc := "(LGhostAssize;II[J)I" } : Jvm.MethodName) method_27_code (5 : Nat) (Option.some Jvm.ClassFile.FieldType.int) [((0 : Nat), (10 : Nat), (13 : Nat), (24 : Nat))]) ∈ lw_all := lw_g (lw_at lw_m6 57 rfl) rfl
theorem q1378 : (Jvm.Cond.methodLink "GhostAssizeLaw" (98 : Nat) ({ cls := "GhostAssize", name := "lasts", desc := "(II)I" } : Jvm.MethodName)) ∈ lw_all := lw_g (lw_at lw_m6 58 rfl) rfl
theorem q1382 : (Jvm.Cond.methodLink "GhostAssizeLaw" (258 : Nat) ({ cls := "GhostAssizeLaw", name := "share", desc := "(LGhostAssize;II[J)I" } : Jvm.MethodName)) ∈ lw_all := lw_g (lw_at lw_m6 62 rfl) rfl
theorem q1383 : (Jvm.Cond.static ({ cls := "GhostAssizeLaw", name := "share", desc := "(LGhostAssize;II[J)I" } : Jvm.MethodName)) ∈ lw_all := lw_g (lw_at lw_m6 63 rfl) rfl
theorem q1384 : (Jvm.Cond.codeWith ({ cls := "GhostAssizeLaw", name := "share", desc := "(LGhostAssize;II[J)I" } : Jvm.MethodName) method_28_code (5 : Nat) (Option.some Jvm.ClassFile.FieldType.int) [((0 : Nat), (10 : Nat), (13 : Nat), (24 : Nat))]) ∈ lw_all := lw_g (lw_at lw_m6 64 rfl) rfl
theorem q1385 : (Jvm.Cond.methodLink "GhostAssizeLaw" (101 : Nat) ({ cls := "GhostAssize", name := "share", desc := "(II)I" } : Jvm.MethodName)) ∈ lw_all := lw_g (lw_at lw_m6 65 rfl) rfl
theorem q1389 : (Jvm.Cond.methodLink "GhostAssizeLaw" (265 : Nat) ({ cls := "GhostAssizeLaw", name := "trial", desc := "(LGhostAssize;I[J)I" } : Jvm.MethodName)) ∈ lw_all := lw_g (lw_at lw_m6 69 rfl) rfl
theorem q1390 : (Jvm.Cond.static ({ cls := "GhostAssizeLaw", name := "trial", desc := "(LGhostAssize;I[J)I" } : Jvm.MethodName)) ∈ lw_all := lw_g (lw_at lw_m6 70 rfl) rfl
theorem q1391 : (Jvm.Cond.codeWith ({ cls := "GhostAssizeLaw", name := "trial", desc := "(LGhostAssize;I[J)I" } : Jvm.MethodName) method_29_code (4 : Nat) (Option.some Jvm.ClassFile.FieldType.int) [((0 : Nat), (9 : Nat), (12 : Nat), (13 : Nat))]) ∈ lw_all := lw_g (lw_at lw_m6 71 rfl) rfl
theorem q1392 : (Jvm.Cond.methodLink "GhostAssizeLaw" (104 : Nat) ({ cls := "GhostAssize", name := "trial", desc := "(I)I" } : Jvm.MethodName)) ∈ lw_all := lw_g (lw_at lw_m6 72 rfl) rfl
theorem q1400 : (Jvm.Cond.methodLink "GhostAssizeLaw" (268 : Nat) ({ cls := "GhostAssizeLaw", name := "span", desc := "(LGhostAssize;IZ[J)I" } : Jvm.MethodName)) ∈ lw_all := lw_g (lw_at lw_m6 80 rfl) rfl
theorem q1401 : (Jvm.Cond.static ({ cls := "GhostAssizeLaw", name := "span", desc := "(LGhostAssize;IZ[J)I" } : Jvm.MethodName)) ∈ lw_all := lw_g (lw_at lw_m6 81 rfl) rfl
theorem q1402 : (Jvm.Cond.codeWith ({ cls := "GhostAssizeLaw", name := "span", desc := "(LGhostAssize;IZ[J)I" } : Jvm.MethodName) method_30_code (5 : Nat) (Option.some Jvm.ClassFile.FieldType.int) [((0 : Nat), (10 : Nat), (13 : Nat), (13 : Nat))]) ∈ lw_all := lw_g (lw_at lw_m6 82 rfl) rfl
theorem q1403 : (Jvm.Cond.methodLink "GhostAssizeLaw" (107 : Nat) ({ cls := "GhostAssize", name := "span", desc := "(IZ)I" } : Jvm.MethodName)) ∈ lw_all := lw_g (lw_at lw_m6 83 rfl) rfl
theorem q1407 : (Jvm.Cond.methodLink "GhostAssizeLaw" (271 : Nat) ({ cls := "GhostAssizeLaw", name := "led", desc := "(LGhostAssize;IZ[J)I" } : Jvm.MethodName)) ∈ lw_all := lw_g (lw_at lw_m6 87 rfl) rfl
theorem q1408 : (Jvm.Cond.static ({ cls := "GhostAssizeLaw", name := "led", desc := "(LGhostAssize;IZ[J)I" } : Jvm.MethodName)) ∈ lw_all := lw_g (lw_at lw_m6 88 rfl) rfl
theorem q1409 : (Jvm.Cond.codeWith ({ cls := "GhostAssizeLaw", name := "led", desc := "(LGhostAssize;IZ[J)I" } : Jvm.MethodName) method_31_code (5 : Nat) (Option.some Jvm.ClassFile.FieldType.int) [((0 : Nat), (10 : Nat), (13 : Nat), (24 : Nat))]) ∈ lw_all := lw_g (lw_at lw_m6 89 rfl) rfl
theorem q1410 : (Jvm.Cond.methodLink "GhostAssizeLaw" (110 : Nat) ({ cls := "GhostAssize", name := "led", desc := "(IZ)I" } : Jvm.MethodName)) ∈ lw_all := lw_g (lw_at lw_m6 90 rfl) rfl
theorem q1424 : (Jvm.Cond.methodLink "GhostAssizeLaw" (274 : Nat) ({ cls := "GhostAssizeLaw", name := "log", desc := "(LGhostAssize;II[J)I" } : Jvm.MethodName)) ∈ lw_all := lw_g (lw_at lw_m6 104 rfl) rfl
theorem q1425 : (Jvm.Cond.static ({ cls := "GhostAssizeLaw", name := "log", desc := "(LGhostAssize;II[J)I" } : Jvm.MethodName)) ∈ lw_all := lw_g (lw_at lw_m6 105 rfl) rfl
theorem q1426 : (Jvm.Cond.codeWith ({ cls := "GhostAssizeLaw", name := "log", desc := "(LGhostAssize;II[J)I" } : Jvm.MethodName) method_32_code (5 : Nat) (Option.some Jvm.ClassFile.FieldType.int) [((0 : Nat), (10 : Nat), (13 : Nat), (26 : Nat))]) ∈ lw_all := lw_g (lw_at lw_m6 106 rfl) rfl
theorem q1427 : (Jvm.Cond.methodLink "GhostAssizeLaw" (113 : Nat) ({ cls := "GhostAssize", name := "log", desc := "(II)I" } : Jvm.MethodName)) ∈ lw_all := lw_g (lw_at lw_m6 107 rfl) rfl
theorem q1434 : (Jvm.Cond.methodLink "GhostAssizeLaw" (136 : Nat) ({ cls := "GhostAssizeModel", name := "thrown", desc := "()I" } : Jvm.MethodName)) ∈ lw_all := lw_g (lw_at lw_m6 114 rfl) rfl
theorem q1438 : (Jvm.Cond.classLink "GhostAssizeLaw" (117 : Nat) "GhostAssizeModel") ∈ lw_all := lw_g (lw_at lw_m6 118 rfl) rfl
theorem q1440 : (Jvm.Cond.methodLink "GhostAssizeLaw" (119 : Nat) ({ cls := "GhostAssizeModel", name := "<init>", desc := "()V" } : Jvm.MethodName)) ∈ lw_all := lw_g (lw_at lw_m6 120 rfl) rfl
theorem q1559 : (Jvm.Cond.methodLink "GhostAssizeLaw" (289 : Nat) ({ cls := "GhostAssizeModel", name := "image", desc := "()V" } : Jvm.MethodName)) ∈ lw_all := lw_g (lw_at lw_m6 239 rfl) rfl
theorem q1563 : (Jvm.Cond.methodLink "GhostAssizeLaw" (293 : Nat) ({ cls := "GhostAssizeModel", name := "back", desc := "()Z" } : Jvm.MethodName)) ∈ lw_all := lw_g (lw_at lw_m7 3 rfl) rfl
theorem q1567 : (Jvm.Cond.methodLink "GhostAssizeLaw" (285 : Nat) ({ cls := "GhostAssizeModel", name := "undo", desc := "()Z" } : Jvm.MethodName)) ∈ lw_all := lw_g (lw_at lw_m7 7 rfl) rfl
theorem q1571 : (Jvm.Cond.methodLink "GhostAssizeLaw" (124 : Nat) ({ cls := "GhostAssizeModel", name := "feed", desc := "(IIIII)I" } : Jvm.MethodName)) ∈ lw_all := lw_g (lw_at lw_m7 11 rfl) rfl
theorem q1575 : (Jvm.Cond.methodLink "GhostAssizeLaw" (129 : Nat) ({ cls := "GhostAssizeModel", name := "end", desc := "(I)Z" } : Jvm.MethodName)) ∈ lw_all := lw_g (lw_at lw_m7 15 rfl) rfl
theorem q1579 : (Jvm.Cond.methodLink "GhostAssizeLaw" (145 : Nat) ({ cls := "GhostAssizeModel", name := "fault", desc := "()I" } : Jvm.MethodName)) ∈ lw_all := lw_g (lw_at lw_m7 19 rfl) rfl
theorem q1583 : (Jvm.Cond.methodLink "GhostAssizeLaw" (135 : Nat) ({ cls := "GhostAssizeModel", name := "court", desc := "()I" } : Jvm.MethodName)) ∈ lw_all := lw_g (lw_at lw_m7 23 rfl) rfl
theorem q1740 : (Jvm.Cond.methodLink "GhostAssizeLaw" (141 : Nat) ({ cls := "GhostAssizeModel", name := "law", desc := "()I" } : Jvm.MethodName)) ∈ lw_all := lw_g (lw_at lw_m7 180 rfl) rfl
theorem q1744 : (Jvm.Cond.methodLink "GhostAssizeLaw" (149 : Nat) ({ cls := "GhostAssizeModel", name := "prop", desc := "(II)I" } : Jvm.MethodName)) ∈ lw_all := lw_g (lw_at lw_m7 184 rfl) rfl
theorem q1752 : (Jvm.Cond.methodLink "GhostAssizeLaw" (153 : Nat) ({ cls := "GhostAssizeModel", name := "slot", desc := "(I)I" } : Jvm.MethodName)) ∈ lw_all := lw_g (lw_at lw_m7 192 rfl) rfl
theorem q1759 : (Jvm.Cond.methodLink "GhostAssizeLaw" (156 : Nat) ({ cls := "GhostAssizeModel", name := "accused", desc := "(II)I" } : Jvm.MethodName)) ∈ lw_all := lw_g (lw_at lw_m7 199 rfl) rfl
theorem q1771 : (Jvm.Cond.methodLink "GhostAssizeLaw" (160 : Nat) ({ cls := "GhostAssizeModel", name := "fright", desc := "(IIIZ)I" } : Jvm.MethodName)) ∈ lw_all := lw_g (lw_at lw_m7 211 rfl) rfl
theorem q1800 : (Jvm.Cond.methodLink "GhostAssizeLaw" (163 : Nat) ({ cls := "GhostAssizeModel", name := "send", desc := "(I)I" } : Jvm.MethodName)) ∈ lw_all := lw_g (lw_at lw_m8 0 rfl) rfl
theorem q1846 : (Jvm.Cond.methodLink "GhostAssizeLaw" (167 : Nat) ({ cls := "GhostAssizeModel", name := "nail", desc := "(II)V" } : Jvm.MethodName)) ∈ lw_all := lw_g (lw_at lw_m8 46 rfl) rfl
theorem q1854 : (Jvm.Cond.methodLink "GhostAssizeLaw" (170 : Nat) ({ cls := "GhostAssizeModel", name := "down", desc := "(I)I" } : Jvm.MethodName)) ∈ lw_all := lw_g (lw_at lw_m8 54 rfl) rfl
theorem q1858 : (Jvm.Cond.methodLink "GhostAssizeLaw" (173 : Nat) ({ cls := "GhostAssizeModel", name := "mend", desc := "(I)I" } : Jvm.MethodName)) ∈ lw_all := lw_g (lw_at lw_m8 58 rfl) rfl
theorem q1862 : (Jvm.Cond.methodLink "GhostAssizeLaw" (177 : Nat) ({ cls := "GhostAssizeModel", name := "recall", desc := "(I)V" } : Jvm.MethodName)) ∈ lw_all := lw_g (lw_at lw_m8 62 rfl) rfl
theorem q1866 : (Jvm.Cond.methodLink "GhostAssizeLaw" (180 : Nat) ({ cls := "GhostAssizeModel", name := "inside", desc := "(I)I" } : Jvm.MethodName)) ∈ lw_all := lw_g (lw_at lw_m8 66 rfl) rfl
theorem q1874 : (Jvm.Cond.methodLink "GhostAssizeLaw" (183 : Nat) ({ cls := "GhostAssizeModel", name := "calm", desc := "(I)I" } : Jvm.MethodName)) ∈ lw_all := lw_g (lw_at lw_m8 74 rfl) rfl
theorem q1878 : (Jvm.Cond.methodLink "GhostAssizeLaw" (186 : Nat) ({ cls := "GhostAssizeModel", name := "mornings", desc := "(I)I" } : Jvm.MethodName)) ∈ lw_all := lw_g (lw_at lw_m8 78 rfl) rfl
theorem q1882 : (Jvm.Cond.methodLink "GhostAssizeLaw" (189 : Nat) ({ cls := "GhostAssizeModel", name := "straight", desc := "(I)I" } : Jvm.MethodName)) ∈ lw_all := lw_g (lw_at lw_m8 82 rfl) rfl
theorem q1890 : (Jvm.Cond.methodLink "GhostAssizeLaw" (192 : Nat) ({ cls := "GhostAssizeModel", name := "tense", desc := "(II)I" } : Jvm.MethodName)) ∈ lw_all := lw_g (lw_at lw_m8 90 rfl) rfl
theorem q1894 : (Jvm.Cond.methodLink "GhostAssizeLaw" (231 : Nat) ({ cls := "GhostAssizeModel", name := "corners", desc := "(I)I" } : Jvm.MethodName)) ∈ lw_all := lw_g (lw_at lw_m8 94 rfl) rfl
theorem q1898 : (Jvm.Cond.methodLink "GhostAssizeLaw" (260 : Nat) ({ cls := "GhostAssizeModel", name := "share", desc := "(II)I" } : Jvm.MethodName)) ∈ lw_all := lw_g (lw_at lw_m8 98 rfl) rfl
theorem q1902 : (Jvm.Cond.methodLink "GhostAssizeLaw" (257 : Nat) ({ cls := "GhostAssizeModel", name := "all", desc := "(Z)I" } : Jvm.MethodName)) ∈ lw_all := lw_g (lw_at lw_m8 102 rfl) rfl
theorem q1918 : (Jvm.Cond.methodLink "GhostAssizeLaw" (253 : Nat) ({ cls := "GhostAssizeModel", name := "lasts", desc := "(II)I" } : Jvm.MethodName)) ∈ lw_all := lw_g (lw_at lw_m8 118 rfl) rfl
theorem q1922 : (Jvm.Cond.methodLink "GhostAssizeLaw" (228 : Nat) ({ cls := "GhostAssizeModel", name := "car", desc := "(II)I" } : Jvm.MethodName)) ∈ lw_all := lw_g (lw_at lw_m8 122 rfl) rfl
theorem q1934 : (Jvm.Cond.methodLink "GhostAssizeLaw" (195 : Nat) ({ cls := "GhostAssizeModel", name := "ways", desc := "(I)I" } : Jvm.MethodName)) ∈ lw_all := lw_g (lw_at lw_m8 134 rfl) rfl
theorem q1950 : (Jvm.Cond.methodLink "GhostAssizeLaw" (198 : Nat) ({ cls := "GhostAssizeModel", name := "at", desc := "(II)I" } : Jvm.MethodName)) ∈ lw_all := lw_g (lw_at lw_m8 150 rfl) rfl
theorem q1954 : (Jvm.Cond.methodLink "GhostAssizeLaw" (201 : Nat) ({ cls := "GhostAssizeModel", name := "odds", desc := "(I)I" } : Jvm.MethodName)) ∈ lw_all := lw_g (lw_at lw_m8 154 rfl) rfl
theorem q1963 : (Jvm.Cond.methodLink "GhostAssizeLaw" (205 : Nat) ({ cls := "GhostAssizeModel", name := "gap", desc := "()I" } : Jvm.MethodName)) ∈ lw_all := lw_g (lw_at lw_m8 163 rfl) rfl
theorem q1975 : (Jvm.Cond.methodLink "GhostAssizeLaw" (210 : Nat) ({ cls := "GhostAssizeModel", name := "errors", desc := "(Z)I" } : Jvm.MethodName)) ∈ lw_all := lw_g (lw_at lw_m8 175 rfl) rfl
theorem q1979 : (Jvm.Cond.methodLink "GhostAssizeLaw" (243 : Nat) ({ cls := "GhostAssizeModel", name := "bravest", desc := "()I" } : Jvm.MethodName)) ∈ lw_all := lw_g (lw_at lw_m8 179 rfl) rfl
theorem q1984 : (Jvm.Cond.methodLink "GhostAssizeLaw" (264 : Nat) ({ cls := "GhostAssizeModel", name := "loudest", desc := "()I" } : Jvm.MethodName)) ∈ lw_all := lw_g (lw_at lw_m8 184 rfl) rfl
theorem q1988 : (Jvm.Cond.methodLink "GhostAssizeLaw" (214 : Nat) ({ cls := "GhostAssizeModel", name := "swap", desc := "()I" } : Jvm.MethodName)) ∈ lw_all := lw_g (lw_at lw_m8 188 rfl) rfl
theorem q1996 : (Jvm.Cond.methodLink "GhostAssizeLaw" (218 : Nat) ({ cls := "GhostAssizeModel", name := "next", desc := "()I" } : Jvm.MethodName)) ∈ lw_all := lw_g (lw_at lw_m8 196 rfl) rfl
theorem q2001 : (Jvm.Cond.methodLink "GhostAssizeLaw" (239 : Nat) ({ cls := "GhostAssizeModel", name := "leave", desc := "()I" } : Jvm.MethodName)) ∈ lw_all := lw_g (lw_at lw_m8 201 rfl) rfl
theorem q2013 : (Jvm.Cond.methodLink "GhostAssizeLaw" (235 : Nat) ({ cls := "GhostAssizeModel", name := "cover", desc := "()I" } : Jvm.MethodName)) ∈ lw_all := lw_g (lw_at lw_m8 213 rfl) rfl
theorem q2021 : (Jvm.Cond.methodLink "GhostAssizeLaw" (250 : Nat) ({ cls := "GhostAssizeModel", name := "usher", desc := "(I)I" } : Jvm.MethodName)) ∈ lw_all := lw_g (lw_at lw_m8 221 rfl) rfl
theorem q2037 : (Jvm.Cond.methodLink "GhostAssizeLaw" (247 : Nat) ({ cls := "GhostAssizeModel", name := "alike", desc := "()I" } : Jvm.MethodName)) ∈ lw_all := lw_g (lw_at lw_m8 237 rfl) rfl
theorem q2041 : (Jvm.Cond.methodLink "GhostAssizeLaw" (222 : Nat) ({ cls := "GhostAssizeModel", name := "found", desc := "(IZ)I" } : Jvm.MethodName)) ∈ lw_all := lw_g (lw_at lw_m9 1 rfl) rfl
theorem q2053 : (Jvm.Cond.methodLink "GhostAssizeLaw" (225 : Nat) ({ cls := "GhostAssizeModel", name := "ask", desc := "(I)I" } : Jvm.MethodName)) ∈ lw_all := lw_g (lw_at lw_m9 13 rfl) rfl
theorem q2061 : (Jvm.Cond.methodLink "GhostAssizeLaw" (267 : Nat) ({ cls := "GhostAssizeModel", name := "trial", desc := "(I)I" } : Jvm.MethodName)) ∈ lw_all := lw_g (lw_at lw_m9 21 rfl) rfl
theorem q2069 : (Jvm.Cond.methodLink "GhostAssizeLaw" (270 : Nat) ({ cls := "GhostAssizeModel", name := "span", desc := "(IZ)I" } : Jvm.MethodName)) ∈ lw_all := lw_g (lw_at lw_m9 29 rfl) rfl
theorem q2073 : (Jvm.Cond.methodLink "GhostAssizeLaw" (273 : Nat) ({ cls := "GhostAssizeModel", name := "led", desc := "(IZ)I" } : Jvm.MethodName)) ∈ lw_all := lw_g (lw_at lw_m9 33 rfl) rfl
theorem q2081 : (Jvm.Cond.methodLink "GhostAssizeLaw" (276 : Nat) ({ cls := "GhostAssizeModel", name := "log", desc := "(II)I" } : Jvm.MethodName)) ∈ lw_all := lw_g (lw_at lw_m9 41 rfl) rfl
theorem q2085 : (Jvm.Cond.methodLink "GhostAssizeLaw" (280 : Nat) ({ cls := "GhostAssizeModel", name := "seed", desc := "(I)I" } : Jvm.MethodName)) ∈ lw_all := lw_g (lw_at lw_m9 45 rfl) rfl
theorem q2089 : (Jvm.Cond.methodLink "GhostAssizeLaw" (297 : Nat) ({ cls := "GhostAssizeModel", name := "count", desc := "(I)I" } : Jvm.MethodName)) ∈ lw_all := lw_g (lw_at lw_m9 49 rfl) rfl

/-! GhostAssize$Reader -/
set_option maxRecDepth 100000
def RX2 : String := "GhostAssize$Reader"
def TX2 : u_T := fun k => match k with
  | 0 => ("GhostAssize$Reader", "tape", "[B", true)
  | 1 => ("GhostAssize$Reader", "words", "[Ljava/lang/String;", true)
  | 2 => ("GhostAssize$Reader", "tags", "[Ljava/lang/String;", true)
  | 3 => ("GhostAssize$Reader", "row", "[LGhostAssize$Line;", true)
  | 4 => ("GhostAssize$Reader", "draft", "LGhostAssize$State;", true)
  | 5 => ("GhostAssize$Reader", "wrong", "LGhostAssize$Wrong;", true)
  | 6 => ("GhostAssize$Reader", "size", "I", false)
  | 7 => ("GhostAssize$Reader", "end", "I", false)
  | 8 => ("GhostAssize$Reader", "at", "I", false)
  | _ => ("GhostAssize$Reader", "deep", "I", false)
def tyX2 : Nat → FieldType := fun k => match k with
  | 0 => .array .byte
  | 1 => .array (.object "java/lang/String")
  | 2 => .array (.object "java/lang/String")
  | 3 => .array (.object "GhostAssize$Line")
  | 4 => .object "GhostAssize$State"
  | 5 => .object "GhostAssize$Wrong"
  | 6 => .int
  | 7 => .int
  | 8 => .int
  | _ => .int
abbrev wsX20 : List Cond := u_ws RX2 TX2 10
theorem nmX2 : ∀ a, a < 10 → ∀ b, b < 10 → a ≠ b → (TX2 a).2.1 ≠ (TX2 b).2.1 := by decide +kernel
theorem tyX2_ok : ∀ k, k < 10 → parseFieldDescriptor (TX2 k).2.2.1 = some (tyX2 k) := by decide +kernel
abbrev cX2_init : ByteArray := prog_10_method_1_code
def yX2_init : MethodName := ⟨RX2, "<init>", "()V"⟩
def dkwX2_init_4 : List UInt8 := [183, 0, 55, 181, 0, 56, 177]
abbrev dktX2_init_4 : List UInt8 := dkwX2_init_4 ++ []
def dkwX2_init_3 : List UInt8 := [16, 12, 189, 0, 40, 181, 0, 42, 42, 187, 0, 46, 89, 183, 0, 48, 181, 0, 49, 42, 187, 0, 53, 89]
abbrev dktX2_init_3 : List UInt8 := dkwX2_init_3 ++ dktX2_init_4
def dkwX2_init_2 : List UInt8 := [83, 181, 0, 29, 42, 5, 189, 0, 15, 89, 3, 18, 33, 83, 89, 4, 18, 35, 83, 181, 0, 37, 42]
abbrev dktX2_init_2 : List UInt8 := dkwX2_init_2 ++ dktX2_init_3
def dkwX2_init_1 : List UInt8 := [89, 4, 18, 19, 83, 89, 5, 18, 21, 83, 89, 6, 18, 23, 83, 89, 7, 18, 25, 83, 89, 8, 18, 27]
abbrev dktX2_init_1 : List UInt8 := dkwX2_init_1 ++ dktX2_init_2
def dkwX2_init_0 : List UInt8 := [42, 183, 0, 3, 42, 17, 1, 144, 188, 8, 181, 0, 9, 42, 16, 6, 189, 0, 15, 89, 3, 18, 17, 83]
abbrev dktX2_init_0 : List UInt8 := dkwX2_init_0 ++ dktX2_init_1
theorem dksX2_init_0 : cX2_init.data.toList.drop 0 = dktX2_init_0 := by decide +kernel
theorem dksX2_init_1 : cX2_init.data.toList.drop 24 = dktX2_init_1 := dk_seg dksX2_init_0 24 rfl rfl
theorem dksX2_init_2 : cX2_init.data.toList.drop 48 = dktX2_init_2 := dk_seg dksX2_init_1 24 rfl rfl
theorem dksX2_init_3 : cX2_init.data.toList.drop 71 = dktX2_init_3 := dk_seg dksX2_init_2 23 rfl rfl
theorem dksX2_init_4 : cX2_init.data.toList.drop 95 = dktX2_init_4 := dk_seg dksX2_init_3 24 rfl rfl
theorem dX2_init_0 : decode cX2_init 0 = .ok (.aload_n 0, 1) := dk_42 (dk_at dksX2_init_0 0 rfl rfl)
theorem dX2_init_1 : decode cX2_init 1 = .ok (.invokespecial 3, 3) := dk_183 0 3 (dk_at dksX2_init_0 1 rfl rfl)
theorem dX2_init_4 : decode cX2_init 4 = .ok (.aload_n 0, 1) := dk_42 (dk_at dksX2_init_0 4 rfl rfl)
theorem dX2_init_5 : decode cX2_init 5 = .ok (.sipush 400, 3) := dk_17 1 144 (dk_at dksX2_init_0 5 rfl rfl)
theorem dX2_init_8 : decode cX2_init 8 = .ok (.newarray .byte, 2) := dk_188_8 (dk_at dksX2_init_0 8 rfl rfl)
theorem dX2_init_10 : decode cX2_init 10 = .ok (.putfield 9, 3) := dk_181 0 9 (dk_at dksX2_init_0 10 rfl rfl)
theorem dX2_init_13 : decode cX2_init 13 = .ok (.aload_n 0, 1) := dk_42 (dk_at dksX2_init_0 13 rfl rfl)
theorem dX2_init_14 : decode cX2_init 14 = .ok (.bipush 6, 2) := dk_16 6 (dk_at dksX2_init_0 14 rfl rfl)
theorem dX2_init_16 : decode cX2_init 16 = .ok (.anewarray 15, 3) := dk_189 0 15 (dk_at dksX2_init_0 16 rfl rfl)
theorem dX2_init_19 : decode cX2_init 19 = .ok (.dup, 1) := dk_89 (dk_at dksX2_init_0 19 rfl rfl)
theorem dX2_init_20 : decode cX2_init 20 = .ok (.iconst 0, 1) := dk_3 (dk_at dksX2_init_0 20 rfl rfl)
theorem dX2_init_21 : decode cX2_init 21 = .ok (.ldc 17, 2) := dk_18 17 (dk_at dksX2_init_0 21 rfl rfl)
theorem dX2_init_23 : decode cX2_init 23 = .ok (.aastore, 1) := dk_83 (dk_at dksX2_init_0 23 rfl rfl)
theorem dX2_init_24 : decode cX2_init 24 = .ok (.dup, 1) := dk_89 (dk_at dksX2_init_1 0 rfl rfl)
theorem dX2_init_25 : decode cX2_init 25 = .ok (.iconst 1, 1) := dk_4 (dk_at dksX2_init_1 1 rfl rfl)
theorem dX2_init_26 : decode cX2_init 26 = .ok (.ldc 19, 2) := dk_18 19 (dk_at dksX2_init_1 2 rfl rfl)
theorem dX2_init_28 : decode cX2_init 28 = .ok (.aastore, 1) := dk_83 (dk_at dksX2_init_1 4 rfl rfl)
theorem dX2_init_29 : decode cX2_init 29 = .ok (.dup, 1) := dk_89 (dk_at dksX2_init_1 5 rfl rfl)
theorem dX2_init_30 : decode cX2_init 30 = .ok (.iconst 2, 1) := dk_5 (dk_at dksX2_init_1 6 rfl rfl)
theorem dX2_init_31 : decode cX2_init 31 = .ok (.ldc 21, 2) := dk_18 21 (dk_at dksX2_init_1 7 rfl rfl)
theorem dX2_init_33 : decode cX2_init 33 = .ok (.aastore, 1) := dk_83 (dk_at dksX2_init_1 9 rfl rfl)
theorem dX2_init_34 : decode cX2_init 34 = .ok (.dup, 1) := dk_89 (dk_at dksX2_init_1 10 rfl rfl)
theorem dX2_init_35 : decode cX2_init 35 = .ok (.iconst 3, 1) := dk_6 (dk_at dksX2_init_1 11 rfl rfl)
theorem dX2_init_36 : decode cX2_init 36 = .ok (.ldc 23, 2) := dk_18 23 (dk_at dksX2_init_1 12 rfl rfl)
theorem dX2_init_38 : decode cX2_init 38 = .ok (.aastore, 1) := dk_83 (dk_at dksX2_init_1 14 rfl rfl)
theorem dX2_init_39 : decode cX2_init 39 = .ok (.dup, 1) := dk_89 (dk_at dksX2_init_1 15 rfl rfl)
theorem dX2_init_40 : decode cX2_init 40 = .ok (.iconst 4, 1) := dk_7 (dk_at dksX2_init_1 16 rfl rfl)
theorem dX2_init_41 : decode cX2_init 41 = .ok (.ldc 25, 2) := dk_18 25 (dk_at dksX2_init_1 17 rfl rfl)
theorem dX2_init_43 : decode cX2_init 43 = .ok (.aastore, 1) := dk_83 (dk_at dksX2_init_1 19 rfl rfl)
theorem dX2_init_44 : decode cX2_init 44 = .ok (.dup, 1) := dk_89 (dk_at dksX2_init_1 20 rfl rfl)
theorem dX2_init_45 : decode cX2_init 45 = .ok (.iconst 5, 1) := dk_8 (dk_at dksX2_init_1 21 rfl rfl)
theorem dX2_init_46 : decode cX2_init 46 = .ok (.ldc 27, 2) := dk_18 27 (dk_at dksX2_init_1 22 rfl rfl)
theorem dX2_init_48 : decode cX2_init 48 = .ok (.aastore, 1) := dk_83 (dk_at dksX2_init_2 0 rfl rfl)
theorem dX2_init_49 : decode cX2_init 49 = .ok (.putfield 29, 3) := dk_181 0 29 (dk_at dksX2_init_2 1 rfl rfl)
theorem dX2_init_52 : decode cX2_init 52 = .ok (.aload_n 0, 1) := dk_42 (dk_at dksX2_init_2 4 rfl rfl)
theorem dX2_init_53 : decode cX2_init 53 = .ok (.iconst 2, 1) := dk_5 (dk_at dksX2_init_2 5 rfl rfl)
theorem dX2_init_54 : decode cX2_init 54 = .ok (.anewarray 15, 3) := dk_189 0 15 (dk_at dksX2_init_2 6 rfl rfl)
theorem dX2_init_57 : decode cX2_init 57 = .ok (.dup, 1) := dk_89 (dk_at dksX2_init_2 9 rfl rfl)
theorem dX2_init_58 : decode cX2_init 58 = .ok (.iconst 0, 1) := dk_3 (dk_at dksX2_init_2 10 rfl rfl)
theorem dX2_init_59 : decode cX2_init 59 = .ok (.ldc 33, 2) := dk_18 33 (dk_at dksX2_init_2 11 rfl rfl)
theorem dX2_init_61 : decode cX2_init 61 = .ok (.aastore, 1) := dk_83 (dk_at dksX2_init_2 13 rfl rfl)
theorem dX2_init_62 : decode cX2_init 62 = .ok (.dup, 1) := dk_89 (dk_at dksX2_init_2 14 rfl rfl)
theorem dX2_init_63 : decode cX2_init 63 = .ok (.iconst 1, 1) := dk_4 (dk_at dksX2_init_2 15 rfl rfl)
theorem dX2_init_64 : decode cX2_init 64 = .ok (.ldc 35, 2) := dk_18 35 (dk_at dksX2_init_2 16 rfl rfl)
theorem dX2_init_66 : decode cX2_init 66 = .ok (.aastore, 1) := dk_83 (dk_at dksX2_init_2 18 rfl rfl)
theorem dX2_init_67 : decode cX2_init 67 = .ok (.putfield 37, 3) := dk_181 0 37 (dk_at dksX2_init_2 19 rfl rfl)
theorem dX2_init_70 : decode cX2_init 70 = .ok (.aload_n 0, 1) := dk_42 (dk_at dksX2_init_2 22 rfl rfl)
theorem dX2_init_71 : decode cX2_init 71 = .ok (.bipush 12, 2) := dk_16 12 (dk_at dksX2_init_3 0 rfl rfl)
theorem dX2_init_73 : decode cX2_init 73 = .ok (.anewarray 40, 3) := dk_189 0 40 (dk_at dksX2_init_3 2 rfl rfl)
theorem dX2_init_76 : decode cX2_init 76 = .ok (.putfield 42, 3) := dk_181 0 42 (dk_at dksX2_init_3 5 rfl rfl)
theorem dX2_init_79 : decode cX2_init 79 = .ok (.aload_n 0, 1) := dk_42 (dk_at dksX2_init_3 8 rfl rfl)
theorem dX2_init_80 : decode cX2_init 80 = .ok (.new 46, 3) := dk_187 0 46 (dk_at dksX2_init_3 9 rfl rfl)
theorem dX2_init_83 : decode cX2_init 83 = .ok (.dup, 1) := dk_89 (dk_at dksX2_init_3 12 rfl rfl)
theorem dX2_init_84 : decode cX2_init 84 = .ok (.invokespecial 48, 3) := dk_183 0 48 (dk_at dksX2_init_3 13 rfl rfl)
theorem dX2_init_87 : decode cX2_init 87 = .ok (.putfield 49, 3) := dk_181 0 49 (dk_at dksX2_init_3 16 rfl rfl)
theorem dX2_init_90 : decode cX2_init 90 = .ok (.aload_n 0, 1) := dk_42 (dk_at dksX2_init_3 19 rfl rfl)
theorem dX2_init_91 : decode cX2_init 91 = .ok (.new 53, 3) := dk_187 0 53 (dk_at dksX2_init_3 20 rfl rfl)
theorem dX2_init_94 : decode cX2_init 94 = .ok (.dup, 1) := dk_89 (dk_at dksX2_init_3 23 rfl rfl)
theorem dX2_init_95 : decode cX2_init 95 = .ok (.invokespecial 55, 3) := dk_183 0 55 (dk_at dksX2_init_4 0 rfl rfl)
theorem dX2_init_98 : decode cX2_init 98 = .ok (.putfield 56, 3) := dk_181 0 56 (dk_at dksX2_init_4 3 rfl rfl)
theorem dX2_init_101 : decode cX2_init 101 = .ok (.return_, 1) := dk_177 (dk_at dksX2_init_4 6 rfl rfl)
abbrev cX2_court : ByteArray := prog_10_method_12_code
def yX2_court : MethodName := ⟨RX2, "court", "(ILGhostAssize$State;)LGhostAssize$State;"⟩
def dkwX2_court_1 : List UInt8 := [153, 0, 13, 42, 182, 0, 114, 132, 3, 1, 167, 255, 239, 42, 180, 0, 49, 176]
abbrev dktX2_court_1 : List UInt8 := dkwX2_court_1 ++ []
def dkwX2_court_0 : List UInt8 := [42, 27, 182, 0, 103, 42, 180, 0, 49, 44, 182, 0, 106, 3, 62, 42, 29, 16, 14, 182, 0, 110]
abbrev dktX2_court_0 : List UInt8 := dkwX2_court_0 ++ dktX2_court_1
theorem dksX2_court_0 : cX2_court.data.toList.drop 0 = dktX2_court_0 := by decide +kernel
theorem dksX2_court_1 : cX2_court.data.toList.drop 22 = dktX2_court_1 := dk_seg dksX2_court_0 22 rfl rfl
theorem dX2_court_0 : decode cX2_court 0 = .ok (.aload_n 0, 1) := dk_42 (dk_at dksX2_court_0 0 rfl rfl)
theorem dX2_court_1 : decode cX2_court 1 = .ok (.iload_n 1, 1) := dk_27 (dk_at dksX2_court_0 1 rfl rfl)
theorem dX2_court_2 : decode cX2_court 2 = .ok (.invokevirtual 103, 3) := dk_182 0 103 (dk_at dksX2_court_0 2 rfl rfl)
theorem dX2_court_5 : decode cX2_court 5 = .ok (.aload_n 0, 1) := dk_42 (dk_at dksX2_court_0 5 rfl rfl)
theorem dX2_court_6 : decode cX2_court 6 = .ok (.getfield 49, 3) := dk_180 0 49 (dk_at dksX2_court_0 6 rfl rfl)
theorem dX2_court_9 : decode cX2_court 9 = .ok (.aload_n 2, 1) := dk_44 (dk_at dksX2_court_0 9 rfl rfl)
theorem dX2_court_10 : decode cX2_court 10 = .ok (.invokevirtual 106, 3) := dk_182 0 106 (dk_at dksX2_court_0 10 rfl rfl)
theorem dX2_court_13 : decode cX2_court 13 = .ok (.iconst 0, 1) := dk_3 (dk_at dksX2_court_0 13 rfl rfl)
theorem dX2_court_14 : decode cX2_court 14 = .ok (.istore_n 3, 1) := dk_62 (dk_at dksX2_court_0 14 rfl rfl)
theorem dX2_court_15 : decode cX2_court 15 = .ok (.aload_n 0, 1) := dk_42 (dk_at dksX2_court_0 15 rfl rfl)
theorem dX2_court_16 : decode cX2_court 16 = .ok (.iload_n 3, 1) := dk_29 (dk_at dksX2_court_0 16 rfl rfl)
theorem dX2_court_17 : decode cX2_court 17 = .ok (.bipush 14, 2) := dk_16 14 (dk_at dksX2_court_0 17 rfl rfl)
theorem dX2_court_19 : decode cX2_court 19 = .ok (.invokevirtual 110, 3) := dk_182 0 110 (dk_at dksX2_court_0 19 rfl rfl)
theorem dX2_court_22 : decode cX2_court 22 = .ok (.ifCond .eq 13, 3) := dk_153 0 13 (dk_at dksX2_court_1 0 rfl rfl)
theorem dX2_court_25 : decode cX2_court 25 = .ok (.aload_n 0, 1) := dk_42 (dk_at dksX2_court_1 3 rfl rfl)
theorem dX2_court_26 : decode cX2_court 26 = .ok (.invokevirtual 114, 3) := dk_182 0 114 (dk_at dksX2_court_1 4 rfl rfl)
theorem dX2_court_29 : decode cX2_court 29 = .ok (.iinc 3 1, 3) := dk_132 3 1 (dk_at dksX2_court_1 7 rfl rfl)
theorem dX2_court_32 : decode cX2_court 32 = .ok (.goto (-17), 3) := dk_167 255 239 (dk_at dksX2_court_1 10 rfl rfl)
theorem dX2_court_35 : decode cX2_court 35 = .ok (.aload_n 0, 1) := dk_42 (dk_at dksX2_court_1 13 rfl rfl)
theorem dX2_court_36 : decode cX2_court 36 = .ok (.getfield 49, 3) := dk_180 0 49 (dk_at dksX2_court_1 14 rfl rfl)
theorem dX2_court_39 : decode cX2_court 39 = .ok (.areturn, 1) := dk_176 (dk_at dksX2_court_1 17 rfl rfl)
abbrev cX2_begins : ByteArray := prog_10_method_10_code
def yX2_begins : MethodName := ⟨RX2, "begins", "(I)V"⟩
def dkwX2_begins_0 : List UInt8 := [42, 27, 181, 0, 67, 42, 3, 181, 0, 64, 42, 3, 181, 0, 100, 177]
abbrev dktX2_begins_0 : List UInt8 := dkwX2_begins_0 ++ []
theorem dksX2_begins_0 : cX2_begins.data.toList.drop 0 = dktX2_begins_0 := by decide +kernel
theorem dX2_begins_0 : decode cX2_begins 0 = .ok (.aload_n 0, 1) := dk_42 (dk_at dksX2_begins_0 0 rfl rfl)
theorem dX2_begins_1 : decode cX2_begins 1 = .ok (.iload_n 1, 1) := dk_27 (dk_at dksX2_begins_0 1 rfl rfl)
theorem dX2_begins_2 : decode cX2_begins 2 = .ok (.putfield 67, 3) := dk_181 0 67 (dk_at dksX2_begins_0 2 rfl rfl)
theorem dX2_begins_5 : decode cX2_begins 5 = .ok (.aload_n 0, 1) := dk_42 (dk_at dksX2_begins_0 5 rfl rfl)
theorem dX2_begins_6 : decode cX2_begins 6 = .ok (.iconst 0, 1) := dk_3 (dk_at dksX2_begins_0 6 rfl rfl)
theorem dX2_begins_7 : decode cX2_begins 7 = .ok (.putfield 64, 3) := dk_181 0 64 (dk_at dksX2_begins_0 7 rfl rfl)
theorem dX2_begins_10 : decode cX2_begins 10 = .ok (.aload_n 0, 1) := dk_42 (dk_at dksX2_begins_0 10 rfl rfl)
theorem dX2_begins_11 : decode cX2_begins 11 = .ok (.iconst 0, 1) := dk_3 (dk_at dksX2_begins_0 11 rfl rfl)
theorem dX2_begins_12 : decode cX2_begins 12 = .ok (.putfield 100, 3) := dk_181 0 100 (dk_at dksX2_begins_0 12 rfl rfl)
theorem dX2_begins_15 : decode cX2_begins 15 = .ok (.return_, 1) := dk_177 (dk_at dksX2_begins_0 15 rfl rfl)
abbrev cX2_more : ByteArray := prog_10_method_11_code
def yX2_more : MethodName := ⟨RX2, "more", "(II)Z"⟩
def dkwX2_more_4 : List UInt8 := [172]
abbrev dktX2_more_4 : List UInt8 := dkwX2_more_4 ++ []
def dkwX2_more_3 : List UInt8 := [167, 0, 4, 2, 54, 4, 29, 153, 0, 16, 27, 28, 160, 0, 11, 42, 42, 180, 0, 64, 182, 0, 85, 29]
abbrev dktX2_more_3 : List UInt8 := dkwX2_more_3 ++ dktX2_more_4
def dkwX2_more_2 : List UInt8 := [27, 158, 0, 13, 42, 89, 180, 0, 64, 4, 96, 181, 0, 64, 29, 153, 0, 10, 42, 182, 0, 70]
abbrev dktX2_more_2 : List UInt8 := dkwX2_more_2 ++ dktX2_more_3
def dkwX2_more_1 : List UInt8 := [180, 0, 64, 182, 0, 85, 42, 182, 0, 70, 2, 159, 0, 7, 4, 167, 0, 4, 3, 62, 29, 153, 0, 17]
abbrev dktX2_more_1 : List UInt8 := dkwX2_more_1 ++ dktX2_more_2
def dkwX2_more_0 : List UInt8 := [27, 158, 0, 28, 42, 182, 0, 70, 2, 159, 0, 20, 42, 182, 0, 70, 16, 59, 159, 0, 11, 42, 42]
abbrev dktX2_more_0 : List UInt8 := dkwX2_more_0 ++ dktX2_more_1
theorem dksX2_more_0 : cX2_more.data.toList.drop 0 = dktX2_more_0 := by decide +kernel
theorem dksX2_more_1 : cX2_more.data.toList.drop 23 = dktX2_more_1 := dk_seg dksX2_more_0 23 rfl rfl
theorem dksX2_more_2 : cX2_more.data.toList.drop 47 = dktX2_more_2 := dk_seg dksX2_more_1 24 rfl rfl
theorem dksX2_more_3 : cX2_more.data.toList.drop 69 = dktX2_more_3 := dk_seg dksX2_more_2 22 rfl rfl
theorem dksX2_more_4 : cX2_more.data.toList.drop 93 = dktX2_more_4 := dk_seg dksX2_more_3 24 rfl rfl
theorem dX2_more_0 : decode cX2_more 0 = .ok (.iload_n 1, 1) := dk_27 (dk_at dksX2_more_0 0 rfl rfl)
theorem dX2_more_1 : decode cX2_more 1 = .ok (.ifCond .le 28, 3) := dk_158 0 28 (dk_at dksX2_more_0 1 rfl rfl)
theorem dX2_more_4 : decode cX2_more 4 = .ok (.aload_n 0, 1) := dk_42 (dk_at dksX2_more_0 4 rfl rfl)
theorem dX2_more_5 : decode cX2_more 5 = .ok (.invokevirtual 70, 3) := dk_182 0 70 (dk_at dksX2_more_0 5 rfl rfl)
theorem dX2_more_8 : decode cX2_more 8 = .ok (.iconst (-1), 1) := dk_2 (dk_at dksX2_more_0 8 rfl rfl)
theorem dX2_more_9 : decode cX2_more 9 = .ok (.if_icmp .eq 20, 3) := dk_159 0 20 (dk_at dksX2_more_0 9 rfl rfl)
theorem dX2_more_12 : decode cX2_more 12 = .ok (.aload_n 0, 1) := dk_42 (dk_at dksX2_more_0 12 rfl rfl)
theorem dX2_more_13 : decode cX2_more 13 = .ok (.invokevirtual 70, 3) := dk_182 0 70 (dk_at dksX2_more_0 13 rfl rfl)
theorem dX2_more_16 : decode cX2_more 16 = .ok (.bipush 59, 2) := dk_16 59 (dk_at dksX2_more_0 16 rfl rfl)
theorem dX2_more_18 : decode cX2_more 18 = .ok (.if_icmp .eq 11, 3) := dk_159 0 11 (dk_at dksX2_more_0 18 rfl rfl)
theorem dX2_more_21 : decode cX2_more 21 = .ok (.aload_n 0, 1) := dk_42 (dk_at dksX2_more_0 21 rfl rfl)
theorem dX2_more_22 : decode cX2_more 22 = .ok (.aload_n 0, 1) := dk_42 (dk_at dksX2_more_0 22 rfl rfl)
theorem dX2_more_23 : decode cX2_more 23 = .ok (.getfield 64, 3) := dk_180 0 64 (dk_at dksX2_more_1 0 rfl rfl)
theorem dX2_more_26 : decode cX2_more 26 = .ok (.invokevirtual 85, 3) := dk_182 0 85 (dk_at dksX2_more_1 3 rfl rfl)
theorem dX2_more_29 : decode cX2_more 29 = .ok (.aload_n 0, 1) := dk_42 (dk_at dksX2_more_1 6 rfl rfl)
theorem dX2_more_30 : decode cX2_more 30 = .ok (.invokevirtual 70, 3) := dk_182 0 70 (dk_at dksX2_more_1 7 rfl rfl)
theorem dX2_more_33 : decode cX2_more 33 = .ok (.iconst (-1), 1) := dk_2 (dk_at dksX2_more_1 10 rfl rfl)
theorem dX2_more_34 : decode cX2_more 34 = .ok (.if_icmp .eq 7, 3) := dk_159 0 7 (dk_at dksX2_more_1 11 rfl rfl)
theorem dX2_more_37 : decode cX2_more 37 = .ok (.iconst 1, 1) := dk_4 (dk_at dksX2_more_1 14 rfl rfl)
theorem dX2_more_38 : decode cX2_more 38 = .ok (.goto 4, 3) := dk_167 0 4 (dk_at dksX2_more_1 15 rfl rfl)
theorem dX2_more_41 : decode cX2_more 41 = .ok (.iconst 0, 1) := dk_3 (dk_at dksX2_more_1 18 rfl rfl)
theorem dX2_more_42 : decode cX2_more 42 = .ok (.istore_n 3, 1) := dk_62 (dk_at dksX2_more_1 19 rfl rfl)
theorem dX2_more_43 : decode cX2_more 43 = .ok (.iload_n 3, 1) := dk_29 (dk_at dksX2_more_1 20 rfl rfl)
theorem dX2_more_44 : decode cX2_more 44 = .ok (.ifCond .eq 17, 3) := dk_153 0 17 (dk_at dksX2_more_1 21 rfl rfl)
theorem dX2_more_47 : decode cX2_more 47 = .ok (.iload_n 1, 1) := dk_27 (dk_at dksX2_more_2 0 rfl rfl)
theorem dX2_more_48 : decode cX2_more 48 = .ok (.ifCond .le 13, 3) := dk_158 0 13 (dk_at dksX2_more_2 1 rfl rfl)
theorem dX2_more_51 : decode cX2_more 51 = .ok (.aload_n 0, 1) := dk_42 (dk_at dksX2_more_2 4 rfl rfl)
theorem dX2_more_52 : decode cX2_more 52 = .ok (.dup, 1) := dk_89 (dk_at dksX2_more_2 5 rfl rfl)
theorem dX2_more_53 : decode cX2_more 53 = .ok (.getfield 64, 3) := dk_180 0 64 (dk_at dksX2_more_2 6 rfl rfl)
theorem dX2_more_56 : decode cX2_more 56 = .ok (.iconst 1, 1) := dk_4 (dk_at dksX2_more_2 9 rfl rfl)
theorem dX2_more_57 : decode cX2_more 57 = .ok (.iadd, 1) := dk_96 (dk_at dksX2_more_2 10 rfl rfl)
theorem dX2_more_58 : decode cX2_more 58 = .ok (.putfield 64, 3) := dk_181 0 64 (dk_at dksX2_more_2 11 rfl rfl)
theorem dX2_more_61 : decode cX2_more 61 = .ok (.iload_n 3, 1) := dk_29 (dk_at dksX2_more_2 14 rfl rfl)
theorem dX2_more_62 : decode cX2_more 62 = .ok (.ifCond .eq 10, 3) := dk_153 0 10 (dk_at dksX2_more_2 15 rfl rfl)
theorem dX2_more_65 : decode cX2_more 65 = .ok (.aload_n 0, 1) := dk_42 (dk_at dksX2_more_2 18 rfl rfl)
theorem dX2_more_66 : decode cX2_more 66 = .ok (.invokevirtual 70, 3) := dk_182 0 70 (dk_at dksX2_more_2 19 rfl rfl)
theorem dX2_more_69 : decode cX2_more 69 = .ok (.goto 4, 3) := dk_167 0 4 (dk_at dksX2_more_3 0 rfl rfl)
theorem dX2_more_72 : decode cX2_more 72 = .ok (.iconst (-1), 1) := dk_2 (dk_at dksX2_more_3 3 rfl rfl)
theorem dX2_more_73 : decode cX2_more 73 = .ok (.istore 4, 2) := dk_54 4 (dk_at dksX2_more_3 4 rfl rfl)
theorem dX2_more_75 : decode cX2_more 75 = .ok (.iload_n 3, 1) := dk_29 (dk_at dksX2_more_3 6 rfl rfl)
theorem dX2_more_76 : decode cX2_more 76 = .ok (.ifCond .eq 16, 3) := dk_153 0 16 (dk_at dksX2_more_3 7 rfl rfl)
theorem dX2_more_79 : decode cX2_more 79 = .ok (.iload_n 1, 1) := dk_27 (dk_at dksX2_more_3 10 rfl rfl)
theorem dX2_more_80 : decode cX2_more 80 = .ok (.iload_n 2, 1) := dk_28 (dk_at dksX2_more_3 11 rfl rfl)
theorem dX2_more_81 : decode cX2_more 81 = .ok (.if_icmp .ne 11, 3) := dk_160 0 11 (dk_at dksX2_more_3 12 rfl rfl)
theorem dX2_more_84 : decode cX2_more 84 = .ok (.aload_n 0, 1) := dk_42 (dk_at dksX2_more_3 15 rfl rfl)
theorem dX2_more_85 : decode cX2_more 85 = .ok (.aload_n 0, 1) := dk_42 (dk_at dksX2_more_3 16 rfl rfl)
theorem dX2_more_86 : decode cX2_more 86 = .ok (.getfield 64, 3) := dk_180 0 64 (dk_at dksX2_more_3 17 rfl rfl)
theorem dX2_more_89 : decode cX2_more 89 = .ok (.invokevirtual 85, 3) := dk_182 0 85 (dk_at dksX2_more_3 20 rfl rfl)
theorem dX2_more_92 : decode cX2_more 92 = .ok (.iload_n 3, 1) := dk_29 (dk_at dksX2_more_3 23 rfl rfl)
theorem dX2_more_93 : decode cX2_more 93 = .ok (.ireturn, 1) := dk_172 (dk_at dksX2_more_4 0 rfl rfl)
abbrev cX2_sign : ByteArray := prog_10_method_3_code
def yX2_sign : MethodName := ⟨RX2, "sign", "()I"⟩
def dkwX2_sign_2 : List UInt8 := [162, 0, 19, 42, 180, 0, 9, 42, 180, 0, 64, 51, 17, 0, 255, 126, 167, 0, 4, 2, 172]
abbrev dktX2_sign_2 : List UInt8 := dkwX2_sign_2 ++ []
def dkwX2_sign_1 : List UInt8 := [160, 0, 16, 42, 89, 180, 0, 64, 4, 96, 181, 0, 64, 167, 255, 221, 42, 180, 0, 64, 42, 180, 0, 67]
abbrev dktX2_sign_1 : List UInt8 := dkwX2_sign_1 ++ dktX2_sign_2
def dkwX2_sign_0 : List UInt8 := [42, 180, 0, 64, 42, 180, 0, 67, 162, 0, 30, 42, 180, 0, 9, 42, 180, 0, 64, 51, 16, 32]
abbrev dktX2_sign_0 : List UInt8 := dkwX2_sign_0 ++ dktX2_sign_1
theorem dksX2_sign_0 : cX2_sign.data.toList.drop 0 = dktX2_sign_0 := by decide +kernel
theorem dksX2_sign_1 : cX2_sign.data.toList.drop 22 = dktX2_sign_1 := dk_seg dksX2_sign_0 22 rfl rfl
theorem dksX2_sign_2 : cX2_sign.data.toList.drop 46 = dktX2_sign_2 := dk_seg dksX2_sign_1 24 rfl rfl
theorem dX2_sign_0 : decode cX2_sign 0 = .ok (.aload_n 0, 1) := dk_42 (dk_at dksX2_sign_0 0 rfl rfl)
theorem dX2_sign_1 : decode cX2_sign 1 = .ok (.getfield 64, 3) := dk_180 0 64 (dk_at dksX2_sign_0 1 rfl rfl)
theorem dX2_sign_4 : decode cX2_sign 4 = .ok (.aload_n 0, 1) := dk_42 (dk_at dksX2_sign_0 4 rfl rfl)
theorem dX2_sign_5 : decode cX2_sign 5 = .ok (.getfield 67, 3) := dk_180 0 67 (dk_at dksX2_sign_0 5 rfl rfl)
theorem dX2_sign_8 : decode cX2_sign 8 = .ok (.if_icmp .ge 30, 3) := dk_162 0 30 (dk_at dksX2_sign_0 8 rfl rfl)
theorem dX2_sign_11 : decode cX2_sign 11 = .ok (.aload_n 0, 1) := dk_42 (dk_at dksX2_sign_0 11 rfl rfl)
theorem dX2_sign_12 : decode cX2_sign 12 = .ok (.getfield 9, 3) := dk_180 0 9 (dk_at dksX2_sign_0 12 rfl rfl)
theorem dX2_sign_15 : decode cX2_sign 15 = .ok (.aload_n 0, 1) := dk_42 (dk_at dksX2_sign_0 15 rfl rfl)
theorem dX2_sign_16 : decode cX2_sign 16 = .ok (.getfield 64, 3) := dk_180 0 64 (dk_at dksX2_sign_0 16 rfl rfl)
theorem dX2_sign_19 : decode cX2_sign 19 = .ok (.baload, 1) := dk_51 (dk_at dksX2_sign_0 19 rfl rfl)
theorem dX2_sign_20 : decode cX2_sign 20 = .ok (.bipush 32, 2) := dk_16 32 (dk_at dksX2_sign_0 20 rfl rfl)
theorem dX2_sign_22 : decode cX2_sign 22 = .ok (.if_icmp .ne 16, 3) := dk_160 0 16 (dk_at dksX2_sign_1 0 rfl rfl)
theorem dX2_sign_25 : decode cX2_sign 25 = .ok (.aload_n 0, 1) := dk_42 (dk_at dksX2_sign_1 3 rfl rfl)
theorem dX2_sign_26 : decode cX2_sign 26 = .ok (.dup, 1) := dk_89 (dk_at dksX2_sign_1 4 rfl rfl)
theorem dX2_sign_27 : decode cX2_sign 27 = .ok (.getfield 64, 3) := dk_180 0 64 (dk_at dksX2_sign_1 5 rfl rfl)
theorem dX2_sign_30 : decode cX2_sign 30 = .ok (.iconst 1, 1) := dk_4 (dk_at dksX2_sign_1 8 rfl rfl)
theorem dX2_sign_31 : decode cX2_sign 31 = .ok (.iadd, 1) := dk_96 (dk_at dksX2_sign_1 9 rfl rfl)
theorem dX2_sign_32 : decode cX2_sign 32 = .ok (.putfield 64, 3) := dk_181 0 64 (dk_at dksX2_sign_1 10 rfl rfl)
theorem dX2_sign_35 : decode cX2_sign 35 = .ok (.goto (-35), 3) := dk_167 255 221 (dk_at dksX2_sign_1 13 rfl rfl)
theorem dX2_sign_38 : decode cX2_sign 38 = .ok (.aload_n 0, 1) := dk_42 (dk_at dksX2_sign_1 16 rfl rfl)
theorem dX2_sign_39 : decode cX2_sign 39 = .ok (.getfield 64, 3) := dk_180 0 64 (dk_at dksX2_sign_1 17 rfl rfl)
theorem dX2_sign_42 : decode cX2_sign 42 = .ok (.aload_n 0, 1) := dk_42 (dk_at dksX2_sign_1 20 rfl rfl)
theorem dX2_sign_43 : decode cX2_sign 43 = .ok (.getfield 67, 3) := dk_180 0 67 (dk_at dksX2_sign_1 21 rfl rfl)
theorem dX2_sign_46 : decode cX2_sign 46 = .ok (.if_icmp .ge 19, 3) := dk_162 0 19 (dk_at dksX2_sign_2 0 rfl rfl)
theorem dX2_sign_49 : decode cX2_sign 49 = .ok (.aload_n 0, 1) := dk_42 (dk_at dksX2_sign_2 3 rfl rfl)
theorem dX2_sign_50 : decode cX2_sign 50 = .ok (.getfield 9, 3) := dk_180 0 9 (dk_at dksX2_sign_2 4 rfl rfl)
theorem dX2_sign_53 : decode cX2_sign 53 = .ok (.aload_n 0, 1) := dk_42 (dk_at dksX2_sign_2 7 rfl rfl)
theorem dX2_sign_54 : decode cX2_sign 54 = .ok (.getfield 64, 3) := dk_180 0 64 (dk_at dksX2_sign_2 8 rfl rfl)
theorem dX2_sign_57 : decode cX2_sign 57 = .ok (.baload, 1) := dk_51 (dk_at dksX2_sign_2 11 rfl rfl)
theorem dX2_sign_58 : decode cX2_sign 58 = .ok (.sipush 255, 3) := dk_17 0 255 (dk_at dksX2_sign_2 12 rfl rfl)
theorem dX2_sign_61 : decode cX2_sign 61 = .ok (.iand, 1) := dk_126 (dk_at dksX2_sign_2 15 rfl rfl)
theorem dX2_sign_62 : decode cX2_sign 62 = .ok (.goto 4, 3) := dk_167 0 4 (dk_at dksX2_sign_2 16 rfl rfl)
theorem dX2_sign_65 : decode cX2_sign 65 = .ok (.iconst (-1), 1) := dk_2 (dk_at dksX2_sign_2 19 rfl rfl)
theorem dX2_sign_66 : decode cX2_sign 66 = .ok (.ireturn, 1) := dk_172 (dk_at dksX2_sign_2 20 rfl rfl)
abbrev cX2_fail : ByteArray := prog_10_method_2_code
def yX2_fail : MethodName := ⟨RX2, "fail", "(I)V"⟩
def dkwX2_fail_0 : List UInt8 := [42, 180, 0, 56, 27, 181, 0, 60, 42, 180, 0, 56, 191]
abbrev dktX2_fail_0 : List UInt8 := dkwX2_fail_0 ++ []
theorem dksX2_fail_0 : cX2_fail.data.toList.drop 0 = dktX2_fail_0 := by decide +kernel
theorem dX2_fail_0 : decode cX2_fail 0 = .ok (.aload_n 0, 1) := dk_42 (dk_at dksX2_fail_0 0 rfl rfl)
theorem dX2_fail_1 : decode cX2_fail 1 = .ok (.getfield 56, 3) := dk_180 0 56 (dk_at dksX2_fail_0 1 rfl rfl)
theorem dX2_fail_4 : decode cX2_fail 4 = .ok (.iload_n 1, 1) := dk_27 (dk_at dksX2_fail_0 4 rfl rfl)
theorem dX2_fail_5 : decode cX2_fail 5 = .ok (.putfield 60, 3) := dk_181 0 60 (dk_at dksX2_fail_0 5 rfl rfl)
theorem dX2_fail_8 : decode cX2_fail 8 = .ok (.aload_n 0, 1) := dk_42 (dk_at dksX2_fail_0 8 rfl rfl)
theorem dX2_fail_9 : decode cX2_fail 9 = .ok (.getfield 56, 3) := dk_180 0 56 (dk_at dksX2_fail_0 9 rfl rfl)
theorem dX2_fail_12 : decode cX2_fail 12 = .ok (.athrow, 1) := dk_191 (dk_at dksX2_fail_0 12 rfl rfl)
abbrev cX2_line : ByteArray := prog_10_method_13_code
def yX2_line : MethodName := ⟨RX2, "line", "()V"⟩
def dkwX2_line_4 : List UInt8 := [18, 133, 182, 0, 92, 42, 180, 0, 49, 42, 3, 17, 3, 231, 182, 0, 96, 181, 0, 135, 177]
abbrev dktX2_line_4 : List UInt8 := dkwX2_line_4 ++ []
def dkwX2_line_3 : List UInt8 := [182, 0, 81, 153, 0, 20, 42, 180, 0, 49, 42, 3, 16, 20, 182, 0, 96, 181, 0, 131, 167, 0, 24, 42]
abbrev dktX2_line_3 : List UInt8 := dkwX2_line_3 ++ dktX2_line_4
def dkwX2_line_2 : List UInt8 := [153, 0, 20, 42, 180, 0, 49, 42, 3, 16, 9, 182, 0, 96, 181, 0, 127, 167, 0, 50, 42, 18, 129]
abbrev dktX2_line_2 : List UInt8 := dkwX2_line_2 ++ dktX2_line_3
def dkwX2_line_1 : List UInt8 := [18, 120, 182, 0, 81, 153, 0, 11, 42, 27, 182, 0, 122, 167, 0, 76, 42, 18, 125, 182, 0, 81]
abbrev dktX2_line_1 : List UInt8 := dkwX2_line_1 ++ dktX2_line_2
def dkwX2_line_0 : List UInt8 := [42, 180, 0, 64, 60, 42, 18, 17, 182, 0, 81, 153, 0, 11, 42, 27, 182, 0, 117, 167, 0, 93, 42]
abbrev dktX2_line_0 : List UInt8 := dkwX2_line_0 ++ dktX2_line_1
theorem dksX2_line_0 : cX2_line.data.toList.drop 0 = dktX2_line_0 := by decide +kernel
theorem dksX2_line_1 : cX2_line.data.toList.drop 23 = dktX2_line_1 := dk_seg dksX2_line_0 23 rfl rfl
theorem dksX2_line_2 : cX2_line.data.toList.drop 45 = dktX2_line_2 := dk_seg dksX2_line_1 22 rfl rfl
theorem dksX2_line_3 : cX2_line.data.toList.drop 68 = dktX2_line_3 := dk_seg dksX2_line_2 23 rfl rfl
theorem dksX2_line_4 : cX2_line.data.toList.drop 92 = dktX2_line_4 := dk_seg dksX2_line_3 24 rfl rfl
theorem dX2_line_0 : decode cX2_line 0 = .ok (.aload_n 0, 1) := dk_42 (dk_at dksX2_line_0 0 rfl rfl)
theorem dX2_line_1 : decode cX2_line 1 = .ok (.getfield 64, 3) := dk_180 0 64 (dk_at dksX2_line_0 1 rfl rfl)
theorem dX2_line_4 : decode cX2_line 4 = .ok (.istore_n 1, 1) := dk_60 (dk_at dksX2_line_0 4 rfl rfl)
theorem dX2_line_5 : decode cX2_line 5 = .ok (.aload_n 0, 1) := dk_42 (dk_at dksX2_line_0 5 rfl rfl)
theorem dX2_line_6 : decode cX2_line 6 = .ok (.ldc 17, 2) := dk_18 17 (dk_at dksX2_line_0 6 rfl rfl)
theorem dX2_line_8 : decode cX2_line 8 = .ok (.invokevirtual 81, 3) := dk_182 0 81 (dk_at dksX2_line_0 8 rfl rfl)
theorem dX2_line_11 : decode cX2_line 11 = .ok (.ifCond .eq 11, 3) := dk_153 0 11 (dk_at dksX2_line_0 11 rfl rfl)
theorem dX2_line_14 : decode cX2_line 14 = .ok (.aload_n 0, 1) := dk_42 (dk_at dksX2_line_0 14 rfl rfl)
theorem dX2_line_15 : decode cX2_line 15 = .ok (.iload_n 1, 1) := dk_27 (dk_at dksX2_line_0 15 rfl rfl)
theorem dX2_line_16 : decode cX2_line 16 = .ok (.invokevirtual 117, 3) := dk_182 0 117 (dk_at dksX2_line_0 16 rfl rfl)
theorem dX2_line_19 : decode cX2_line 19 = .ok (.goto 93, 3) := dk_167 0 93 (dk_at dksX2_line_0 19 rfl rfl)
theorem dX2_line_22 : decode cX2_line 22 = .ok (.aload_n 0, 1) := dk_42 (dk_at dksX2_line_0 22 rfl rfl)
theorem dX2_line_23 : decode cX2_line 23 = .ok (.ldc 120, 2) := dk_18 120 (dk_at dksX2_line_1 0 rfl rfl)
theorem dX2_line_25 : decode cX2_line 25 = .ok (.invokevirtual 81, 3) := dk_182 0 81 (dk_at dksX2_line_1 2 rfl rfl)
theorem dX2_line_28 : decode cX2_line 28 = .ok (.ifCond .eq 11, 3) := dk_153 0 11 (dk_at dksX2_line_1 5 rfl rfl)
theorem dX2_line_31 : decode cX2_line 31 = .ok (.aload_n 0, 1) := dk_42 (dk_at dksX2_line_1 8 rfl rfl)
theorem dX2_line_32 : decode cX2_line 32 = .ok (.iload_n 1, 1) := dk_27 (dk_at dksX2_line_1 9 rfl rfl)
theorem dX2_line_33 : decode cX2_line 33 = .ok (.invokevirtual 122, 3) := dk_182 0 122 (dk_at dksX2_line_1 10 rfl rfl)
theorem dX2_line_36 : decode cX2_line 36 = .ok (.goto 76, 3) := dk_167 0 76 (dk_at dksX2_line_1 13 rfl rfl)
theorem dX2_line_39 : decode cX2_line 39 = .ok (.aload_n 0, 1) := dk_42 (dk_at dksX2_line_1 16 rfl rfl)
theorem dX2_line_40 : decode cX2_line 40 = .ok (.ldc 125, 2) := dk_18 125 (dk_at dksX2_line_1 17 rfl rfl)
theorem dX2_line_42 : decode cX2_line 42 = .ok (.invokevirtual 81, 3) := dk_182 0 81 (dk_at dksX2_line_1 19 rfl rfl)
theorem dX2_line_45 : decode cX2_line 45 = .ok (.ifCond .eq 20, 3) := dk_153 0 20 (dk_at dksX2_line_2 0 rfl rfl)
theorem dX2_line_48 : decode cX2_line 48 = .ok (.aload_n 0, 1) := dk_42 (dk_at dksX2_line_2 3 rfl rfl)
theorem dX2_line_49 : decode cX2_line 49 = .ok (.getfield 49, 3) := dk_180 0 49 (dk_at dksX2_line_2 4 rfl rfl)
theorem dX2_line_52 : decode cX2_line 52 = .ok (.aload_n 0, 1) := dk_42 (dk_at dksX2_line_2 7 rfl rfl)
theorem dX2_line_53 : decode cX2_line 53 = .ok (.iconst 0, 1) := dk_3 (dk_at dksX2_line_2 8 rfl rfl)
theorem dX2_line_54 : decode cX2_line 54 = .ok (.bipush 9, 2) := dk_16 9 (dk_at dksX2_line_2 9 rfl rfl)
theorem dX2_line_56 : decode cX2_line 56 = .ok (.invokevirtual 96, 3) := dk_182 0 96 (dk_at dksX2_line_2 11 rfl rfl)
theorem dX2_line_59 : decode cX2_line 59 = .ok (.putfield 127, 3) := dk_181 0 127 (dk_at dksX2_line_2 14 rfl rfl)
theorem dX2_line_62 : decode cX2_line 62 = .ok (.goto 50, 3) := dk_167 0 50 (dk_at dksX2_line_2 17 rfl rfl)
theorem dX2_line_65 : decode cX2_line 65 = .ok (.aload_n 0, 1) := dk_42 (dk_at dksX2_line_2 20 rfl rfl)
theorem dX2_line_66 : decode cX2_line 66 = .ok (.ldc 129, 2) := dk_18 129 (dk_at dksX2_line_2 21 rfl rfl)
theorem dX2_line_68 : decode cX2_line 68 = .ok (.invokevirtual 81, 3) := dk_182 0 81 (dk_at dksX2_line_3 0 rfl rfl)
theorem dX2_line_71 : decode cX2_line 71 = .ok (.ifCond .eq 20, 3) := dk_153 0 20 (dk_at dksX2_line_3 3 rfl rfl)
theorem dX2_line_74 : decode cX2_line 74 = .ok (.aload_n 0, 1) := dk_42 (dk_at dksX2_line_3 6 rfl rfl)
theorem dX2_line_75 : decode cX2_line 75 = .ok (.getfield 49, 3) := dk_180 0 49 (dk_at dksX2_line_3 7 rfl rfl)
theorem dX2_line_78 : decode cX2_line 78 = .ok (.aload_n 0, 1) := dk_42 (dk_at dksX2_line_3 10 rfl rfl)
theorem dX2_line_79 : decode cX2_line 79 = .ok (.iconst 0, 1) := dk_3 (dk_at dksX2_line_3 11 rfl rfl)
theorem dX2_line_80 : decode cX2_line 80 = .ok (.bipush 20, 2) := dk_16 20 (dk_at dksX2_line_3 12 rfl rfl)
theorem dX2_line_82 : decode cX2_line 82 = .ok (.invokevirtual 96, 3) := dk_182 0 96 (dk_at dksX2_line_3 14 rfl rfl)
theorem dX2_line_85 : decode cX2_line 85 = .ok (.putfield 131, 3) := dk_181 0 131 (dk_at dksX2_line_3 17 rfl rfl)
theorem dX2_line_88 : decode cX2_line 88 = .ok (.goto 24, 3) := dk_167 0 24 (dk_at dksX2_line_3 20 rfl rfl)
theorem dX2_line_91 : decode cX2_line 91 = .ok (.aload_n 0, 1) := dk_42 (dk_at dksX2_line_3 23 rfl rfl)
theorem dX2_line_92 : decode cX2_line 92 = .ok (.ldc 133, 2) := dk_18 133 (dk_at dksX2_line_4 0 rfl rfl)
theorem dX2_line_94 : decode cX2_line 94 = .ok (.invokevirtual 92, 3) := dk_182 0 92 (dk_at dksX2_line_4 2 rfl rfl)
theorem dX2_line_97 : decode cX2_line 97 = .ok (.aload_n 0, 1) := dk_42 (dk_at dksX2_line_4 5 rfl rfl)
theorem dX2_line_98 : decode cX2_line 98 = .ok (.getfield 49, 3) := dk_180 0 49 (dk_at dksX2_line_4 6 rfl rfl)
theorem dX2_line_101 : decode cX2_line 101 = .ok (.aload_n 0, 1) := dk_42 (dk_at dksX2_line_4 9 rfl rfl)
theorem dX2_line_102 : decode cX2_line 102 = .ok (.iconst 0, 1) := dk_3 (dk_at dksX2_line_4 10 rfl rfl)
theorem dX2_line_103 : decode cX2_line 103 = .ok (.sipush 999, 3) := dk_17 3 231 (dk_at dksX2_line_4 11 rfl rfl)
theorem dX2_line_106 : decode cX2_line 106 = .ok (.invokevirtual 96, 3) := dk_182 0 96 (dk_at dksX2_line_4 14 rfl rfl)
theorem dX2_line_109 : decode cX2_line 109 = .ok (.putfield 135, 3) := dk_181 0 135 (dk_at dksX2_line_4 17 rfl rfl)
theorem dX2_line_112 : decode cX2_line 112 = .ok (.return_, 1) := dk_177 (dk_at dksX2_line_4 20 rfl rfl)
abbrev cX2_takes : ByteArray := prog_10_method_6_code
def yX2_takes : MethodName := ⟨RX2, "takes", "(Ljava/lang/String;)Z"⟩
def dkwX2_takes_5 : List UInt8 := [153, 0, 8, 42, 29, 181, 0, 64, 21, 4, 172]
abbrev dktX2_takes_5 : List UInt8 := dkwX2_takes_5 ++ []
def dkwX2_takes_4 : List UInt8 := [21, 5, 182, 0, 77, 160, 0, 7, 4, 167, 0, 4, 3, 54, 4, 132, 5, 1, 167, 255, 211, 21, 4]
abbrev dktX2_takes_4 : List UInt8 := dkwX2_takes_4 ++ dktX2_takes_5
def dkwX2_takes_3 : List UInt8 := [182, 0, 74, 162, 0, 42, 21, 4, 153, 0, 37, 42, 180, 0, 9, 42, 180, 0, 64, 21, 5, 96, 51, 43]
abbrev dktX2_takes_3 : List UInt8 := dkwX2_takes_3 ++ dktX2_takes_4
def dkwX2_takes_2 : List UInt8 := [180, 0, 64, 100, 43, 182, 0, 74, 160, 0, 7, 4, 167, 0, 4, 3, 54, 4, 3, 54, 5, 21, 5, 43]
abbrev dktX2_takes_2 : List UInt8 := dkwX2_takes_2 ++ dktX2_takes_3
def dkwX2_takes_1 : List UInt8 := [16, 97, 161, 0, 20, 42, 180, 0, 9, 29, 51, 16, 122, 163, 0, 9, 132, 3, 1, 167, 255, 223, 29, 42]
abbrev dktX2_takes_1 : List UInt8 := dkwX2_takes_1 ++ dktX2_takes_2
def dkwX2_takes_0 : List UInt8 := [42, 182, 0, 70, 61, 42, 180, 0, 64, 62, 29, 42, 180, 0, 67, 162, 0, 31, 42, 180, 0, 9, 29, 51]
abbrev dktX2_takes_0 : List UInt8 := dkwX2_takes_0 ++ dktX2_takes_1
theorem dksX2_takes_0 : cX2_takes.data.toList.drop 0 = dktX2_takes_0 := by decide +kernel
theorem dksX2_takes_1 : cX2_takes.data.toList.drop 24 = dktX2_takes_1 := dk_seg dksX2_takes_0 24 rfl rfl
theorem dksX2_takes_2 : cX2_takes.data.toList.drop 48 = dktX2_takes_2 := dk_seg dksX2_takes_1 24 rfl rfl
theorem dksX2_takes_3 : cX2_takes.data.toList.drop 72 = dktX2_takes_3 := dk_seg dksX2_takes_2 24 rfl rfl
theorem dksX2_takes_4 : cX2_takes.data.toList.drop 96 = dktX2_takes_4 := dk_seg dksX2_takes_3 24 rfl rfl
theorem dksX2_takes_5 : cX2_takes.data.toList.drop 119 = dktX2_takes_5 := dk_seg dksX2_takes_4 23 rfl rfl
theorem dX2_takes_0 : decode cX2_takes 0 = .ok (.aload_n 0, 1) := dk_42 (dk_at dksX2_takes_0 0 rfl rfl)
theorem dX2_takes_1 : decode cX2_takes 1 = .ok (.invokevirtual 70, 3) := dk_182 0 70 (dk_at dksX2_takes_0 1 rfl rfl)
theorem dX2_takes_4 : decode cX2_takes 4 = .ok (.istore_n 2, 1) := dk_61 (dk_at dksX2_takes_0 4 rfl rfl)
theorem dX2_takes_5 : decode cX2_takes 5 = .ok (.aload_n 0, 1) := dk_42 (dk_at dksX2_takes_0 5 rfl rfl)
theorem dX2_takes_6 : decode cX2_takes 6 = .ok (.getfield 64, 3) := dk_180 0 64 (dk_at dksX2_takes_0 6 rfl rfl)
theorem dX2_takes_9 : decode cX2_takes 9 = .ok (.istore_n 3, 1) := dk_62 (dk_at dksX2_takes_0 9 rfl rfl)
theorem dX2_takes_10 : decode cX2_takes 10 = .ok (.iload_n 3, 1) := dk_29 (dk_at dksX2_takes_0 10 rfl rfl)
theorem dX2_takes_11 : decode cX2_takes 11 = .ok (.aload_n 0, 1) := dk_42 (dk_at dksX2_takes_0 11 rfl rfl)
theorem dX2_takes_12 : decode cX2_takes 12 = .ok (.getfield 67, 3) := dk_180 0 67 (dk_at dksX2_takes_0 12 rfl rfl)
theorem dX2_takes_15 : decode cX2_takes 15 = .ok (.if_icmp .ge 31, 3) := dk_162 0 31 (dk_at dksX2_takes_0 15 rfl rfl)
theorem dX2_takes_18 : decode cX2_takes 18 = .ok (.aload_n 0, 1) := dk_42 (dk_at dksX2_takes_0 18 rfl rfl)
theorem dX2_takes_19 : decode cX2_takes 19 = .ok (.getfield 9, 3) := dk_180 0 9 (dk_at dksX2_takes_0 19 rfl rfl)
theorem dX2_takes_22 : decode cX2_takes 22 = .ok (.iload_n 3, 1) := dk_29 (dk_at dksX2_takes_0 22 rfl rfl)
theorem dX2_takes_23 : decode cX2_takes 23 = .ok (.baload, 1) := dk_51 (dk_at dksX2_takes_0 23 rfl rfl)
theorem dX2_takes_24 : decode cX2_takes 24 = .ok (.bipush 97, 2) := dk_16 97 (dk_at dksX2_takes_1 0 rfl rfl)
theorem dX2_takes_26 : decode cX2_takes 26 = .ok (.if_icmp .lt 20, 3) := dk_161 0 20 (dk_at dksX2_takes_1 2 rfl rfl)
theorem dX2_takes_29 : decode cX2_takes 29 = .ok (.aload_n 0, 1) := dk_42 (dk_at dksX2_takes_1 5 rfl rfl)
theorem dX2_takes_30 : decode cX2_takes 30 = .ok (.getfield 9, 3) := dk_180 0 9 (dk_at dksX2_takes_1 6 rfl rfl)
theorem dX2_takes_33 : decode cX2_takes 33 = .ok (.iload_n 3, 1) := dk_29 (dk_at dksX2_takes_1 9 rfl rfl)
theorem dX2_takes_34 : decode cX2_takes 34 = .ok (.baload, 1) := dk_51 (dk_at dksX2_takes_1 10 rfl rfl)
theorem dX2_takes_35 : decode cX2_takes 35 = .ok (.bipush 122, 2) := dk_16 122 (dk_at dksX2_takes_1 11 rfl rfl)
theorem dX2_takes_37 : decode cX2_takes 37 = .ok (.if_icmp .gt 9, 3) := dk_163 0 9 (dk_at dksX2_takes_1 13 rfl rfl)
theorem dX2_takes_40 : decode cX2_takes 40 = .ok (.iinc 3 1, 3) := dk_132 3 1 (dk_at dksX2_takes_1 16 rfl rfl)
theorem dX2_takes_43 : decode cX2_takes 43 = .ok (.goto (-33), 3) := dk_167 255 223 (dk_at dksX2_takes_1 19 rfl rfl)
theorem dX2_takes_46 : decode cX2_takes 46 = .ok (.iload_n 3, 1) := dk_29 (dk_at dksX2_takes_1 22 rfl rfl)
theorem dX2_takes_47 : decode cX2_takes 47 = .ok (.aload_n 0, 1) := dk_42 (dk_at dksX2_takes_1 23 rfl rfl)
theorem dX2_takes_48 : decode cX2_takes 48 = .ok (.getfield 64, 3) := dk_180 0 64 (dk_at dksX2_takes_2 0 rfl rfl)
theorem dX2_takes_51 : decode cX2_takes 51 = .ok (.isub, 1) := dk_100 (dk_at dksX2_takes_2 3 rfl rfl)
theorem dX2_takes_52 : decode cX2_takes 52 = .ok (.aload_n 1, 1) := dk_43 (dk_at dksX2_takes_2 4 rfl rfl)
theorem dX2_takes_53 : decode cX2_takes 53 = .ok (.invokevirtual 74, 3) := dk_182 0 74 (dk_at dksX2_takes_2 5 rfl rfl)
theorem dX2_takes_56 : decode cX2_takes 56 = .ok (.if_icmp .ne 7, 3) := dk_160 0 7 (dk_at dksX2_takes_2 8 rfl rfl)
theorem dX2_takes_59 : decode cX2_takes 59 = .ok (.iconst 1, 1) := dk_4 (dk_at dksX2_takes_2 11 rfl rfl)
theorem dX2_takes_60 : decode cX2_takes 60 = .ok (.goto 4, 3) := dk_167 0 4 (dk_at dksX2_takes_2 12 rfl rfl)
theorem dX2_takes_63 : decode cX2_takes 63 = .ok (.iconst 0, 1) := dk_3 (dk_at dksX2_takes_2 15 rfl rfl)
theorem dX2_takes_64 : decode cX2_takes 64 = .ok (.istore 4, 2) := dk_54 4 (dk_at dksX2_takes_2 16 rfl rfl)
theorem dX2_takes_66 : decode cX2_takes 66 = .ok (.iconst 0, 1) := dk_3 (dk_at dksX2_takes_2 18 rfl rfl)
theorem dX2_takes_67 : decode cX2_takes 67 = .ok (.istore 5, 2) := dk_54 5 (dk_at dksX2_takes_2 19 rfl rfl)
theorem dX2_takes_69 : decode cX2_takes 69 = .ok (.iload 5, 2) := dk_21 5 (dk_at dksX2_takes_2 21 rfl rfl)
theorem dX2_takes_71 : decode cX2_takes 71 = .ok (.aload_n 1, 1) := dk_43 (dk_at dksX2_takes_2 23 rfl rfl)
theorem dX2_takes_72 : decode cX2_takes 72 = .ok (.invokevirtual 74, 3) := dk_182 0 74 (dk_at dksX2_takes_3 0 rfl rfl)
theorem dX2_takes_75 : decode cX2_takes 75 = .ok (.if_icmp .ge 42, 3) := dk_162 0 42 (dk_at dksX2_takes_3 3 rfl rfl)
theorem dX2_takes_78 : decode cX2_takes 78 = .ok (.iload 4, 2) := dk_21 4 (dk_at dksX2_takes_3 6 rfl rfl)
theorem dX2_takes_80 : decode cX2_takes 80 = .ok (.ifCond .eq 37, 3) := dk_153 0 37 (dk_at dksX2_takes_3 8 rfl rfl)
theorem dX2_takes_83 : decode cX2_takes 83 = .ok (.aload_n 0, 1) := dk_42 (dk_at dksX2_takes_3 11 rfl rfl)
theorem dX2_takes_84 : decode cX2_takes 84 = .ok (.getfield 9, 3) := dk_180 0 9 (dk_at dksX2_takes_3 12 rfl rfl)
theorem dX2_takes_87 : decode cX2_takes 87 = .ok (.aload_n 0, 1) := dk_42 (dk_at dksX2_takes_3 15 rfl rfl)
theorem dX2_takes_88 : decode cX2_takes 88 = .ok (.getfield 64, 3) := dk_180 0 64 (dk_at dksX2_takes_3 16 rfl rfl)
theorem dX2_takes_91 : decode cX2_takes 91 = .ok (.iload 5, 2) := dk_21 5 (dk_at dksX2_takes_3 19 rfl rfl)
theorem dX2_takes_93 : decode cX2_takes 93 = .ok (.iadd, 1) := dk_96 (dk_at dksX2_takes_3 21 rfl rfl)
theorem dX2_takes_94 : decode cX2_takes 94 = .ok (.baload, 1) := dk_51 (dk_at dksX2_takes_3 22 rfl rfl)
theorem dX2_takes_95 : decode cX2_takes 95 = .ok (.aload_n 1, 1) := dk_43 (dk_at dksX2_takes_3 23 rfl rfl)
theorem dX2_takes_96 : decode cX2_takes 96 = .ok (.iload 5, 2) := dk_21 5 (dk_at dksX2_takes_4 0 rfl rfl)
theorem dX2_takes_98 : decode cX2_takes 98 = .ok (.invokevirtual 77, 3) := dk_182 0 77 (dk_at dksX2_takes_4 2 rfl rfl)
theorem dX2_takes_101 : decode cX2_takes 101 = .ok (.if_icmp .ne 7, 3) := dk_160 0 7 (dk_at dksX2_takes_4 5 rfl rfl)
theorem dX2_takes_104 : decode cX2_takes 104 = .ok (.iconst 1, 1) := dk_4 (dk_at dksX2_takes_4 8 rfl rfl)
theorem dX2_takes_105 : decode cX2_takes 105 = .ok (.goto 4, 3) := dk_167 0 4 (dk_at dksX2_takes_4 9 rfl rfl)
theorem dX2_takes_108 : decode cX2_takes 108 = .ok (.iconst 0, 1) := dk_3 (dk_at dksX2_takes_4 12 rfl rfl)
theorem dX2_takes_109 : decode cX2_takes 109 = .ok (.istore 4, 2) := dk_54 4 (dk_at dksX2_takes_4 13 rfl rfl)
theorem dX2_takes_111 : decode cX2_takes 111 = .ok (.iinc 5 1, 3) := dk_132 5 1 (dk_at dksX2_takes_4 15 rfl rfl)
theorem dX2_takes_114 : decode cX2_takes 114 = .ok (.goto (-45), 3) := dk_167 255 211 (dk_at dksX2_takes_4 18 rfl rfl)
theorem dX2_takes_117 : decode cX2_takes 117 = .ok (.iload 4, 2) := dk_21 4 (dk_at dksX2_takes_4 21 rfl rfl)
theorem dX2_takes_119 : decode cX2_takes 119 = .ok (.ifCond .eq 8, 3) := dk_153 0 8 (dk_at dksX2_takes_5 0 rfl rfl)
theorem dX2_takes_122 : decode cX2_takes 122 = .ok (.aload_n 0, 1) := dk_42 (dk_at dksX2_takes_5 3 rfl rfl)
theorem dX2_takes_123 : decode cX2_takes 123 = .ok (.iload_n 3, 1) := dk_29 (dk_at dksX2_takes_5 4 rfl rfl)
theorem dX2_takes_124 : decode cX2_takes 124 = .ok (.putfield 64, 3) := dk_181 0 64 (dk_at dksX2_takes_5 5 rfl rfl)
theorem dX2_takes_127 : decode cX2_takes 127 = .ok (.iload 4, 2) := dk_21 4 (dk_at dksX2_takes_5 8 rfl rfl)
theorem dX2_takes_129 : decode cX2_takes 129 = .ok (.ireturn, 1) := dk_172 (dk_at dksX2_takes_5 10 rfl rfl)
abbrev cX2_addProp : ByteArray := prog_10_method_15_code
def yX2_addProp : MethodName := ⟨RX2, "addProp", "(I)V"⟩
def dkwX2_addProp_6 : List UInt8 := [182, 0, 96, 181, 0, 168, 42, 180, 0, 49, 89, 180, 0, 143, 4, 96, 181, 0, 143, 177]
abbrev dktX2_addProp_6 : List UInt8 := dkwX2_addProp_6 ++ []
def dkwX2_addProp_5 : List UInt8 := [180, 0, 143, 21, 4, 182, 0, 177, 42, 18, 23, 182, 0, 81, 153, 0, 14, 44, 42, 3, 16, 99]
abbrev dktX2_addProp_5 : List UInt8 := dkwX2_addProp_5 ++ dktX2_addProp_6
def dkwX2_addProp_4 : List UInt8 := [180, 0, 173, 21, 4, 46, 2, 159, 0, 8, 42, 29, 182, 0, 85, 42, 180, 0, 49, 42, 180, 0, 49]
abbrev dktX2_addProp_4 : List UInt8 := dkwX2_addProp_4 ++ dktX2_addProp_5
def dkwX2_addProp_3 : List UInt8 := [182, 0, 81, 153, 0, 52, 42, 182, 0, 89, 62, 42, 3, 16, 9, 182, 0, 96, 54, 4, 42, 180, 0, 49]
abbrev dktX2_addProp_3 : List UInt8 := dkwX2_addProp_3 ++ dktX2_addProp_4
def dkwX2_addProp_2 : List UInt8 := [18, 21, 3, 16, 20, 182, 0, 162, 181, 0, 166, 44, 3, 181, 0, 168, 44, 2, 181, 0, 170, 42, 18, 172]
abbrev dktX2_addProp_2 : List UInt8 := dkwX2_addProp_2 ++ dktX2_addProp_3
def dkwX2_addProp_1 : List UInt8 := [42, 180, 0, 49, 180, 0, 143, 50, 77, 44, 42, 4, 182, 0, 150, 184, 0, 154, 181, 0, 157, 44, 42]
abbrev dktX2_addProp_1 : List UInt8 := dkwX2_addProp_1 ++ dktX2_addProp_2
def dkwX2_addProp_0 : List UInt8 := [42, 180, 0, 49, 180, 0, 143, 16, 8, 160, 0, 8, 42, 27, 182, 0, 85, 42, 180, 0, 49, 180, 0, 146]
abbrev dktX2_addProp_0 : List UInt8 := dkwX2_addProp_0 ++ dktX2_addProp_1
theorem dksX2_addProp_0 : cX2_addProp.data.toList.drop 0 = dktX2_addProp_0 := by decide +kernel
theorem dksX2_addProp_1 : cX2_addProp.data.toList.drop 24 = dktX2_addProp_1 := dk_seg dksX2_addProp_0 24 rfl rfl
theorem dksX2_addProp_2 : cX2_addProp.data.toList.drop 47 = dktX2_addProp_2 := dk_seg dksX2_addProp_1 23 rfl rfl
theorem dksX2_addProp_3 : cX2_addProp.data.toList.drop 71 = dktX2_addProp_3 := dk_seg dksX2_addProp_2 24 rfl rfl
theorem dksX2_addProp_4 : cX2_addProp.data.toList.drop 95 = dktX2_addProp_4 := dk_seg dksX2_addProp_3 24 rfl rfl
theorem dksX2_addProp_5 : cX2_addProp.data.toList.drop 118 = dktX2_addProp_5 := dk_seg dksX2_addProp_4 23 rfl rfl
theorem dksX2_addProp_6 : cX2_addProp.data.toList.drop 140 = dktX2_addProp_6 := dk_seg dksX2_addProp_5 22 rfl rfl
theorem dX2_addProp_0 : decode cX2_addProp 0 = .ok (.aload_n 0, 1) := dk_42 (dk_at dksX2_addProp_0 0 rfl rfl)
theorem dX2_addProp_1 : decode cX2_addProp 1 = .ok (.getfield 49, 3) := dk_180 0 49 (dk_at dksX2_addProp_0 1 rfl rfl)
theorem dX2_addProp_4 : decode cX2_addProp 4 = .ok (.getfield 143, 3) := dk_180 0 143 (dk_at dksX2_addProp_0 4 rfl rfl)
theorem dX2_addProp_7 : decode cX2_addProp 7 = .ok (.bipush 8, 2) := dk_16 8 (dk_at dksX2_addProp_0 7 rfl rfl)
theorem dX2_addProp_9 : decode cX2_addProp 9 = .ok (.if_icmp .ne 8, 3) := dk_160 0 8 (dk_at dksX2_addProp_0 9 rfl rfl)
theorem dX2_addProp_12 : decode cX2_addProp 12 = .ok (.aload_n 0, 1) := dk_42 (dk_at dksX2_addProp_0 12 rfl rfl)
theorem dX2_addProp_13 : decode cX2_addProp 13 = .ok (.iload_n 1, 1) := dk_27 (dk_at dksX2_addProp_0 13 rfl rfl)
theorem dX2_addProp_14 : decode cX2_addProp 14 = .ok (.invokevirtual 85, 3) := dk_182 0 85 (dk_at dksX2_addProp_0 14 rfl rfl)
theorem dX2_addProp_17 : decode cX2_addProp 17 = .ok (.aload_n 0, 1) := dk_42 (dk_at dksX2_addProp_0 17 rfl rfl)
theorem dX2_addProp_18 : decode cX2_addProp 18 = .ok (.getfield 49, 3) := dk_180 0 49 (dk_at dksX2_addProp_0 18 rfl rfl)
theorem dX2_addProp_21 : decode cX2_addProp 21 = .ok (.getfield 146, 3) := dk_180 0 146 (dk_at dksX2_addProp_0 21 rfl rfl)
theorem dX2_addProp_24 : decode cX2_addProp 24 = .ok (.aload_n 0, 1) := dk_42 (dk_at dksX2_addProp_1 0 rfl rfl)
theorem dX2_addProp_25 : decode cX2_addProp 25 = .ok (.getfield 49, 3) := dk_180 0 49 (dk_at dksX2_addProp_1 1 rfl rfl)
theorem dX2_addProp_28 : decode cX2_addProp 28 = .ok (.getfield 143, 3) := dk_180 0 143 (dk_at dksX2_addProp_1 4 rfl rfl)
theorem dX2_addProp_31 : decode cX2_addProp 31 = .ok (.aaload, 1) := dk_50 (dk_at dksX2_addProp_1 7 rfl rfl)
theorem dX2_addProp_32 : decode cX2_addProp 32 = .ok (.astore_n 2, 1) := dk_77 (dk_at dksX2_addProp_1 8 rfl rfl)
theorem dX2_addProp_33 : decode cX2_addProp 33 = .ok (.aload_n 2, 1) := dk_44 (dk_at dksX2_addProp_1 9 rfl rfl)
theorem dX2_addProp_34 : decode cX2_addProp 34 = .ok (.aload_n 0, 1) := dk_42 (dk_at dksX2_addProp_1 10 rfl rfl)
theorem dX2_addProp_35 : decode cX2_addProp 35 = .ok (.iconst 1, 1) := dk_4 (dk_at dksX2_addProp_1 11 rfl rfl)
theorem dX2_addProp_36 : decode cX2_addProp 36 = .ok (.invokevirtual 150, 3) := dk_182 0 150 (dk_at dksX2_addProp_1 12 rfl rfl)
theorem dX2_addProp_39 : decode cX2_addProp 39 = .ok (.invokestatic 154, 3) := dk_184 0 154 (dk_at dksX2_addProp_1 15 rfl rfl)
theorem dX2_addProp_42 : decode cX2_addProp 42 = .ok (.putfield 157, 3) := dk_181 0 157 (dk_at dksX2_addProp_1 18 rfl rfl)
theorem dX2_addProp_45 : decode cX2_addProp 45 = .ok (.aload_n 2, 1) := dk_44 (dk_at dksX2_addProp_1 21 rfl rfl)
theorem dX2_addProp_46 : decode cX2_addProp 46 = .ok (.aload_n 0, 1) := dk_42 (dk_at dksX2_addProp_1 22 rfl rfl)
theorem dX2_addProp_47 : decode cX2_addProp 47 = .ok (.ldc 21, 2) := dk_18 21 (dk_at dksX2_addProp_2 0 rfl rfl)
theorem dX2_addProp_49 : decode cX2_addProp 49 = .ok (.iconst 0, 1) := dk_3 (dk_at dksX2_addProp_2 2 rfl rfl)
theorem dX2_addProp_50 : decode cX2_addProp 50 = .ok (.bipush 20, 2) := dk_16 20 (dk_at dksX2_addProp_2 3 rfl rfl)
theorem dX2_addProp_52 : decode cX2_addProp 52 = .ok (.invokevirtual 162, 3) := dk_182 0 162 (dk_at dksX2_addProp_2 5 rfl rfl)
theorem dX2_addProp_55 : decode cX2_addProp 55 = .ok (.putfield 166, 3) := dk_181 0 166 (dk_at dksX2_addProp_2 8 rfl rfl)
theorem dX2_addProp_58 : decode cX2_addProp 58 = .ok (.aload_n 2, 1) := dk_44 (dk_at dksX2_addProp_2 11 rfl rfl)
theorem dX2_addProp_59 : decode cX2_addProp 59 = .ok (.iconst 0, 1) := dk_3 (dk_at dksX2_addProp_2 12 rfl rfl)
theorem dX2_addProp_60 : decode cX2_addProp 60 = .ok (.putfield 168, 3) := dk_181 0 168 (dk_at dksX2_addProp_2 13 rfl rfl)
theorem dX2_addProp_63 : decode cX2_addProp 63 = .ok (.aload_n 2, 1) := dk_44 (dk_at dksX2_addProp_2 16 rfl rfl)
theorem dX2_addProp_64 : decode cX2_addProp 64 = .ok (.iconst (-1), 1) := dk_2 (dk_at dksX2_addProp_2 17 rfl rfl)
theorem dX2_addProp_65 : decode cX2_addProp 65 = .ok (.putfield 170, 3) := dk_181 0 170 (dk_at dksX2_addProp_2 18 rfl rfl)
theorem dX2_addProp_68 : decode cX2_addProp 68 = .ok (.aload_n 0, 1) := dk_42 (dk_at dksX2_addProp_2 21 rfl rfl)
theorem dX2_addProp_69 : decode cX2_addProp 69 = .ok (.ldc 172, 2) := dk_18 172 (dk_at dksX2_addProp_2 22 rfl rfl)
theorem dX2_addProp_71 : decode cX2_addProp 71 = .ok (.invokevirtual 81, 3) := dk_182 0 81 (dk_at dksX2_addProp_3 0 rfl rfl)
theorem dX2_addProp_74 : decode cX2_addProp 74 = .ok (.ifCond .eq 52, 3) := dk_153 0 52 (dk_at dksX2_addProp_3 3 rfl rfl)
theorem dX2_addProp_77 : decode cX2_addProp 77 = .ok (.aload_n 0, 1) := dk_42 (dk_at dksX2_addProp_3 6 rfl rfl)
theorem dX2_addProp_78 : decode cX2_addProp 78 = .ok (.invokevirtual 89, 3) := dk_182 0 89 (dk_at dksX2_addProp_3 7 rfl rfl)
theorem dX2_addProp_81 : decode cX2_addProp 81 = .ok (.istore_n 3, 1) := dk_62 (dk_at dksX2_addProp_3 10 rfl rfl)
theorem dX2_addProp_82 : decode cX2_addProp 82 = .ok (.aload_n 0, 1) := dk_42 (dk_at dksX2_addProp_3 11 rfl rfl)
theorem dX2_addProp_83 : decode cX2_addProp 83 = .ok (.iconst 0, 1) := dk_3 (dk_at dksX2_addProp_3 12 rfl rfl)
theorem dX2_addProp_84 : decode cX2_addProp 84 = .ok (.bipush 9, 2) := dk_16 9 (dk_at dksX2_addProp_3 13 rfl rfl)
theorem dX2_addProp_86 : decode cX2_addProp 86 = .ok (.invokevirtual 96, 3) := dk_182 0 96 (dk_at dksX2_addProp_3 15 rfl rfl)
theorem dX2_addProp_89 : decode cX2_addProp 89 = .ok (.istore 4, 2) := dk_54 4 (dk_at dksX2_addProp_3 18 rfl rfl)
theorem dX2_addProp_91 : decode cX2_addProp 91 = .ok (.aload_n 0, 1) := dk_42 (dk_at dksX2_addProp_3 20 rfl rfl)
theorem dX2_addProp_92 : decode cX2_addProp 92 = .ok (.getfield 49, 3) := dk_180 0 49 (dk_at dksX2_addProp_3 21 rfl rfl)
theorem dX2_addProp_95 : decode cX2_addProp 95 = .ok (.getfield 173, 3) := dk_180 0 173 (dk_at dksX2_addProp_4 0 rfl rfl)
theorem dX2_addProp_98 : decode cX2_addProp 98 = .ok (.iload 4, 2) := dk_21 4 (dk_at dksX2_addProp_4 3 rfl rfl)
theorem dX2_addProp_100 : decode cX2_addProp 100 = .ok (.iaload, 1) := dk_46 (dk_at dksX2_addProp_4 5 rfl rfl)
theorem dX2_addProp_101 : decode cX2_addProp 101 = .ok (.iconst (-1), 1) := dk_2 (dk_at dksX2_addProp_4 6 rfl rfl)
theorem dX2_addProp_102 : decode cX2_addProp 102 = .ok (.if_icmp .eq 8, 3) := dk_159 0 8 (dk_at dksX2_addProp_4 7 rfl rfl)
theorem dX2_addProp_105 : decode cX2_addProp 105 = .ok (.aload_n 0, 1) := dk_42 (dk_at dksX2_addProp_4 10 rfl rfl)
theorem dX2_addProp_106 : decode cX2_addProp 106 = .ok (.iload_n 3, 1) := dk_29 (dk_at dksX2_addProp_4 11 rfl rfl)
theorem dX2_addProp_107 : decode cX2_addProp 107 = .ok (.invokevirtual 85, 3) := dk_182 0 85 (dk_at dksX2_addProp_4 12 rfl rfl)
theorem dX2_addProp_110 : decode cX2_addProp 110 = .ok (.aload_n 0, 1) := dk_42 (dk_at dksX2_addProp_4 15 rfl rfl)
theorem dX2_addProp_111 : decode cX2_addProp 111 = .ok (.getfield 49, 3) := dk_180 0 49 (dk_at dksX2_addProp_4 16 rfl rfl)
theorem dX2_addProp_114 : decode cX2_addProp 114 = .ok (.aload_n 0, 1) := dk_42 (dk_at dksX2_addProp_4 19 rfl rfl)
theorem dX2_addProp_115 : decode cX2_addProp 115 = .ok (.getfield 49, 3) := dk_180 0 49 (dk_at dksX2_addProp_4 20 rfl rfl)
theorem dX2_addProp_118 : decode cX2_addProp 118 = .ok (.getfield 143, 3) := dk_180 0 143 (dk_at dksX2_addProp_5 0 rfl rfl)
theorem dX2_addProp_121 : decode cX2_addProp 121 = .ok (.iload 4, 2) := dk_21 4 (dk_at dksX2_addProp_5 3 rfl rfl)
theorem dX2_addProp_123 : decode cX2_addProp 123 = .ok (.invokevirtual 177, 3) := dk_182 0 177 (dk_at dksX2_addProp_5 5 rfl rfl)
theorem dX2_addProp_126 : decode cX2_addProp 126 = .ok (.aload_n 0, 1) := dk_42 (dk_at dksX2_addProp_5 8 rfl rfl)
theorem dX2_addProp_127 : decode cX2_addProp 127 = .ok (.ldc 23, 2) := dk_18 23 (dk_at dksX2_addProp_5 9 rfl rfl)
theorem dX2_addProp_129 : decode cX2_addProp 129 = .ok (.invokevirtual 81, 3) := dk_182 0 81 (dk_at dksX2_addProp_5 11 rfl rfl)
theorem dX2_addProp_132 : decode cX2_addProp 132 = .ok (.ifCond .eq 14, 3) := dk_153 0 14 (dk_at dksX2_addProp_5 14 rfl rfl)
theorem dX2_addProp_135 : decode cX2_addProp 135 = .ok (.aload_n 2, 1) := dk_44 (dk_at dksX2_addProp_5 17 rfl rfl)
theorem dX2_addProp_136 : decode cX2_addProp 136 = .ok (.aload_n 0, 1) := dk_42 (dk_at dksX2_addProp_5 18 rfl rfl)
theorem dX2_addProp_137 : decode cX2_addProp 137 = .ok (.iconst 0, 1) := dk_3 (dk_at dksX2_addProp_5 19 rfl rfl)
theorem dX2_addProp_138 : decode cX2_addProp 138 = .ok (.bipush 99, 2) := dk_16 99 (dk_at dksX2_addProp_5 20 rfl rfl)
theorem dX2_addProp_140 : decode cX2_addProp 140 = .ok (.invokevirtual 96, 3) := dk_182 0 96 (dk_at dksX2_addProp_6 0 rfl rfl)
theorem dX2_addProp_143 : decode cX2_addProp 143 = .ok (.putfield 168, 3) := dk_181 0 168 (dk_at dksX2_addProp_6 3 rfl rfl)
theorem dX2_addProp_146 : decode cX2_addProp 146 = .ok (.aload_n 0, 1) := dk_42 (dk_at dksX2_addProp_6 6 rfl rfl)
theorem dX2_addProp_147 : decode cX2_addProp 147 = .ok (.getfield 49, 3) := dk_180 0 49 (dk_at dksX2_addProp_6 7 rfl rfl)
theorem dX2_addProp_150 : decode cX2_addProp 150 = .ok (.dup, 1) := dk_89 (dk_at dksX2_addProp_6 10 rfl rfl)
theorem dX2_addProp_151 : decode cX2_addProp 151 = .ok (.getfield 143, 3) := dk_180 0 143 (dk_at dksX2_addProp_6 11 rfl rfl)
theorem dX2_addProp_154 : decode cX2_addProp 154 = .ok (.iconst 1, 1) := dk_4 (dk_at dksX2_addProp_6 14 rfl rfl)
theorem dX2_addProp_155 : decode cX2_addProp 155 = .ok (.iadd, 1) := dk_96 (dk_at dksX2_addProp_6 15 rfl rfl)
theorem dX2_addProp_156 : decode cX2_addProp 156 = .ok (.putfield 143, 3) := dk_181 0 143 (dk_at dksX2_addProp_6 16 rfl rfl)
theorem dX2_addProp_159 : decode cX2_addProp 159 = .ok (.return_, 1) := dk_177 (dk_at dksX2_addProp_6 19 rfl rfl)
abbrev cX2_letters : ByteArray := prog_10_method_14_code
def yX2_letters : MethodName := ⟨RX2, "letters", "(Z)I"⟩
def dkwX2_letters_5 : List UInt8 := [28, 182, 0, 85, 29, 172]
abbrev dktX2_letters_5 : List UInt8 := dkwX2_letters_5 ++ []
def dkwX2_letters_4 : List UInt8 := [96, 181, 0, 64, 167, 255, 164, 29, 153, 0, 15, 27, 153, 0, 16, 29, 184, 0, 137, 4, 164, 0, 8, 42]
abbrev dktX2_letters_4 : List UInt8 := dkwX2_letters_4 ++ dktX2_letters_5
def dkwX2_letters_3 : List UInt8 := [4, 126, 4, 160, 0, 8, 42, 28, 182, 0, 85, 29, 4, 21, 4, 120, 128, 62, 42, 89, 180, 0, 64, 4]
abbrev dktX2_letters_3 : List UInt8 := dkwX2_letters_3 ++ dktX2_letters_4
def dkwX2_letters_2 : List UInt8 := [180, 0, 9, 42, 180, 0, 64, 51, 16, 97, 100, 54, 4, 21, 4, 16, 6, 162, 0, 13, 29, 21, 4, 122]
abbrev dktX2_letters_2 : List UInt8 := dkwX2_letters_2 ++ dktX2_letters_3
def dkwX2_letters_1 : List UInt8 := [180, 0, 64, 51, 16, 97, 161, 0, 73, 42, 180, 0, 9, 42, 180, 0, 64, 51, 16, 122, 163, 0, 59, 42]
abbrev dktX2_letters_1 : List UInt8 := dkwX2_letters_1 ++ dktX2_letters_2
def dkwX2_letters_0 : List UInt8 := [42, 182, 0, 89, 61, 3, 62, 42, 180, 0, 64, 42, 180, 0, 67, 162, 0, 87, 42, 180, 0, 9, 42]
abbrev dktX2_letters_0 : List UInt8 := dkwX2_letters_0 ++ dktX2_letters_1
theorem dksX2_letters_0 : cX2_letters.data.toList.drop 0 = dktX2_letters_0 := by decide +kernel
theorem dksX2_letters_1 : cX2_letters.data.toList.drop 23 = dktX2_letters_1 := dk_seg dksX2_letters_0 23 rfl rfl
theorem dksX2_letters_2 : cX2_letters.data.toList.drop 47 = dktX2_letters_2 := dk_seg dksX2_letters_1 24 rfl rfl
theorem dksX2_letters_3 : cX2_letters.data.toList.drop 71 = dktX2_letters_3 := dk_seg dksX2_letters_2 24 rfl rfl
theorem dksX2_letters_4 : cX2_letters.data.toList.drop 95 = dktX2_letters_4 := dk_seg dksX2_letters_3 24 rfl rfl
theorem dksX2_letters_5 : cX2_letters.data.toList.drop 119 = dktX2_letters_5 := dk_seg dksX2_letters_4 24 rfl rfl
theorem dX2_letters_0 : decode cX2_letters 0 = .ok (.aload_n 0, 1) := dk_42 (dk_at dksX2_letters_0 0 rfl rfl)
theorem dX2_letters_1 : decode cX2_letters 1 = .ok (.invokevirtual 89, 3) := dk_182 0 89 (dk_at dksX2_letters_0 1 rfl rfl)
theorem dX2_letters_4 : decode cX2_letters 4 = .ok (.istore_n 2, 1) := dk_61 (dk_at dksX2_letters_0 4 rfl rfl)
theorem dX2_letters_5 : decode cX2_letters 5 = .ok (.iconst 0, 1) := dk_3 (dk_at dksX2_letters_0 5 rfl rfl)
theorem dX2_letters_6 : decode cX2_letters 6 = .ok (.istore_n 3, 1) := dk_62 (dk_at dksX2_letters_0 6 rfl rfl)
theorem dX2_letters_7 : decode cX2_letters 7 = .ok (.aload_n 0, 1) := dk_42 (dk_at dksX2_letters_0 7 rfl rfl)
theorem dX2_letters_8 : decode cX2_letters 8 = .ok (.getfield 64, 3) := dk_180 0 64 (dk_at dksX2_letters_0 8 rfl rfl)
theorem dX2_letters_11 : decode cX2_letters 11 = .ok (.aload_n 0, 1) := dk_42 (dk_at dksX2_letters_0 11 rfl rfl)
theorem dX2_letters_12 : decode cX2_letters 12 = .ok (.getfield 67, 3) := dk_180 0 67 (dk_at dksX2_letters_0 12 rfl rfl)
theorem dX2_letters_15 : decode cX2_letters 15 = .ok (.if_icmp .ge 87, 3) := dk_162 0 87 (dk_at dksX2_letters_0 15 rfl rfl)
theorem dX2_letters_18 : decode cX2_letters 18 = .ok (.aload_n 0, 1) := dk_42 (dk_at dksX2_letters_0 18 rfl rfl)
theorem dX2_letters_19 : decode cX2_letters 19 = .ok (.getfield 9, 3) := dk_180 0 9 (dk_at dksX2_letters_0 19 rfl rfl)
theorem dX2_letters_22 : decode cX2_letters 22 = .ok (.aload_n 0, 1) := dk_42 (dk_at dksX2_letters_0 22 rfl rfl)
theorem dX2_letters_23 : decode cX2_letters 23 = .ok (.getfield 64, 3) := dk_180 0 64 (dk_at dksX2_letters_1 0 rfl rfl)
theorem dX2_letters_26 : decode cX2_letters 26 = .ok (.baload, 1) := dk_51 (dk_at dksX2_letters_1 3 rfl rfl)
theorem dX2_letters_27 : decode cX2_letters 27 = .ok (.bipush 97, 2) := dk_16 97 (dk_at dksX2_letters_1 4 rfl rfl)
theorem dX2_letters_29 : decode cX2_letters 29 = .ok (.if_icmp .lt 73, 3) := dk_161 0 73 (dk_at dksX2_letters_1 6 rfl rfl)
theorem dX2_letters_32 : decode cX2_letters 32 = .ok (.aload_n 0, 1) := dk_42 (dk_at dksX2_letters_1 9 rfl rfl)
theorem dX2_letters_33 : decode cX2_letters 33 = .ok (.getfield 9, 3) := dk_180 0 9 (dk_at dksX2_letters_1 10 rfl rfl)
theorem dX2_letters_36 : decode cX2_letters 36 = .ok (.aload_n 0, 1) := dk_42 (dk_at dksX2_letters_1 13 rfl rfl)
theorem dX2_letters_37 : decode cX2_letters 37 = .ok (.getfield 64, 3) := dk_180 0 64 (dk_at dksX2_letters_1 14 rfl rfl)
theorem dX2_letters_40 : decode cX2_letters 40 = .ok (.baload, 1) := dk_51 (dk_at dksX2_letters_1 17 rfl rfl)
theorem dX2_letters_41 : decode cX2_letters 41 = .ok (.bipush 122, 2) := dk_16 122 (dk_at dksX2_letters_1 18 rfl rfl)
theorem dX2_letters_43 : decode cX2_letters 43 = .ok (.if_icmp .gt 59, 3) := dk_163 0 59 (dk_at dksX2_letters_1 20 rfl rfl)
theorem dX2_letters_46 : decode cX2_letters 46 = .ok (.aload_n 0, 1) := dk_42 (dk_at dksX2_letters_1 23 rfl rfl)
theorem dX2_letters_47 : decode cX2_letters 47 = .ok (.getfield 9, 3) := dk_180 0 9 (dk_at dksX2_letters_2 0 rfl rfl)
theorem dX2_letters_50 : decode cX2_letters 50 = .ok (.aload_n 0, 1) := dk_42 (dk_at dksX2_letters_2 3 rfl rfl)
theorem dX2_letters_51 : decode cX2_letters 51 = .ok (.getfield 64, 3) := dk_180 0 64 (dk_at dksX2_letters_2 4 rfl rfl)
theorem dX2_letters_54 : decode cX2_letters 54 = .ok (.baload, 1) := dk_51 (dk_at dksX2_letters_2 7 rfl rfl)
theorem dX2_letters_55 : decode cX2_letters 55 = .ok (.bipush 97, 2) := dk_16 97 (dk_at dksX2_letters_2 8 rfl rfl)
theorem dX2_letters_57 : decode cX2_letters 57 = .ok (.isub, 1) := dk_100 (dk_at dksX2_letters_2 10 rfl rfl)
theorem dX2_letters_58 : decode cX2_letters 58 = .ok (.istore 4, 2) := dk_54 4 (dk_at dksX2_letters_2 11 rfl rfl)
theorem dX2_letters_60 : decode cX2_letters 60 = .ok (.iload 4, 2) := dk_21 4 (dk_at dksX2_letters_2 13 rfl rfl)
theorem dX2_letters_62 : decode cX2_letters 62 = .ok (.bipush 6, 2) := dk_16 6 (dk_at dksX2_letters_2 15 rfl rfl)
theorem dX2_letters_64 : decode cX2_letters 64 = .ok (.if_icmp .ge 13, 3) := dk_162 0 13 (dk_at dksX2_letters_2 17 rfl rfl)
theorem dX2_letters_67 : decode cX2_letters 67 = .ok (.iload_n 3, 1) := dk_29 (dk_at dksX2_letters_2 20 rfl rfl)
theorem dX2_letters_68 : decode cX2_letters 68 = .ok (.iload 4, 2) := dk_21 4 (dk_at dksX2_letters_2 21 rfl rfl)
theorem dX2_letters_70 : decode cX2_letters 70 = .ok (.ishr, 1) := dk_122 (dk_at dksX2_letters_2 23 rfl rfl)
theorem dX2_letters_71 : decode cX2_letters 71 = .ok (.iconst 1, 1) := dk_4 (dk_at dksX2_letters_3 0 rfl rfl)
theorem dX2_letters_72 : decode cX2_letters 72 = .ok (.iand, 1) := dk_126 (dk_at dksX2_letters_3 1 rfl rfl)
theorem dX2_letters_73 : decode cX2_letters 73 = .ok (.iconst 1, 1) := dk_4 (dk_at dksX2_letters_3 2 rfl rfl)
theorem dX2_letters_74 : decode cX2_letters 74 = .ok (.if_icmp .ne 8, 3) := dk_160 0 8 (dk_at dksX2_letters_3 3 rfl rfl)
theorem dX2_letters_77 : decode cX2_letters 77 = .ok (.aload_n 0, 1) := dk_42 (dk_at dksX2_letters_3 6 rfl rfl)
theorem dX2_letters_78 : decode cX2_letters 78 = .ok (.iload_n 2, 1) := dk_28 (dk_at dksX2_letters_3 7 rfl rfl)
theorem dX2_letters_79 : decode cX2_letters 79 = .ok (.invokevirtual 85, 3) := dk_182 0 85 (dk_at dksX2_letters_3 8 rfl rfl)
theorem dX2_letters_82 : decode cX2_letters 82 = .ok (.iload_n 3, 1) := dk_29 (dk_at dksX2_letters_3 11 rfl rfl)
theorem dX2_letters_83 : decode cX2_letters 83 = .ok (.iconst 1, 1) := dk_4 (dk_at dksX2_letters_3 12 rfl rfl)
theorem dX2_letters_84 : decode cX2_letters 84 = .ok (.iload 4, 2) := dk_21 4 (dk_at dksX2_letters_3 13 rfl rfl)
theorem dX2_letters_86 : decode cX2_letters 86 = .ok (.ishl, 1) := dk_120 (dk_at dksX2_letters_3 15 rfl rfl)
theorem dX2_letters_87 : decode cX2_letters 87 = .ok (.ior, 1) := dk_128 (dk_at dksX2_letters_3 16 rfl rfl)
theorem dX2_letters_88 : decode cX2_letters 88 = .ok (.istore_n 3, 1) := dk_62 (dk_at dksX2_letters_3 17 rfl rfl)
theorem dX2_letters_89 : decode cX2_letters 89 = .ok (.aload_n 0, 1) := dk_42 (dk_at dksX2_letters_3 18 rfl rfl)
theorem dX2_letters_90 : decode cX2_letters 90 = .ok (.dup, 1) := dk_89 (dk_at dksX2_letters_3 19 rfl rfl)
theorem dX2_letters_91 : decode cX2_letters 91 = .ok (.getfield 64, 3) := dk_180 0 64 (dk_at dksX2_letters_3 20 rfl rfl)
theorem dX2_letters_94 : decode cX2_letters 94 = .ok (.iconst 1, 1) := dk_4 (dk_at dksX2_letters_3 23 rfl rfl)
theorem dX2_letters_95 : decode cX2_letters 95 = .ok (.iadd, 1) := dk_96 (dk_at dksX2_letters_4 0 rfl rfl)
theorem dX2_letters_96 : decode cX2_letters 96 = .ok (.putfield 64, 3) := dk_181 0 64 (dk_at dksX2_letters_4 1 rfl rfl)
theorem dX2_letters_99 : decode cX2_letters 99 = .ok (.goto (-92), 3) := dk_167 255 164 (dk_at dksX2_letters_4 4 rfl rfl)
theorem dX2_letters_102 : decode cX2_letters 102 = .ok (.iload_n 3, 1) := dk_29 (dk_at dksX2_letters_4 7 rfl rfl)
theorem dX2_letters_103 : decode cX2_letters 103 = .ok (.ifCond .eq 15, 3) := dk_153 0 15 (dk_at dksX2_letters_4 8 rfl rfl)
theorem dX2_letters_106 : decode cX2_letters 106 = .ok (.iload_n 1, 1) := dk_27 (dk_at dksX2_letters_4 11 rfl rfl)
theorem dX2_letters_107 : decode cX2_letters 107 = .ok (.ifCond .eq 16, 3) := dk_153 0 16 (dk_at dksX2_letters_4 12 rfl rfl)
theorem dX2_letters_110 : decode cX2_letters 110 = .ok (.iload_n 3, 1) := dk_29 (dk_at dksX2_letters_4 15 rfl rfl)
theorem dX2_letters_111 : decode cX2_letters 111 = .ok (.invokestatic 137, 3) := dk_184 0 137 (dk_at dksX2_letters_4 16 rfl rfl)
theorem dX2_letters_114 : decode cX2_letters 114 = .ok (.iconst 1, 1) := dk_4 (dk_at dksX2_letters_4 19 rfl rfl)
theorem dX2_letters_115 : decode cX2_letters 115 = .ok (.if_icmp .le 8, 3) := dk_164 0 8 (dk_at dksX2_letters_4 20 rfl rfl)
theorem dX2_letters_118 : decode cX2_letters 118 = .ok (.aload_n 0, 1) := dk_42 (dk_at dksX2_letters_4 23 rfl rfl)
theorem dX2_letters_119 : decode cX2_letters 119 = .ok (.iload_n 2, 1) := dk_28 (dk_at dksX2_letters_5 0 rfl rfl)
theorem dX2_letters_120 : decode cX2_letters 120 = .ok (.invokevirtual 85, 3) := dk_182 0 85 (dk_at dksX2_letters_5 1 rfl rfl)
theorem dX2_letters_123 : decode cX2_letters 123 = .ok (.iload_n 3, 1) := dk_29 (dk_at dksX2_letters_5 4 rfl rfl)
theorem dX2_letters_124 : decode cX2_letters 124 = .ok (.ireturn, 1) := dk_172 (dk_at dksX2_letters_5 5 rfl rfl)
abbrev cX2_here : ByteArray := prog_10_method_4_code
def yX2_here : MethodName := ⟨RX2, "here", "()I"⟩
def dkwX2_here_0 : List UInt8 := [42, 182, 0, 70, 60, 42, 180, 0, 64, 172]
abbrev dktX2_here_0 : List UInt8 := dkwX2_here_0 ++ []
theorem dksX2_here_0 : cX2_here.data.toList.drop 0 = dktX2_here_0 := by decide +kernel
theorem dX2_here_0 : decode cX2_here 0 = .ok (.aload_n 0, 1) := dk_42 (dk_at dksX2_here_0 0 rfl rfl)
theorem dX2_here_1 : decode cX2_here 1 = .ok (.invokevirtual 70, 3) := dk_182 0 70 (dk_at dksX2_here_0 1 rfl rfl)
theorem dX2_here_4 : decode cX2_here 4 = .ok (.istore_n 1, 1) := dk_60 (dk_at dksX2_here_0 4 rfl rfl)
theorem dX2_here_5 : decode cX2_here 5 = .ok (.aload_n 0, 1) := dk_42 (dk_at dksX2_here_0 5 rfl rfl)
theorem dX2_here_6 : decode cX2_here 6 = .ok (.getfield 64, 3) := dk_180 0 64 (dk_at dksX2_here_0 6 rfl rfl)
theorem dX2_here_9 : decode cX2_here 9 = .ok (.ireturn, 1) := dk_172 (dk_at dksX2_here_0 9 rfl rfl)
abbrev cX2_after : ByteArray := prog_10_method_9_code
def yX2_after : MethodName := ⟨RX2, "after", "(Ljava/lang/String;II)I"⟩
def dkwX2_after_0 : List UInt8 := [42, 43, 182, 0, 92, 42, 28, 29, 182, 0, 96, 172]
abbrev dktX2_after_0 : List UInt8 := dkwX2_after_0 ++ []
theorem dksX2_after_0 : cX2_after.data.toList.drop 0 = dktX2_after_0 := by decide +kernel
theorem dX2_after_0 : decode cX2_after 0 = .ok (.aload_n 0, 1) := dk_42 (dk_at dksX2_after_0 0 rfl rfl)
theorem dX2_after_1 : decode cX2_after 1 = .ok (.aload_n 1, 1) := dk_43 (dk_at dksX2_after_0 1 rfl rfl)
theorem dX2_after_2 : decode cX2_after 2 = .ok (.invokevirtual 92, 3) := dk_182 0 92 (dk_at dksX2_after_0 2 rfl rfl)
theorem dX2_after_5 : decode cX2_after 5 = .ok (.aload_n 0, 1) := dk_42 (dk_at dksX2_after_0 5 rfl rfl)
theorem dX2_after_6 : decode cX2_after 6 = .ok (.iload_n 2, 1) := dk_28 (dk_at dksX2_after_0 6 rfl rfl)
theorem dX2_after_7 : decode cX2_after 7 = .ok (.iload_n 3, 1) := dk_29 (dk_at dksX2_after_0 7 rfl rfl)
theorem dX2_after_8 : decode cX2_after 8 = .ok (.invokevirtual 96, 3) := dk_182 0 96 (dk_at dksX2_after_0 8 rfl rfl)
theorem dX2_after_11 : decode cX2_after 11 = .ok (.ireturn, 1) := dk_172 (dk_at dksX2_after_0 11 rfl rfl)
abbrev cX2_expect : ByteArray := prog_10_method_7_code
def yX2_expect : MethodName := ⟨RX2, "expect", "(Ljava/lang/String;)V"⟩
def dkwX2_expect_0 : List UInt8 := [42, 43, 182, 0, 81, 154, 0, 11, 42, 42, 180, 0, 64, 182, 0, 85, 177]
abbrev dktX2_expect_0 : List UInt8 := dkwX2_expect_0 ++ []
theorem dksX2_expect_0 : cX2_expect.data.toList.drop 0 = dktX2_expect_0 := by decide +kernel
theorem dX2_expect_0 : decode cX2_expect 0 = .ok (.aload_n 0, 1) := dk_42 (dk_at dksX2_expect_0 0 rfl rfl)
theorem dX2_expect_1 : decode cX2_expect 1 = .ok (.aload_n 1, 1) := dk_43 (dk_at dksX2_expect_0 1 rfl rfl)
theorem dX2_expect_2 : decode cX2_expect 2 = .ok (.invokevirtual 81, 3) := dk_182 0 81 (dk_at dksX2_expect_0 2 rfl rfl)
theorem dX2_expect_5 : decode cX2_expect 5 = .ok (.ifCond .ne 11, 3) := dk_154 0 11 (dk_at dksX2_expect_0 5 rfl rfl)
theorem dX2_expect_8 : decode cX2_expect 8 = .ok (.aload_n 0, 1) := dk_42 (dk_at dksX2_expect_0 8 rfl rfl)
theorem dX2_expect_9 : decode cX2_expect 9 = .ok (.aload_n 0, 1) := dk_42 (dk_at dksX2_expect_0 9 rfl rfl)
theorem dX2_expect_10 : decode cX2_expect 10 = .ok (.getfield 64, 3) := dk_180 0 64 (dk_at dksX2_expect_0 10 rfl rfl)
theorem dX2_expect_13 : decode cX2_expect 13 = .ok (.invokevirtual 85, 3) := dk_182 0 85 (dk_at dksX2_expect_0 13 rfl rfl)
theorem dX2_expect_16 : decode cX2_expect 16 = .ok (.return_, 1) := dk_177 (dk_at dksX2_expect_0 16 rfl rfl)
abbrev cX2_number : ByteArray := prog_10_method_8_code
def yX2_number : MethodName := ⟨RX2, "number", "(II)I"⟩
def dkwX2_number_5 : List UInt8 := [21, 4, 172]
abbrev dktX2_number_5 : List UInt8 := dkwX2_number_5 ++ []
def dkwX2_number_4 : List UInt8 := [180, 0, 64, 29, 159, 0, 15, 21, 4, 27, 161, 0, 9, 21, 4, 28, 164, 0, 8, 42, 29, 182, 0, 85]
abbrev dktX2_number_4 : List UInt8 := dkwX2_number_4 ++ dktX2_number_5
def dkwX2_number_3 : List UInt8 := [180, 0, 64, 51, 96, 16, 48, 100, 54, 4, 42, 89, 180, 0, 64, 4, 96, 181, 0, 64, 167, 255, 172, 42]
abbrev dktX2_number_3 : List UInt8 := dkwX2_number_3 ++ dktX2_number_4
def dkwX2_number_2 : List UInt8 := [180, 0, 64, 29, 100, 6, 160, 0, 8, 42, 29, 182, 0, 85, 16, 10, 21, 4, 104, 42, 180, 0, 9, 42]
abbrev dktX2_number_2 : List UInt8 := dkwX2_number_2 ++ dktX2_number_3
def dkwX2_number_1 : List UInt8 := [180, 0, 64, 51, 16, 48, 161, 0, 65, 42, 180, 0, 9, 42, 180, 0, 64, 51, 16, 57, 163, 0, 51, 42]
abbrev dktX2_number_1 : List UInt8 := dkwX2_number_1 ++ dktX2_number_2
def dkwX2_number_0 : List UInt8 := [42, 182, 0, 89, 62, 3, 54, 4, 42, 180, 0, 64, 42, 180, 0, 67, 162, 0, 79, 42, 180, 0, 9, 42]
abbrev dktX2_number_0 : List UInt8 := dkwX2_number_0 ++ dktX2_number_1
theorem dksX2_number_0 : cX2_number.data.toList.drop 0 = dktX2_number_0 := by decide +kernel
theorem dksX2_number_1 : cX2_number.data.toList.drop 24 = dktX2_number_1 := dk_seg dksX2_number_0 24 rfl rfl
theorem dksX2_number_2 : cX2_number.data.toList.drop 48 = dktX2_number_2 := dk_seg dksX2_number_1 24 rfl rfl
theorem dksX2_number_3 : cX2_number.data.toList.drop 72 = dktX2_number_3 := dk_seg dksX2_number_2 24 rfl rfl
theorem dksX2_number_4 : cX2_number.data.toList.drop 96 = dktX2_number_4 := dk_seg dksX2_number_3 24 rfl rfl
theorem dksX2_number_5 : cX2_number.data.toList.drop 120 = dktX2_number_5 := dk_seg dksX2_number_4 24 rfl rfl
theorem dX2_number_0 : decode cX2_number 0 = .ok (.aload_n 0, 1) := dk_42 (dk_at dksX2_number_0 0 rfl rfl)
theorem dX2_number_1 : decode cX2_number 1 = .ok (.invokevirtual 89, 3) := dk_182 0 89 (dk_at dksX2_number_0 1 rfl rfl)
theorem dX2_number_4 : decode cX2_number 4 = .ok (.istore_n 3, 1) := dk_62 (dk_at dksX2_number_0 4 rfl rfl)
theorem dX2_number_5 : decode cX2_number 5 = .ok (.iconst 0, 1) := dk_3 (dk_at dksX2_number_0 5 rfl rfl)
theorem dX2_number_6 : decode cX2_number 6 = .ok (.istore 4, 2) := dk_54 4 (dk_at dksX2_number_0 6 rfl rfl)
theorem dX2_number_8 : decode cX2_number 8 = .ok (.aload_n 0, 1) := dk_42 (dk_at dksX2_number_0 8 rfl rfl)
theorem dX2_number_9 : decode cX2_number 9 = .ok (.getfield 64, 3) := dk_180 0 64 (dk_at dksX2_number_0 9 rfl rfl)
theorem dX2_number_12 : decode cX2_number 12 = .ok (.aload_n 0, 1) := dk_42 (dk_at dksX2_number_0 12 rfl rfl)
theorem dX2_number_13 : decode cX2_number 13 = .ok (.getfield 67, 3) := dk_180 0 67 (dk_at dksX2_number_0 13 rfl rfl)
theorem dX2_number_16 : decode cX2_number 16 = .ok (.if_icmp .ge 79, 3) := dk_162 0 79 (dk_at dksX2_number_0 16 rfl rfl)
theorem dX2_number_19 : decode cX2_number 19 = .ok (.aload_n 0, 1) := dk_42 (dk_at dksX2_number_0 19 rfl rfl)
theorem dX2_number_20 : decode cX2_number 20 = .ok (.getfield 9, 3) := dk_180 0 9 (dk_at dksX2_number_0 20 rfl rfl)
theorem dX2_number_23 : decode cX2_number 23 = .ok (.aload_n 0, 1) := dk_42 (dk_at dksX2_number_0 23 rfl rfl)
theorem dX2_number_24 : decode cX2_number 24 = .ok (.getfield 64, 3) := dk_180 0 64 (dk_at dksX2_number_1 0 rfl rfl)
theorem dX2_number_27 : decode cX2_number 27 = .ok (.baload, 1) := dk_51 (dk_at dksX2_number_1 3 rfl rfl)
theorem dX2_number_28 : decode cX2_number 28 = .ok (.bipush 48, 2) := dk_16 48 (dk_at dksX2_number_1 4 rfl rfl)
theorem dX2_number_30 : decode cX2_number 30 = .ok (.if_icmp .lt 65, 3) := dk_161 0 65 (dk_at dksX2_number_1 6 rfl rfl)
theorem dX2_number_33 : decode cX2_number 33 = .ok (.aload_n 0, 1) := dk_42 (dk_at dksX2_number_1 9 rfl rfl)
theorem dX2_number_34 : decode cX2_number 34 = .ok (.getfield 9, 3) := dk_180 0 9 (dk_at dksX2_number_1 10 rfl rfl)
theorem dX2_number_37 : decode cX2_number 37 = .ok (.aload_n 0, 1) := dk_42 (dk_at dksX2_number_1 13 rfl rfl)
theorem dX2_number_38 : decode cX2_number 38 = .ok (.getfield 64, 3) := dk_180 0 64 (dk_at dksX2_number_1 14 rfl rfl)
theorem dX2_number_41 : decode cX2_number 41 = .ok (.baload, 1) := dk_51 (dk_at dksX2_number_1 17 rfl rfl)
theorem dX2_number_42 : decode cX2_number 42 = .ok (.bipush 57, 2) := dk_16 57 (dk_at dksX2_number_1 18 rfl rfl)
theorem dX2_number_44 : decode cX2_number 44 = .ok (.if_icmp .gt 51, 3) := dk_163 0 51 (dk_at dksX2_number_1 20 rfl rfl)
theorem dX2_number_47 : decode cX2_number 47 = .ok (.aload_n 0, 1) := dk_42 (dk_at dksX2_number_1 23 rfl rfl)
theorem dX2_number_48 : decode cX2_number 48 = .ok (.getfield 64, 3) := dk_180 0 64 (dk_at dksX2_number_2 0 rfl rfl)
theorem dX2_number_51 : decode cX2_number 51 = .ok (.iload_n 3, 1) := dk_29 (dk_at dksX2_number_2 3 rfl rfl)
theorem dX2_number_52 : decode cX2_number 52 = .ok (.isub, 1) := dk_100 (dk_at dksX2_number_2 4 rfl rfl)
theorem dX2_number_53 : decode cX2_number 53 = .ok (.iconst 3, 1) := dk_6 (dk_at dksX2_number_2 5 rfl rfl)
theorem dX2_number_54 : decode cX2_number 54 = .ok (.if_icmp .ne 8, 3) := dk_160 0 8 (dk_at dksX2_number_2 6 rfl rfl)
theorem dX2_number_57 : decode cX2_number 57 = .ok (.aload_n 0, 1) := dk_42 (dk_at dksX2_number_2 9 rfl rfl)
theorem dX2_number_58 : decode cX2_number 58 = .ok (.iload_n 3, 1) := dk_29 (dk_at dksX2_number_2 10 rfl rfl)
theorem dX2_number_59 : decode cX2_number 59 = .ok (.invokevirtual 85, 3) := dk_182 0 85 (dk_at dksX2_number_2 11 rfl rfl)
theorem dX2_number_62 : decode cX2_number 62 = .ok (.bipush 10, 2) := dk_16 10 (dk_at dksX2_number_2 14 rfl rfl)
theorem dX2_number_64 : decode cX2_number 64 = .ok (.iload 4, 2) := dk_21 4 (dk_at dksX2_number_2 16 rfl rfl)
theorem dX2_number_66 : decode cX2_number 66 = .ok (.imul, 1) := dk_104 (dk_at dksX2_number_2 18 rfl rfl)
theorem dX2_number_67 : decode cX2_number 67 = .ok (.aload_n 0, 1) := dk_42 (dk_at dksX2_number_2 19 rfl rfl)
theorem dX2_number_68 : decode cX2_number 68 = .ok (.getfield 9, 3) := dk_180 0 9 (dk_at dksX2_number_2 20 rfl rfl)
theorem dX2_number_71 : decode cX2_number 71 = .ok (.aload_n 0, 1) := dk_42 (dk_at dksX2_number_2 23 rfl rfl)
theorem dX2_number_72 : decode cX2_number 72 = .ok (.getfield 64, 3) := dk_180 0 64 (dk_at dksX2_number_3 0 rfl rfl)
theorem dX2_number_75 : decode cX2_number 75 = .ok (.baload, 1) := dk_51 (dk_at dksX2_number_3 3 rfl rfl)
theorem dX2_number_76 : decode cX2_number 76 = .ok (.iadd, 1) := dk_96 (dk_at dksX2_number_3 4 rfl rfl)
theorem dX2_number_77 : decode cX2_number 77 = .ok (.bipush 48, 2) := dk_16 48 (dk_at dksX2_number_3 5 rfl rfl)
theorem dX2_number_79 : decode cX2_number 79 = .ok (.isub, 1) := dk_100 (dk_at dksX2_number_3 7 rfl rfl)
theorem dX2_number_80 : decode cX2_number 80 = .ok (.istore 4, 2) := dk_54 4 (dk_at dksX2_number_3 8 rfl rfl)
theorem dX2_number_82 : decode cX2_number 82 = .ok (.aload_n 0, 1) := dk_42 (dk_at dksX2_number_3 10 rfl rfl)
theorem dX2_number_83 : decode cX2_number 83 = .ok (.dup, 1) := dk_89 (dk_at dksX2_number_3 11 rfl rfl)
theorem dX2_number_84 : decode cX2_number 84 = .ok (.getfield 64, 3) := dk_180 0 64 (dk_at dksX2_number_3 12 rfl rfl)
theorem dX2_number_87 : decode cX2_number 87 = .ok (.iconst 1, 1) := dk_4 (dk_at dksX2_number_3 15 rfl rfl)
theorem dX2_number_88 : decode cX2_number 88 = .ok (.iadd, 1) := dk_96 (dk_at dksX2_number_3 16 rfl rfl)
theorem dX2_number_89 : decode cX2_number 89 = .ok (.putfield 64, 3) := dk_181 0 64 (dk_at dksX2_number_3 17 rfl rfl)
theorem dX2_number_92 : decode cX2_number 92 = .ok (.goto (-84), 3) := dk_167 255 172 (dk_at dksX2_number_3 20 rfl rfl)
theorem dX2_number_95 : decode cX2_number 95 = .ok (.aload_n 0, 1) := dk_42 (dk_at dksX2_number_3 23 rfl rfl)
theorem dX2_number_96 : decode cX2_number 96 = .ok (.getfield 64, 3) := dk_180 0 64 (dk_at dksX2_number_4 0 rfl rfl)
theorem dX2_number_99 : decode cX2_number 99 = .ok (.iload_n 3, 1) := dk_29 (dk_at dksX2_number_4 3 rfl rfl)
theorem dX2_number_100 : decode cX2_number 100 = .ok (.if_icmp .eq 15, 3) := dk_159 0 15 (dk_at dksX2_number_4 4 rfl rfl)
theorem dX2_number_103 : decode cX2_number 103 = .ok (.iload 4, 2) := dk_21 4 (dk_at dksX2_number_4 7 rfl rfl)
theorem dX2_number_105 : decode cX2_number 105 = .ok (.iload_n 1, 1) := dk_27 (dk_at dksX2_number_4 9 rfl rfl)
theorem dX2_number_106 : decode cX2_number 106 = .ok (.if_icmp .lt 9, 3) := dk_161 0 9 (dk_at dksX2_number_4 10 rfl rfl)
theorem dX2_number_109 : decode cX2_number 109 = .ok (.iload 4, 2) := dk_21 4 (dk_at dksX2_number_4 13 rfl rfl)
theorem dX2_number_111 : decode cX2_number 111 = .ok (.iload_n 2, 1) := dk_28 (dk_at dksX2_number_4 15 rfl rfl)
theorem dX2_number_112 : decode cX2_number 112 = .ok (.if_icmp .le 8, 3) := dk_164 0 8 (dk_at dksX2_number_4 16 rfl rfl)
theorem dX2_number_115 : decode cX2_number 115 = .ok (.aload_n 0, 1) := dk_42 (dk_at dksX2_number_4 19 rfl rfl)
theorem dX2_number_116 : decode cX2_number 116 = .ok (.iload_n 3, 1) := dk_29 (dk_at dksX2_number_4 20 rfl rfl)
theorem dX2_number_117 : decode cX2_number 117 = .ok (.invokevirtual 85, 3) := dk_182 0 85 (dk_at dksX2_number_4 21 rfl rfl)
theorem dX2_number_120 : decode cX2_number 120 = .ok (.iload 4, 2) := dk_21 4 (dk_at dksX2_number_5 0 rfl rfl)
theorem dX2_number_122 : decode cX2_number 122 = .ok (.ireturn, 1) := dk_172 (dk_at dksX2_number_5 2 rfl rfl)
abbrev cX2_addOne : ByteArray := prog_10_method_16_code
def yX2_addOne : MethodName := ⟨RX2, "addOne", "(I)V"⟩
def dkwX2_addOne_5 : List UInt8 := [181, 0, 181, 177]
abbrev dktX2_addOne_5 : List UInt8 := dkwX2_addOne_5 ++ []
def dkwX2_addOne_4 : List UInt8 := [167, 0, 4, 3, 181, 0, 197, 44, 3, 181, 0, 199, 42, 180, 0, 49, 89, 180, 0, 181, 4, 96]
abbrev dktX2_addOne_4 : List UInt8 := dkwX2_addOne_4 ++ dktX2_addOne_5
def dkwX2_addOne_3 : List UInt8 := [182, 0, 81, 153, 0, 22, 4, 42, 3, 42, 180, 0, 49, 180, 0, 143, 4, 100, 182, 0, 96, 120]
abbrev dktX2_addOne_3 : List UInt8 := dkwX2_addOne_3 ++ dktX2_addOne_4
def dkwX2_addOne_2 : List UInt8 := [18, 192, 182, 0, 81, 153, 0, 11, 42, 3, 182, 0, 150, 167, 0, 4, 3, 181, 0, 194, 44, 42, 18, 33]
abbrev dktX2_addOne_2 : List UInt8 := dkwX2_addOne_2 ++ dktX2_addOne_3
def dkwX2_addOne_1 : List UInt8 := [42, 180, 0, 49, 180, 0, 181, 50, 77, 44, 42, 18, 27, 4, 16, 60, 182, 0, 162, 181, 0, 188, 44, 42]
abbrev dktX2_addOne_1 : List UInt8 := dkwX2_addOne_1 ++ dktX2_addOne_2
def dkwX2_addOne_0 : List UInt8 := [42, 180, 0, 49, 180, 0, 181, 16, 6, 160, 0, 8, 42, 27, 182, 0, 85, 42, 180, 0, 49, 180, 0, 184]
abbrev dktX2_addOne_0 : List UInt8 := dkwX2_addOne_0 ++ dktX2_addOne_1
theorem dksX2_addOne_0 : cX2_addOne.data.toList.drop 0 = dktX2_addOne_0 := by decide +kernel
theorem dksX2_addOne_1 : cX2_addOne.data.toList.drop 24 = dktX2_addOne_1 := dk_seg dksX2_addOne_0 24 rfl rfl
theorem dksX2_addOne_2 : cX2_addOne.data.toList.drop 48 = dktX2_addOne_2 := dk_seg dksX2_addOne_1 24 rfl rfl
theorem dksX2_addOne_3 : cX2_addOne.data.toList.drop 72 = dktX2_addOne_3 := dk_seg dksX2_addOne_2 24 rfl rfl
theorem dksX2_addOne_4 : cX2_addOne.data.toList.drop 94 = dktX2_addOne_4 := dk_seg dksX2_addOne_3 22 rfl rfl
theorem dksX2_addOne_5 : cX2_addOne.data.toList.drop 116 = dktX2_addOne_5 := dk_seg dksX2_addOne_4 22 rfl rfl
theorem dX2_addOne_0 : decode cX2_addOne 0 = .ok (.aload_n 0, 1) := dk_42 (dk_at dksX2_addOne_0 0 rfl rfl)
theorem dX2_addOne_1 : decode cX2_addOne 1 = .ok (.getfield 49, 3) := dk_180 0 49 (dk_at dksX2_addOne_0 1 rfl rfl)
theorem dX2_addOne_4 : decode cX2_addOne 4 = .ok (.getfield 181, 3) := dk_180 0 181 (dk_at dksX2_addOne_0 4 rfl rfl)
theorem dX2_addOne_7 : decode cX2_addOne 7 = .ok (.bipush 6, 2) := dk_16 6 (dk_at dksX2_addOne_0 7 rfl rfl)
theorem dX2_addOne_9 : decode cX2_addOne 9 = .ok (.if_icmp .ne 8, 3) := dk_160 0 8 (dk_at dksX2_addOne_0 9 rfl rfl)
theorem dX2_addOne_12 : decode cX2_addOne 12 = .ok (.aload_n 0, 1) := dk_42 (dk_at dksX2_addOne_0 12 rfl rfl)
theorem dX2_addOne_13 : decode cX2_addOne 13 = .ok (.iload_n 1, 1) := dk_27 (dk_at dksX2_addOne_0 13 rfl rfl)
theorem dX2_addOne_14 : decode cX2_addOne 14 = .ok (.invokevirtual 85, 3) := dk_182 0 85 (dk_at dksX2_addOne_0 14 rfl rfl)
theorem dX2_addOne_17 : decode cX2_addOne 17 = .ok (.aload_n 0, 1) := dk_42 (dk_at dksX2_addOne_0 17 rfl rfl)
theorem dX2_addOne_18 : decode cX2_addOne 18 = .ok (.getfield 49, 3) := dk_180 0 49 (dk_at dksX2_addOne_0 18 rfl rfl)
theorem dX2_addOne_21 : decode cX2_addOne 21 = .ok (.getfield 184, 3) := dk_180 0 184 (dk_at dksX2_addOne_0 21 rfl rfl)
theorem dX2_addOne_24 : decode cX2_addOne 24 = .ok (.aload_n 0, 1) := dk_42 (dk_at dksX2_addOne_1 0 rfl rfl)
theorem dX2_addOne_25 : decode cX2_addOne 25 = .ok (.getfield 49, 3) := dk_180 0 49 (dk_at dksX2_addOne_1 1 rfl rfl)
theorem dX2_addOne_28 : decode cX2_addOne 28 = .ok (.getfield 181, 3) := dk_180 0 181 (dk_at dksX2_addOne_1 4 rfl rfl)
theorem dX2_addOne_31 : decode cX2_addOne 31 = .ok (.aaload, 1) := dk_50 (dk_at dksX2_addOne_1 7 rfl rfl)
theorem dX2_addOne_32 : decode cX2_addOne 32 = .ok (.astore_n 2, 1) := dk_77 (dk_at dksX2_addOne_1 8 rfl rfl)
theorem dX2_addOne_33 : decode cX2_addOne 33 = .ok (.aload_n 2, 1) := dk_44 (dk_at dksX2_addOne_1 9 rfl rfl)
theorem dX2_addOne_34 : decode cX2_addOne 34 = .ok (.aload_n 0, 1) := dk_42 (dk_at dksX2_addOne_1 10 rfl rfl)
theorem dX2_addOne_35 : decode cX2_addOne 35 = .ok (.ldc 27, 2) := dk_18 27 (dk_at dksX2_addOne_1 11 rfl rfl)
theorem dX2_addOne_37 : decode cX2_addOne 37 = .ok (.iconst 1, 1) := dk_4 (dk_at dksX2_addOne_1 13 rfl rfl)
theorem dX2_addOne_38 : decode cX2_addOne 38 = .ok (.bipush 60, 2) := dk_16 60 (dk_at dksX2_addOne_1 14 rfl rfl)
theorem dX2_addOne_40 : decode cX2_addOne 40 = .ok (.invokevirtual 162, 3) := dk_182 0 162 (dk_at dksX2_addOne_1 16 rfl rfl)
theorem dX2_addOne_43 : decode cX2_addOne 43 = .ok (.putfield 188, 3) := dk_181 0 188 (dk_at dksX2_addOne_1 19 rfl rfl)
theorem dX2_addOne_46 : decode cX2_addOne 46 = .ok (.aload_n 2, 1) := dk_44 (dk_at dksX2_addOne_1 22 rfl rfl)
theorem dX2_addOne_47 : decode cX2_addOne 47 = .ok (.aload_n 0, 1) := dk_42 (dk_at dksX2_addOne_1 23 rfl rfl)
theorem dX2_addOne_48 : decode cX2_addOne 48 = .ok (.ldc 192, 2) := dk_18 192 (dk_at dksX2_addOne_2 0 rfl rfl)
theorem dX2_addOne_50 : decode cX2_addOne 50 = .ok (.invokevirtual 81, 3) := dk_182 0 81 (dk_at dksX2_addOne_2 2 rfl rfl)
theorem dX2_addOne_53 : decode cX2_addOne 53 = .ok (.ifCond .eq 11, 3) := dk_153 0 11 (dk_at dksX2_addOne_2 5 rfl rfl)
theorem dX2_addOne_56 : decode cX2_addOne 56 = .ok (.aload_n 0, 1) := dk_42 (dk_at dksX2_addOne_2 8 rfl rfl)
theorem dX2_addOne_57 : decode cX2_addOne 57 = .ok (.iconst 0, 1) := dk_3 (dk_at dksX2_addOne_2 9 rfl rfl)
theorem dX2_addOne_58 : decode cX2_addOne 58 = .ok (.invokevirtual 150, 3) := dk_182 0 150 (dk_at dksX2_addOne_2 10 rfl rfl)
theorem dX2_addOne_61 : decode cX2_addOne 61 = .ok (.goto 4, 3) := dk_167 0 4 (dk_at dksX2_addOne_2 13 rfl rfl)
theorem dX2_addOne_64 : decode cX2_addOne 64 = .ok (.iconst 0, 1) := dk_3 (dk_at dksX2_addOne_2 16 rfl rfl)
theorem dX2_addOne_65 : decode cX2_addOne 65 = .ok (.putfield 194, 3) := dk_181 0 194 (dk_at dksX2_addOne_2 17 rfl rfl)
theorem dX2_addOne_68 : decode cX2_addOne 68 = .ok (.aload_n 2, 1) := dk_44 (dk_at dksX2_addOne_2 20 rfl rfl)
theorem dX2_addOne_69 : decode cX2_addOne 69 = .ok (.aload_n 0, 1) := dk_42 (dk_at dksX2_addOne_2 21 rfl rfl)
theorem dX2_addOne_70 : decode cX2_addOne 70 = .ok (.ldc 33, 2) := dk_18 33 (dk_at dksX2_addOne_2 22 rfl rfl)
theorem dX2_addOne_72 : decode cX2_addOne 72 = .ok (.invokevirtual 81, 3) := dk_182 0 81 (dk_at dksX2_addOne_3 0 rfl rfl)
theorem dX2_addOne_75 : decode cX2_addOne 75 = .ok (.ifCond .eq 22, 3) := dk_153 0 22 (dk_at dksX2_addOne_3 3 rfl rfl)
theorem dX2_addOne_78 : decode cX2_addOne 78 = .ok (.iconst 1, 1) := dk_4 (dk_at dksX2_addOne_3 6 rfl rfl)
theorem dX2_addOne_79 : decode cX2_addOne 79 = .ok (.aload_n 0, 1) := dk_42 (dk_at dksX2_addOne_3 7 rfl rfl)
theorem dX2_addOne_80 : decode cX2_addOne 80 = .ok (.iconst 0, 1) := dk_3 (dk_at dksX2_addOne_3 8 rfl rfl)
theorem dX2_addOne_81 : decode cX2_addOne 81 = .ok (.aload_n 0, 1) := dk_42 (dk_at dksX2_addOne_3 9 rfl rfl)
theorem dX2_addOne_82 : decode cX2_addOne 82 = .ok (.getfield 49, 3) := dk_180 0 49 (dk_at dksX2_addOne_3 10 rfl rfl)
theorem dX2_addOne_85 : decode cX2_addOne 85 = .ok (.getfield 143, 3) := dk_180 0 143 (dk_at dksX2_addOne_3 13 rfl rfl)
theorem dX2_addOne_88 : decode cX2_addOne 88 = .ok (.iconst 1, 1) := dk_4 (dk_at dksX2_addOne_3 16 rfl rfl)
theorem dX2_addOne_89 : decode cX2_addOne 89 = .ok (.isub, 1) := dk_100 (dk_at dksX2_addOne_3 17 rfl rfl)
theorem dX2_addOne_90 : decode cX2_addOne 90 = .ok (.invokevirtual 96, 3) := dk_182 0 96 (dk_at dksX2_addOne_3 18 rfl rfl)
theorem dX2_addOne_93 : decode cX2_addOne 93 = .ok (.ishl, 1) := dk_120 (dk_at dksX2_addOne_3 21 rfl rfl)
theorem dX2_addOne_94 : decode cX2_addOne 94 = .ok (.goto 4, 3) := dk_167 0 4 (dk_at dksX2_addOne_4 0 rfl rfl)
theorem dX2_addOne_97 : decode cX2_addOne 97 = .ok (.iconst 0, 1) := dk_3 (dk_at dksX2_addOne_4 3 rfl rfl)
theorem dX2_addOne_98 : decode cX2_addOne 98 = .ok (.putfield 197, 3) := dk_181 0 197 (dk_at dksX2_addOne_4 4 rfl rfl)
theorem dX2_addOne_101 : decode cX2_addOne 101 = .ok (.aload_n 2, 1) := dk_44 (dk_at dksX2_addOne_4 7 rfl rfl)
theorem dX2_addOne_102 : decode cX2_addOne 102 = .ok (.iconst 0, 1) := dk_3 (dk_at dksX2_addOne_4 8 rfl rfl)
theorem dX2_addOne_103 : decode cX2_addOne 103 = .ok (.putfield 199, 3) := dk_181 0 199 (dk_at dksX2_addOne_4 9 rfl rfl)
theorem dX2_addOne_106 : decode cX2_addOne 106 = .ok (.aload_n 0, 1) := dk_42 (dk_at dksX2_addOne_4 12 rfl rfl)
theorem dX2_addOne_107 : decode cX2_addOne 107 = .ok (.getfield 49, 3) := dk_180 0 49 (dk_at dksX2_addOne_4 13 rfl rfl)
theorem dX2_addOne_110 : decode cX2_addOne 110 = .ok (.dup, 1) := dk_89 (dk_at dksX2_addOne_4 16 rfl rfl)
theorem dX2_addOne_111 : decode cX2_addOne 111 = .ok (.getfield 181, 3) := dk_180 0 181 (dk_at dksX2_addOne_4 17 rfl rfl)
theorem dX2_addOne_114 : decode cX2_addOne 114 = .ok (.iconst 1, 1) := dk_4 (dk_at dksX2_addOne_4 20 rfl rfl)
theorem dX2_addOne_115 : decode cX2_addOne 115 = .ok (.iadd, 1) := dk_96 (dk_at dksX2_addOne_4 21 rfl rfl)
theorem dX2_addOne_116 : decode cX2_addOne 116 = .ok (.putfield 181, 3) := dk_181 0 181 (dk_at dksX2_addOne_5 0 rfl rfl)
theorem dX2_addOne_119 : decode cX2_addOne 119 = .ok (.return_, 1) := dk_177 (dk_at dksX2_addOne_5 3 rfl rfl)
abbrev cX2_law : ByteArray := prog_10_method_17_code
def yX2_law : MethodName := ⟨RX2, "law", "(I)I"⟩
def dkwX2_law_5 : List UInt8 := [154, 0, 7, 4, 167, 0, 4, 3, 183, 0, 220, 83, 132, 2, 1, 167, 255, 130, 28, 172]
abbrev dktX2_law_5 : List UInt8 := dkwX2_law_5 ++ []
def dkwX2_law_4 : List UInt8 := [187, 0, 213, 89, 21, 4, 25, 5, 183, 0, 215, 167, 0, 23, 187, 0, 218, 89, 21, 4, 25, 5, 29]
abbrev dktX2_law_4 : List UInt8 := dkwX2_law_4 ++ dktX2_law_5
def dkwX2_law_3 : List UInt8 := [153, 0, 11, 42, 3, 182, 0, 210, 167, 0, 4, 1, 58, 5, 42, 180, 0, 42, 28, 29, 5, 160, 0, 17]
abbrev dktX2_law_3 : List UInt8 := dkwX2_law_3 ++ dktX2_law_4
def dkwX2_law_2 : List UInt8 := [160, 0, 9, 42, 18, 206, 182, 0, 92, 42, 3, 16, 30, 182, 0, 96, 54, 4, 42, 18, 208, 182, 0, 81]
abbrev dktX2_law_2 : List UInt8 := dkwX2_law_2 ++ dktX2_law_3
def dkwX2_law_1 : List UInt8 := [153, 0, 7, 3, 167, 0, 17, 42, 18, 204, 182, 0, 81, 153, 0, 7, 4, 167, 0, 4, 5, 62, 29, 5]
abbrev dktX2_law_1 : List UInt8 := dkwX2_law_1 ++ dktX2_law_2
def dkwX2_law_0 : List UInt8 := [42, 27, 182, 0, 103, 3, 61, 42, 28, 16, 12, 182, 0, 110, 153, 0, 122, 42, 18, 202, 182, 0, 81]
abbrev dktX2_law_0 : List UInt8 := dkwX2_law_0 ++ dktX2_law_1
theorem dksX2_law_0 : cX2_law.data.toList.drop 0 = dktX2_law_0 := by decide +kernel
theorem dksX2_law_1 : cX2_law.data.toList.drop 23 = dktX2_law_1 := dk_seg dksX2_law_0 23 rfl rfl
theorem dksX2_law_2 : cX2_law.data.toList.drop 47 = dktX2_law_2 := dk_seg dksX2_law_1 24 rfl rfl
theorem dksX2_law_3 : cX2_law.data.toList.drop 71 = dktX2_law_3 := dk_seg dksX2_law_2 24 rfl rfl
theorem dksX2_law_4 : cX2_law.data.toList.drop 95 = dktX2_law_4 := dk_seg dksX2_law_3 24 rfl rfl
theorem dksX2_law_5 : cX2_law.data.toList.drop 118 = dktX2_law_5 := dk_seg dksX2_law_4 23 rfl rfl
theorem dX2_law_0 : decode cX2_law 0 = .ok (.aload_n 0, 1) := dk_42 (dk_at dksX2_law_0 0 rfl rfl)
theorem dX2_law_1 : decode cX2_law 1 = .ok (.iload_n 1, 1) := dk_27 (dk_at dksX2_law_0 1 rfl rfl)
theorem dX2_law_2 : decode cX2_law 2 = .ok (.invokevirtual 103, 3) := dk_182 0 103 (dk_at dksX2_law_0 2 rfl rfl)
theorem dX2_law_5 : decode cX2_law 5 = .ok (.iconst 0, 1) := dk_3 (dk_at dksX2_law_0 5 rfl rfl)
theorem dX2_law_6 : decode cX2_law 6 = .ok (.istore_n 2, 1) := dk_61 (dk_at dksX2_law_0 6 rfl rfl)
theorem dX2_law_7 : decode cX2_law 7 = .ok (.aload_n 0, 1) := dk_42 (dk_at dksX2_law_0 7 rfl rfl)
theorem dX2_law_8 : decode cX2_law 8 = .ok (.iload_n 2, 1) := dk_28 (dk_at dksX2_law_0 8 rfl rfl)
theorem dX2_law_9 : decode cX2_law 9 = .ok (.bipush 12, 2) := dk_16 12 (dk_at dksX2_law_0 9 rfl rfl)
theorem dX2_law_11 : decode cX2_law 11 = .ok (.invokevirtual 110, 3) := dk_182 0 110 (dk_at dksX2_law_0 11 rfl rfl)
theorem dX2_law_14 : decode cX2_law 14 = .ok (.ifCond .eq 122, 3) := dk_153 0 122 (dk_at dksX2_law_0 14 rfl rfl)
theorem dX2_law_17 : decode cX2_law 17 = .ok (.aload_n 0, 1) := dk_42 (dk_at dksX2_law_0 17 rfl rfl)
theorem dX2_law_18 : decode cX2_law 18 = .ok (.ldc 202, 2) := dk_18 202 (dk_at dksX2_law_0 18 rfl rfl)
theorem dX2_law_20 : decode cX2_law 20 = .ok (.invokevirtual 81, 3) := dk_182 0 81 (dk_at dksX2_law_0 20 rfl rfl)
theorem dX2_law_23 : decode cX2_law 23 = .ok (.ifCond .eq 7, 3) := dk_153 0 7 (dk_at dksX2_law_1 0 rfl rfl)
theorem dX2_law_26 : decode cX2_law 26 = .ok (.iconst 0, 1) := dk_3 (dk_at dksX2_law_1 3 rfl rfl)
theorem dX2_law_27 : decode cX2_law 27 = .ok (.goto 17, 3) := dk_167 0 17 (dk_at dksX2_law_1 4 rfl rfl)
theorem dX2_law_30 : decode cX2_law 30 = .ok (.aload_n 0, 1) := dk_42 (dk_at dksX2_law_1 7 rfl rfl)
theorem dX2_law_31 : decode cX2_law 31 = .ok (.ldc 204, 2) := dk_18 204 (dk_at dksX2_law_1 8 rfl rfl)
theorem dX2_law_33 : decode cX2_law 33 = .ok (.invokevirtual 81, 3) := dk_182 0 81 (dk_at dksX2_law_1 10 rfl rfl)
theorem dX2_law_36 : decode cX2_law 36 = .ok (.ifCond .eq 7, 3) := dk_153 0 7 (dk_at dksX2_law_1 13 rfl rfl)
theorem dX2_law_39 : decode cX2_law 39 = .ok (.iconst 1, 1) := dk_4 (dk_at dksX2_law_1 16 rfl rfl)
theorem dX2_law_40 : decode cX2_law 40 = .ok (.goto 4, 3) := dk_167 0 4 (dk_at dksX2_law_1 17 rfl rfl)
theorem dX2_law_43 : decode cX2_law 43 = .ok (.iconst 2, 1) := dk_5 (dk_at dksX2_law_1 20 rfl rfl)
theorem dX2_law_44 : decode cX2_law 44 = .ok (.istore_n 3, 1) := dk_62 (dk_at dksX2_law_1 21 rfl rfl)
theorem dX2_law_45 : decode cX2_law 45 = .ok (.iload_n 3, 1) := dk_29 (dk_at dksX2_law_1 22 rfl rfl)
theorem dX2_law_46 : decode cX2_law 46 = .ok (.iconst 2, 1) := dk_5 (dk_at dksX2_law_1 23 rfl rfl)
theorem dX2_law_47 : decode cX2_law 47 = .ok (.if_icmp .ne 9, 3) := dk_160 0 9 (dk_at dksX2_law_2 0 rfl rfl)
theorem dX2_law_50 : decode cX2_law 50 = .ok (.aload_n 0, 1) := dk_42 (dk_at dksX2_law_2 3 rfl rfl)
theorem dX2_law_51 : decode cX2_law 51 = .ok (.ldc 206, 2) := dk_18 206 (dk_at dksX2_law_2 4 rfl rfl)
theorem dX2_law_53 : decode cX2_law 53 = .ok (.invokevirtual 92, 3) := dk_182 0 92 (dk_at dksX2_law_2 6 rfl rfl)
theorem dX2_law_56 : decode cX2_law 56 = .ok (.aload_n 0, 1) := dk_42 (dk_at dksX2_law_2 9 rfl rfl)
theorem dX2_law_57 : decode cX2_law 57 = .ok (.iconst 0, 1) := dk_3 (dk_at dksX2_law_2 10 rfl rfl)
theorem dX2_law_58 : decode cX2_law 58 = .ok (.bipush 30, 2) := dk_16 30 (dk_at dksX2_law_2 11 rfl rfl)
theorem dX2_law_60 : decode cX2_law 60 = .ok (.invokevirtual 96, 3) := dk_182 0 96 (dk_at dksX2_law_2 13 rfl rfl)
theorem dX2_law_63 : decode cX2_law 63 = .ok (.istore 4, 2) := dk_54 4 (dk_at dksX2_law_2 16 rfl rfl)
theorem dX2_law_65 : decode cX2_law 65 = .ok (.aload_n 0, 1) := dk_42 (dk_at dksX2_law_2 18 rfl rfl)
theorem dX2_law_66 : decode cX2_law 66 = .ok (.ldc 208, 2) := dk_18 208 (dk_at dksX2_law_2 19 rfl rfl)
theorem dX2_law_68 : decode cX2_law 68 = .ok (.invokevirtual 81, 3) := dk_182 0 81 (dk_at dksX2_law_2 21 rfl rfl)
theorem dX2_law_71 : decode cX2_law 71 = .ok (.ifCond .eq 11, 3) := dk_153 0 11 (dk_at dksX2_law_3 0 rfl rfl)
theorem dX2_law_74 : decode cX2_law 74 = .ok (.aload_n 0, 1) := dk_42 (dk_at dksX2_law_3 3 rfl rfl)
theorem dX2_law_75 : decode cX2_law 75 = .ok (.iconst 0, 1) := dk_3 (dk_at dksX2_law_3 4 rfl rfl)
theorem dX2_law_76 : decode cX2_law 76 = .ok (.invokevirtual 210, 3) := dk_182 0 210 (dk_at dksX2_law_3 5 rfl rfl)
theorem dX2_law_79 : decode cX2_law 79 = .ok (.goto 4, 3) := dk_167 0 4 (dk_at dksX2_law_3 8 rfl rfl)
theorem dX2_law_82 : decode cX2_law 82 = .ok (.aconst_null, 1) := dk_1 (dk_at dksX2_law_3 11 rfl rfl)
theorem dX2_law_83 : decode cX2_law 83 = .ok (.astore 5, 2) := dk_58 5 (dk_at dksX2_law_3 12 rfl rfl)
theorem dX2_law_85 : decode cX2_law 85 = .ok (.aload_n 0, 1) := dk_42 (dk_at dksX2_law_3 14 rfl rfl)
theorem dX2_law_86 : decode cX2_law 86 = .ok (.getfield 42, 3) := dk_180 0 42 (dk_at dksX2_law_3 15 rfl rfl)
theorem dX2_law_89 : decode cX2_law 89 = .ok (.iload_n 2, 1) := dk_28 (dk_at dksX2_law_3 18 rfl rfl)
theorem dX2_law_90 : decode cX2_law 90 = .ok (.iload_n 3, 1) := dk_29 (dk_at dksX2_law_3 19 rfl rfl)
theorem dX2_law_91 : decode cX2_law 91 = .ok (.iconst 2, 1) := dk_5 (dk_at dksX2_law_3 20 rfl rfl)
theorem dX2_law_92 : decode cX2_law 92 = .ok (.if_icmp .ne 17, 3) := dk_160 0 17 (dk_at dksX2_law_3 21 rfl rfl)
theorem dX2_law_95 : decode cX2_law 95 = .ok (.new 213, 3) := dk_187 0 213 (dk_at dksX2_law_4 0 rfl rfl)
theorem dX2_law_98 : decode cX2_law 98 = .ok (.dup, 1) := dk_89 (dk_at dksX2_law_4 3 rfl rfl)
theorem dX2_law_99 : decode cX2_law 99 = .ok (.iload 4, 2) := dk_21 4 (dk_at dksX2_law_4 4 rfl rfl)
theorem dX2_law_101 : decode cX2_law 101 = .ok (.aload 5, 2) := dk_25 5 (dk_at dksX2_law_4 6 rfl rfl)
theorem dX2_law_103 : decode cX2_law 103 = .ok (.invokespecial 215, 3) := dk_183 0 215 (dk_at dksX2_law_4 8 rfl rfl)
theorem dX2_law_106 : decode cX2_law 106 = .ok (.goto 23, 3) := dk_167 0 23 (dk_at dksX2_law_4 11 rfl rfl)
theorem dX2_law_109 : decode cX2_law 109 = .ok (.new 218, 3) := dk_187 0 218 (dk_at dksX2_law_4 14 rfl rfl)
theorem dX2_law_112 : decode cX2_law 112 = .ok (.dup, 1) := dk_89 (dk_at dksX2_law_4 17 rfl rfl)
theorem dX2_law_113 : decode cX2_law 113 = .ok (.iload 4, 2) := dk_21 4 (dk_at dksX2_law_4 18 rfl rfl)
theorem dX2_law_115 : decode cX2_law 115 = .ok (.aload 5, 2) := dk_25 5 (dk_at dksX2_law_4 20 rfl rfl)
theorem dX2_law_117 : decode cX2_law 117 = .ok (.iload_n 3, 1) := dk_29 (dk_at dksX2_law_4 22 rfl rfl)
theorem dX2_law_118 : decode cX2_law 118 = .ok (.ifCond .ne 7, 3) := dk_154 0 7 (dk_at dksX2_law_5 0 rfl rfl)
theorem dX2_law_121 : decode cX2_law 121 = .ok (.iconst 1, 1) := dk_4 (dk_at dksX2_law_5 3 rfl rfl)
theorem dX2_law_122 : decode cX2_law 122 = .ok (.goto 4, 3) := dk_167 0 4 (dk_at dksX2_law_5 4 rfl rfl)
theorem dX2_law_125 : decode cX2_law 125 = .ok (.iconst 0, 1) := dk_3 (dk_at dksX2_law_5 7 rfl rfl)
theorem dX2_law_126 : decode cX2_law 126 = .ok (.invokespecial 220, 3) := dk_183 0 220 (dk_at dksX2_law_5 8 rfl rfl)
theorem dX2_law_129 : decode cX2_law 129 = .ok (.aastore, 1) := dk_83 (dk_at dksX2_law_5 11 rfl rfl)
theorem dX2_law_130 : decode cX2_law 130 = .ok (.iinc 2 1, 3) := dk_132 2 1 (dk_at dksX2_law_5 12 rfl rfl)
theorem dX2_law_133 : decode cX2_law 133 = .ok (.goto (-126), 3) := dk_167 255 130 (dk_at dksX2_law_5 15 rfl rfl)
theorem dX2_law_136 : decode cX2_law 136 = .ok (.iload_n 2, 1) := dk_28 (dk_at dksX2_law_5 18 rfl rfl)
theorem dX2_law_137 : decode cX2_law 137 = .ok (.ireturn, 1) := dk_172 (dk_at dksX2_law_5 19 rfl rfl)
abbrev cX2_row : ByteArray := prog_10_method_18_code
def yX2_row : MethodName := ⟨RX2, "row", "(Z)LGhostAssize$Cond;"⟩
def dkwX2_row_3 : List UInt8 := [181, 0, 236, 45, 180, 0, 236, 78, 167, 255, 205, 44, 176]
abbrev dktX2_row_3 : List UInt8 := dkwX2_row_3 ++ []
def dkwX2_row_2 : List UInt8 := [187, 0, 223, 89, 27, 153, 0, 10, 42, 182, 0, 225, 167, 0, 8, 42, 4, 182, 0, 210, 27, 183, 0, 229]
abbrev dktX2_row_2 : List UInt8 := dkwX2_row_2 ++ dktX2_row_3
def dkwX2_row_1 : List UInt8 := [77, 44, 78, 42, 27, 153, 0, 8, 18, 232, 167, 0, 5, 18, 234, 182, 0, 81, 153, 0, 39, 45]
abbrev dktX2_row_1 : List UInt8 := dkwX2_row_1 ++ dktX2_row_2
def dkwX2_row_0 : List UInt8 := [187, 0, 223, 89, 27, 153, 0, 10, 42, 182, 0, 225, 167, 0, 8, 42, 4, 182, 0, 210, 27, 183, 0, 229]
abbrev dktX2_row_0 : List UInt8 := dkwX2_row_0 ++ dktX2_row_1
theorem dksX2_row_0 : cX2_row.data.toList.drop 0 = dktX2_row_0 := by decide +kernel
theorem dksX2_row_1 : cX2_row.data.toList.drop 24 = dktX2_row_1 := dk_seg dksX2_row_0 24 rfl rfl
theorem dksX2_row_2 : cX2_row.data.toList.drop 46 = dktX2_row_2 := dk_seg dksX2_row_1 22 rfl rfl
theorem dksX2_row_3 : cX2_row.data.toList.drop 70 = dktX2_row_3 := dk_seg dksX2_row_2 24 rfl rfl
theorem dX2_row_0 : decode cX2_row 0 = .ok (.new 223, 3) := dk_187 0 223 (dk_at dksX2_row_0 0 rfl rfl)
theorem dX2_row_3 : decode cX2_row 3 = .ok (.dup, 1) := dk_89 (dk_at dksX2_row_0 3 rfl rfl)
theorem dX2_row_4 : decode cX2_row 4 = .ok (.iload_n 1, 1) := dk_27 (dk_at dksX2_row_0 4 rfl rfl)
theorem dX2_row_5 : decode cX2_row 5 = .ok (.ifCond .eq 10, 3) := dk_153 0 10 (dk_at dksX2_row_0 5 rfl rfl)
theorem dX2_row_8 : decode cX2_row 8 = .ok (.aload_n 0, 1) := dk_42 (dk_at dksX2_row_0 8 rfl rfl)
theorem dX2_row_9 : decode cX2_row 9 = .ok (.invokevirtual 225, 3) := dk_182 0 225 (dk_at dksX2_row_0 9 rfl rfl)
theorem dX2_row_12 : decode cX2_row 12 = .ok (.goto 8, 3) := dk_167 0 8 (dk_at dksX2_row_0 12 rfl rfl)
theorem dX2_row_15 : decode cX2_row 15 = .ok (.aload_n 0, 1) := dk_42 (dk_at dksX2_row_0 15 rfl rfl)
theorem dX2_row_16 : decode cX2_row 16 = .ok (.iconst 1, 1) := dk_4 (dk_at dksX2_row_0 16 rfl rfl)
theorem dX2_row_17 : decode cX2_row 17 = .ok (.invokevirtual 210, 3) := dk_182 0 210 (dk_at dksX2_row_0 17 rfl rfl)
theorem dX2_row_20 : decode cX2_row 20 = .ok (.iload_n 1, 1) := dk_27 (dk_at dksX2_row_0 20 rfl rfl)
theorem dX2_row_21 : decode cX2_row 21 = .ok (.invokespecial 229, 3) := dk_183 0 229 (dk_at dksX2_row_0 21 rfl rfl)
theorem dX2_row_24 : decode cX2_row 24 = .ok (.astore_n 2, 1) := dk_77 (dk_at dksX2_row_1 0 rfl rfl)
theorem dX2_row_25 : decode cX2_row 25 = .ok (.aload_n 2, 1) := dk_44 (dk_at dksX2_row_1 1 rfl rfl)
theorem dX2_row_26 : decode cX2_row 26 = .ok (.astore_n 3, 1) := dk_78 (dk_at dksX2_row_1 2 rfl rfl)
theorem dX2_row_27 : decode cX2_row 27 = .ok (.aload_n 0, 1) := dk_42 (dk_at dksX2_row_1 3 rfl rfl)
theorem dX2_row_28 : decode cX2_row 28 = .ok (.iload_n 1, 1) := dk_27 (dk_at dksX2_row_1 4 rfl rfl)
theorem dX2_row_29 : decode cX2_row 29 = .ok (.ifCond .eq 8, 3) := dk_153 0 8 (dk_at dksX2_row_1 5 rfl rfl)
theorem dX2_row_32 : decode cX2_row 32 = .ok (.ldc 232, 2) := dk_18 232 (dk_at dksX2_row_1 8 rfl rfl)
theorem dX2_row_34 : decode cX2_row 34 = .ok (.goto 5, 3) := dk_167 0 5 (dk_at dksX2_row_1 10 rfl rfl)
theorem dX2_row_37 : decode cX2_row 37 = .ok (.ldc 234, 2) := dk_18 234 (dk_at dksX2_row_1 13 rfl rfl)
theorem dX2_row_39 : decode cX2_row 39 = .ok (.invokevirtual 81, 3) := dk_182 0 81 (dk_at dksX2_row_1 15 rfl rfl)
theorem dX2_row_42 : decode cX2_row 42 = .ok (.ifCond .eq 39, 3) := dk_153 0 39 (dk_at dksX2_row_1 18 rfl rfl)
theorem dX2_row_45 : decode cX2_row 45 = .ok (.aload_n 3, 1) := dk_45 (dk_at dksX2_row_1 21 rfl rfl)
theorem dX2_row_46 : decode cX2_row 46 = .ok (.new 223, 3) := dk_187 0 223 (dk_at dksX2_row_2 0 rfl rfl)
theorem dX2_row_49 : decode cX2_row 49 = .ok (.dup, 1) := dk_89 (dk_at dksX2_row_2 3 rfl rfl)
theorem dX2_row_50 : decode cX2_row 50 = .ok (.iload_n 1, 1) := dk_27 (dk_at dksX2_row_2 4 rfl rfl)
theorem dX2_row_51 : decode cX2_row 51 = .ok (.ifCond .eq 10, 3) := dk_153 0 10 (dk_at dksX2_row_2 5 rfl rfl)
theorem dX2_row_54 : decode cX2_row 54 = .ok (.aload_n 0, 1) := dk_42 (dk_at dksX2_row_2 8 rfl rfl)
theorem dX2_row_55 : decode cX2_row 55 = .ok (.invokevirtual 225, 3) := dk_182 0 225 (dk_at dksX2_row_2 9 rfl rfl)
theorem dX2_row_58 : decode cX2_row 58 = .ok (.goto 8, 3) := dk_167 0 8 (dk_at dksX2_row_2 12 rfl rfl)
theorem dX2_row_61 : decode cX2_row 61 = .ok (.aload_n 0, 1) := dk_42 (dk_at dksX2_row_2 15 rfl rfl)
theorem dX2_row_62 : decode cX2_row 62 = .ok (.iconst 1, 1) := dk_4 (dk_at dksX2_row_2 16 rfl rfl)
theorem dX2_row_63 : decode cX2_row 63 = .ok (.invokevirtual 210, 3) := dk_182 0 210 (dk_at dksX2_row_2 17 rfl rfl)
theorem dX2_row_66 : decode cX2_row 66 = .ok (.iload_n 1, 1) := dk_27 (dk_at dksX2_row_2 20 rfl rfl)
theorem dX2_row_67 : decode cX2_row 67 = .ok (.invokespecial 229, 3) := dk_183 0 229 (dk_at dksX2_row_2 21 rfl rfl)
theorem dX2_row_70 : decode cX2_row 70 = .ok (.putfield 236, 3) := dk_181 0 236 (dk_at dksX2_row_3 0 rfl rfl)
theorem dX2_row_73 : decode cX2_row 73 = .ok (.aload_n 3, 1) := dk_45 (dk_at dksX2_row_3 3 rfl rfl)
theorem dX2_row_74 : decode cX2_row 74 = .ok (.getfield 236, 3) := dk_180 0 236 (dk_at dksX2_row_3 4 rfl rfl)
theorem dX2_row_77 : decode cX2_row 77 = .ok (.astore_n 3, 1) := dk_78 (dk_at dksX2_row_3 7 rfl rfl)
theorem dX2_row_78 : decode cX2_row 78 = .ok (.goto (-51), 3) := dk_167 255 205 (dk_at dksX2_row_3 8 rfl rfl)
theorem dX2_row_81 : decode cX2_row 81 = .ok (.aload_n 2, 1) := dk_44 (dk_at dksX2_row_3 11 rfl rfl)
theorem dX2_row_82 : decode cX2_row 82 = .ok (.areturn, 1) := dk_176 (dk_at dksX2_row_3 12 rfl rfl)
abbrev cX2_atom : ByteArray := prog_10_method_19_code
def yX2_atom : MethodName := ⟨RX2, "atom", "()LGhostAssize$Cond;"⟩
def dkwX2_atom_5 : List UInt8 := [181, 0, 64, 42, 89, 180, 0, 100, 4, 100, 181, 0, 100, 25, 4, 176]
abbrev dktX2_atom_5 : List UInt8 := dkwX2_atom_5 ++ []
def dkwX2_atom_4 : List UInt8 := [182, 0, 70, 16, 41, 159, 0, 11, 42, 42, 180, 0, 64, 182, 0, 85, 42, 89, 180, 0, 64, 4, 96]
abbrev dktX2_atom_4 : List UInt8 := dkwX2_atom_4 ++ dktX2_atom_5
def dkwX2_atom_3 : List UInt8 := [58, 4, 167, 0, 47, 42, 89, 180, 0, 64, 4, 96, 181, 0, 64, 42, 3, 182, 0, 210, 58, 4, 42]
abbrev dktX2_atom_3 : List UInt8 := dkwX2_atom_3 ++ dktX2_atom_4
def dkwX2_atom_2 : List UInt8 := [180, 0, 100, 4, 96, 181, 0, 100, 29, 153, 0, 19, 187, 0, 245, 89, 42, 182, 0, 225, 183, 0, 247]
abbrev dktX2_atom_2 : List UInt8 := dkwX2_atom_2 ++ dktX2_atom_3
def dkwX2_atom_1 : List UInt8 := [159, 0, 8, 42, 182, 0, 242, 176, 42, 180, 0, 100, 16, 6, 160, 0, 8, 42, 28, 182, 0, 85, 42, 89]
abbrev dktX2_atom_1 : List UInt8 := dkwX2_atom_1 ++ dktX2_atom_2
def dkwX2_atom_0 : List UInt8 := [42, 182, 0, 70, 60, 42, 180, 0, 64, 61, 42, 18, 240, 182, 0, 81, 62, 29, 154, 0, 14, 27, 16, 40]
abbrev dktX2_atom_0 : List UInt8 := dkwX2_atom_0 ++ dktX2_atom_1
theorem dksX2_atom_0 : cX2_atom.data.toList.drop 0 = dktX2_atom_0 := by decide +kernel
theorem dksX2_atom_1 : cX2_atom.data.toList.drop 24 = dktX2_atom_1 := dk_seg dksX2_atom_0 24 rfl rfl
theorem dksX2_atom_2 : cX2_atom.data.toList.drop 48 = dktX2_atom_2 := dk_seg dksX2_atom_1 24 rfl rfl
theorem dksX2_atom_3 : cX2_atom.data.toList.drop 71 = dktX2_atom_3 := dk_seg dksX2_atom_2 23 rfl rfl
theorem dksX2_atom_4 : cX2_atom.data.toList.drop 94 = dktX2_atom_4 := dk_seg dksX2_atom_3 23 rfl rfl
theorem dksX2_atom_5 : cX2_atom.data.toList.drop 117 = dktX2_atom_5 := dk_seg dksX2_atom_4 23 rfl rfl
theorem dX2_atom_0 : decode cX2_atom 0 = .ok (.aload_n 0, 1) := dk_42 (dk_at dksX2_atom_0 0 rfl rfl)
theorem dX2_atom_1 : decode cX2_atom 1 = .ok (.invokevirtual 70, 3) := dk_182 0 70 (dk_at dksX2_atom_0 1 rfl rfl)
theorem dX2_atom_4 : decode cX2_atom 4 = .ok (.istore_n 1, 1) := dk_60 (dk_at dksX2_atom_0 4 rfl rfl)
theorem dX2_atom_5 : decode cX2_atom 5 = .ok (.aload_n 0, 1) := dk_42 (dk_at dksX2_atom_0 5 rfl rfl)
theorem dX2_atom_6 : decode cX2_atom 6 = .ok (.getfield 64, 3) := dk_180 0 64 (dk_at dksX2_atom_0 6 rfl rfl)
theorem dX2_atom_9 : decode cX2_atom 9 = .ok (.istore_n 2, 1) := dk_61 (dk_at dksX2_atom_0 9 rfl rfl)
theorem dX2_atom_10 : decode cX2_atom 10 = .ok (.aload_n 0, 1) := dk_42 (dk_at dksX2_atom_0 10 rfl rfl)
theorem dX2_atom_11 : decode cX2_atom 11 = .ok (.ldc 240, 2) := dk_18 240 (dk_at dksX2_atom_0 11 rfl rfl)
theorem dX2_atom_13 : decode cX2_atom 13 = .ok (.invokevirtual 81, 3) := dk_182 0 81 (dk_at dksX2_atom_0 13 rfl rfl)
theorem dX2_atom_16 : decode cX2_atom 16 = .ok (.istore_n 3, 1) := dk_62 (dk_at dksX2_atom_0 16 rfl rfl)
theorem dX2_atom_17 : decode cX2_atom 17 = .ok (.iload_n 3, 1) := dk_29 (dk_at dksX2_atom_0 17 rfl rfl)
theorem dX2_atom_18 : decode cX2_atom 18 = .ok (.ifCond .ne 14, 3) := dk_154 0 14 (dk_at dksX2_atom_0 18 rfl rfl)
theorem dX2_atom_21 : decode cX2_atom 21 = .ok (.iload_n 1, 1) := dk_27 (dk_at dksX2_atom_0 21 rfl rfl)
theorem dX2_atom_22 : decode cX2_atom 22 = .ok (.bipush 40, 2) := dk_16 40 (dk_at dksX2_atom_0 22 rfl rfl)
theorem dX2_atom_24 : decode cX2_atom 24 = .ok (.if_icmp .eq 8, 3) := dk_159 0 8 (dk_at dksX2_atom_1 0 rfl rfl)
theorem dX2_atom_27 : decode cX2_atom 27 = .ok (.aload_n 0, 1) := dk_42 (dk_at dksX2_atom_1 3 rfl rfl)
theorem dX2_atom_28 : decode cX2_atom 28 = .ok (.invokevirtual 242, 3) := dk_182 0 242 (dk_at dksX2_atom_1 4 rfl rfl)
theorem dX2_atom_31 : decode cX2_atom 31 = .ok (.areturn, 1) := dk_176 (dk_at dksX2_atom_1 7 rfl rfl)
theorem dX2_atom_32 : decode cX2_atom 32 = .ok (.aload_n 0, 1) := dk_42 (dk_at dksX2_atom_1 8 rfl rfl)
theorem dX2_atom_33 : decode cX2_atom 33 = .ok (.getfield 100, 3) := dk_180 0 100 (dk_at dksX2_atom_1 9 rfl rfl)
theorem dX2_atom_36 : decode cX2_atom 36 = .ok (.bipush 6, 2) := dk_16 6 (dk_at dksX2_atom_1 12 rfl rfl)
theorem dX2_atom_38 : decode cX2_atom 38 = .ok (.if_icmp .ne 8, 3) := dk_160 0 8 (dk_at dksX2_atom_1 14 rfl rfl)
theorem dX2_atom_41 : decode cX2_atom 41 = .ok (.aload_n 0, 1) := dk_42 (dk_at dksX2_atom_1 17 rfl rfl)
theorem dX2_atom_42 : decode cX2_atom 42 = .ok (.iload_n 2, 1) := dk_28 (dk_at dksX2_atom_1 18 rfl rfl)
theorem dX2_atom_43 : decode cX2_atom 43 = .ok (.invokevirtual 85, 3) := dk_182 0 85 (dk_at dksX2_atom_1 19 rfl rfl)
theorem dX2_atom_46 : decode cX2_atom 46 = .ok (.aload_n 0, 1) := dk_42 (dk_at dksX2_atom_1 22 rfl rfl)
theorem dX2_atom_47 : decode cX2_atom 47 = .ok (.dup, 1) := dk_89 (dk_at dksX2_atom_1 23 rfl rfl)
theorem dX2_atom_48 : decode cX2_atom 48 = .ok (.getfield 100, 3) := dk_180 0 100 (dk_at dksX2_atom_2 0 rfl rfl)
theorem dX2_atom_51 : decode cX2_atom 51 = .ok (.iconst 1, 1) := dk_4 (dk_at dksX2_atom_2 3 rfl rfl)
theorem dX2_atom_52 : decode cX2_atom 52 = .ok (.iadd, 1) := dk_96 (dk_at dksX2_atom_2 4 rfl rfl)
theorem dX2_atom_53 : decode cX2_atom 53 = .ok (.putfield 100, 3) := dk_181 0 100 (dk_at dksX2_atom_2 5 rfl rfl)
theorem dX2_atom_56 : decode cX2_atom 56 = .ok (.iload_n 3, 1) := dk_29 (dk_at dksX2_atom_2 8 rfl rfl)
theorem dX2_atom_57 : decode cX2_atom 57 = .ok (.ifCond .eq 19, 3) := dk_153 0 19 (dk_at dksX2_atom_2 9 rfl rfl)
theorem dX2_atom_60 : decode cX2_atom 60 = .ok (.new 245, 3) := dk_187 0 245 (dk_at dksX2_atom_2 12 rfl rfl)
theorem dX2_atom_63 : decode cX2_atom 63 = .ok (.dup, 1) := dk_89 (dk_at dksX2_atom_2 15 rfl rfl)
theorem dX2_atom_64 : decode cX2_atom 64 = .ok (.aload_n 0, 1) := dk_42 (dk_at dksX2_atom_2 16 rfl rfl)
theorem dX2_atom_65 : decode cX2_atom 65 = .ok (.invokevirtual 225, 3) := dk_182 0 225 (dk_at dksX2_atom_2 17 rfl rfl)
theorem dX2_atom_68 : decode cX2_atom 68 = .ok (.invokespecial 247, 3) := dk_183 0 247 (dk_at dksX2_atom_2 20 rfl rfl)
theorem dX2_atom_71 : decode cX2_atom 71 = .ok (.astore 4, 2) := dk_58 4 (dk_at dksX2_atom_3 0 rfl rfl)
theorem dX2_atom_73 : decode cX2_atom 73 = .ok (.goto 47, 3) := dk_167 0 47 (dk_at dksX2_atom_3 2 rfl rfl)
theorem dX2_atom_76 : decode cX2_atom 76 = .ok (.aload_n 0, 1) := dk_42 (dk_at dksX2_atom_3 5 rfl rfl)
theorem dX2_atom_77 : decode cX2_atom 77 = .ok (.dup, 1) := dk_89 (dk_at dksX2_atom_3 6 rfl rfl)
theorem dX2_atom_78 : decode cX2_atom 78 = .ok (.getfield 64, 3) := dk_180 0 64 (dk_at dksX2_atom_3 7 rfl rfl)
theorem dX2_atom_81 : decode cX2_atom 81 = .ok (.iconst 1, 1) := dk_4 (dk_at dksX2_atom_3 10 rfl rfl)
theorem dX2_atom_82 : decode cX2_atom 82 = .ok (.iadd, 1) := dk_96 (dk_at dksX2_atom_3 11 rfl rfl)
theorem dX2_atom_83 : decode cX2_atom 83 = .ok (.putfield 64, 3) := dk_181 0 64 (dk_at dksX2_atom_3 12 rfl rfl)
theorem dX2_atom_86 : decode cX2_atom 86 = .ok (.aload_n 0, 1) := dk_42 (dk_at dksX2_atom_3 15 rfl rfl)
theorem dX2_atom_87 : decode cX2_atom 87 = .ok (.iconst 0, 1) := dk_3 (dk_at dksX2_atom_3 16 rfl rfl)
theorem dX2_atom_88 : decode cX2_atom 88 = .ok (.invokevirtual 210, 3) := dk_182 0 210 (dk_at dksX2_atom_3 17 rfl rfl)
theorem dX2_atom_91 : decode cX2_atom 91 = .ok (.astore 4, 2) := dk_58 4 (dk_at dksX2_atom_3 20 rfl rfl)
theorem dX2_atom_93 : decode cX2_atom 93 = .ok (.aload_n 0, 1) := dk_42 (dk_at dksX2_atom_3 22 rfl rfl)
theorem dX2_atom_94 : decode cX2_atom 94 = .ok (.invokevirtual 70, 3) := dk_182 0 70 (dk_at dksX2_atom_4 0 rfl rfl)
theorem dX2_atom_97 : decode cX2_atom 97 = .ok (.bipush 41, 2) := dk_16 41 (dk_at dksX2_atom_4 3 rfl rfl)
theorem dX2_atom_99 : decode cX2_atom 99 = .ok (.if_icmp .eq 11, 3) := dk_159 0 11 (dk_at dksX2_atom_4 5 rfl rfl)
theorem dX2_atom_102 : decode cX2_atom 102 = .ok (.aload_n 0, 1) := dk_42 (dk_at dksX2_atom_4 8 rfl rfl)
theorem dX2_atom_103 : decode cX2_atom 103 = .ok (.aload_n 0, 1) := dk_42 (dk_at dksX2_atom_4 9 rfl rfl)
theorem dX2_atom_104 : decode cX2_atom 104 = .ok (.getfield 64, 3) := dk_180 0 64 (dk_at dksX2_atom_4 10 rfl rfl)
theorem dX2_atom_107 : decode cX2_atom 107 = .ok (.invokevirtual 85, 3) := dk_182 0 85 (dk_at dksX2_atom_4 13 rfl rfl)
theorem dX2_atom_110 : decode cX2_atom 110 = .ok (.aload_n 0, 1) := dk_42 (dk_at dksX2_atom_4 16 rfl rfl)
theorem dX2_atom_111 : decode cX2_atom 111 = .ok (.dup, 1) := dk_89 (dk_at dksX2_atom_4 17 rfl rfl)
theorem dX2_atom_112 : decode cX2_atom 112 = .ok (.getfield 64, 3) := dk_180 0 64 (dk_at dksX2_atom_4 18 rfl rfl)
theorem dX2_atom_115 : decode cX2_atom 115 = .ok (.iconst 1, 1) := dk_4 (dk_at dksX2_atom_4 21 rfl rfl)
theorem dX2_atom_116 : decode cX2_atom 116 = .ok (.iadd, 1) := dk_96 (dk_at dksX2_atom_4 22 rfl rfl)
theorem dX2_atom_117 : decode cX2_atom 117 = .ok (.putfield 64, 3) := dk_181 0 64 (dk_at dksX2_atom_5 0 rfl rfl)
theorem dX2_atom_120 : decode cX2_atom 120 = .ok (.aload_n 0, 1) := dk_42 (dk_at dksX2_atom_5 3 rfl rfl)
theorem dX2_atom_121 : decode cX2_atom 121 = .ok (.dup, 1) := dk_89 (dk_at dksX2_atom_5 4 rfl rfl)
theorem dX2_atom_122 : decode cX2_atom 122 = .ok (.getfield 100, 3) := dk_180 0 100 (dk_at dksX2_atom_5 5 rfl rfl)
theorem dX2_atom_125 : decode cX2_atom 125 = .ok (.iconst 1, 1) := dk_4 (dk_at dksX2_atom_5 8 rfl rfl)
theorem dX2_atom_126 : decode cX2_atom 126 = .ok (.isub, 1) := dk_100 (dk_at dksX2_atom_5 9 rfl rfl)
theorem dX2_atom_127 : decode cX2_atom 127 = .ok (.putfield 100, 3) := dk_181 0 100 (dk_at dksX2_atom_5 10 rfl rfl)
theorem dX2_atom_130 : decode cX2_atom 130 = .ok (.aload 4, 2) := dk_25 4 (dk_at dksX2_atom_5 13 rfl rfl)
theorem dX2_atom_132 : decode cX2_atom 132 = .ok (.areturn, 1) := dk_176 (dk_at dksX2_atom_5 15 rfl rfl)
abbrev cX2_tag : ByteArray := prog_10_method_20_code
def yX2_tag : MethodName := ⟨RX2, "tag", "()LGhostAssize$Cond;"⟩
def dkwX2_tag_4 : List UInt8 := [89, 43, 45, 183, 1, 4, 167, 0, 12, 187, 1, 2, 89, 45, 43, 183, 1, 4, 176]
abbrev dktX2_tag_4 : List UInt8 := dkwX2_tag_4 ++ []
def dkwX2_tag_3 : List UInt8 := [42, 89, 180, 0, 64, 4, 96, 181, 0, 64, 42, 182, 0, 254, 78, 28, 16, 60, 160, 0, 15, 187, 1, 2]
abbrev dktX2_tag_3 : List UInt8 := dkwX2_tag_3 ++ dktX2_tag_4
def dkwX2_tag_2 : List UInt8 := [182, 0, 70, 61, 28, 16, 60, 159, 0, 17, 28, 16, 62, 159, 0, 11, 42, 42, 180, 0, 64, 182, 0, 85]
abbrev dktX2_tag_2 : List UInt8 := dkwX2_tag_2 ++ dktX2_tag_3
def dkwX2_tag_1 : List UInt8 := [187, 0, 250, 89, 16, 6, 27, 96, 183, 0, 252, 176, 132, 1, 1, 167, 255, 219, 42, 182, 0, 254, 76, 42]
abbrev dktX2_tag_1 : List UInt8 := dkwX2_tag_1 ++ dktX2_tag_2
def dkwX2_tag_0 : List UInt8 := [3, 60, 27, 42, 180, 0, 37, 190, 162, 0, 34, 42, 42, 180, 0, 37, 27, 50, 182, 0, 81, 153, 0, 15]
abbrev dktX2_tag_0 : List UInt8 := dkwX2_tag_0 ++ dktX2_tag_1
theorem dksX2_tag_0 : cX2_tag.data.toList.drop 0 = dktX2_tag_0 := by decide +kernel
theorem dksX2_tag_1 : cX2_tag.data.toList.drop 24 = dktX2_tag_1 := dk_seg dksX2_tag_0 24 rfl rfl
theorem dksX2_tag_2 : cX2_tag.data.toList.drop 48 = dktX2_tag_2 := dk_seg dksX2_tag_1 24 rfl rfl
theorem dksX2_tag_3 : cX2_tag.data.toList.drop 72 = dktX2_tag_3 := dk_seg dksX2_tag_2 24 rfl rfl
theorem dksX2_tag_4 : cX2_tag.data.toList.drop 96 = dktX2_tag_4 := dk_seg dksX2_tag_3 24 rfl rfl
theorem dX2_tag_0 : decode cX2_tag 0 = .ok (.iconst 0, 1) := dk_3 (dk_at dksX2_tag_0 0 rfl rfl)
theorem dX2_tag_1 : decode cX2_tag 1 = .ok (.istore_n 1, 1) := dk_60 (dk_at dksX2_tag_0 1 rfl rfl)
theorem dX2_tag_2 : decode cX2_tag 2 = .ok (.iload_n 1, 1) := dk_27 (dk_at dksX2_tag_0 2 rfl rfl)
theorem dX2_tag_3 : decode cX2_tag 3 = .ok (.aload_n 0, 1) := dk_42 (dk_at dksX2_tag_0 3 rfl rfl)
theorem dX2_tag_4 : decode cX2_tag 4 = .ok (.getfield 37, 3) := dk_180 0 37 (dk_at dksX2_tag_0 4 rfl rfl)
theorem dX2_tag_7 : decode cX2_tag 7 = .ok (.arraylength, 1) := dk_190 (dk_at dksX2_tag_0 7 rfl rfl)
theorem dX2_tag_8 : decode cX2_tag 8 = .ok (.if_icmp .ge 34, 3) := dk_162 0 34 (dk_at dksX2_tag_0 8 rfl rfl)
theorem dX2_tag_11 : decode cX2_tag 11 = .ok (.aload_n 0, 1) := dk_42 (dk_at dksX2_tag_0 11 rfl rfl)
theorem dX2_tag_12 : decode cX2_tag 12 = .ok (.aload_n 0, 1) := dk_42 (dk_at dksX2_tag_0 12 rfl rfl)
theorem dX2_tag_13 : decode cX2_tag 13 = .ok (.getfield 37, 3) := dk_180 0 37 (dk_at dksX2_tag_0 13 rfl rfl)
theorem dX2_tag_16 : decode cX2_tag 16 = .ok (.iload_n 1, 1) := dk_27 (dk_at dksX2_tag_0 16 rfl rfl)
theorem dX2_tag_17 : decode cX2_tag 17 = .ok (.aaload, 1) := dk_50 (dk_at dksX2_tag_0 17 rfl rfl)
theorem dX2_tag_18 : decode cX2_tag 18 = .ok (.invokevirtual 81, 3) := dk_182 0 81 (dk_at dksX2_tag_0 18 rfl rfl)
theorem dX2_tag_21 : decode cX2_tag 21 = .ok (.ifCond .eq 15, 3) := dk_153 0 15 (dk_at dksX2_tag_0 21 rfl rfl)
theorem dX2_tag_24 : decode cX2_tag 24 = .ok (.new 250, 3) := dk_187 0 250 (dk_at dksX2_tag_1 0 rfl rfl)
theorem dX2_tag_27 : decode cX2_tag 27 = .ok (.dup, 1) := dk_89 (dk_at dksX2_tag_1 3 rfl rfl)
theorem dX2_tag_28 : decode cX2_tag 28 = .ok (.bipush 6, 2) := dk_16 6 (dk_at dksX2_tag_1 4 rfl rfl)
theorem dX2_tag_30 : decode cX2_tag 30 = .ok (.iload_n 1, 1) := dk_27 (dk_at dksX2_tag_1 6 rfl rfl)
theorem dX2_tag_31 : decode cX2_tag 31 = .ok (.iadd, 1) := dk_96 (dk_at dksX2_tag_1 7 rfl rfl)
theorem dX2_tag_32 : decode cX2_tag 32 = .ok (.invokespecial 252, 3) := dk_183 0 252 (dk_at dksX2_tag_1 8 rfl rfl)
theorem dX2_tag_35 : decode cX2_tag 35 = .ok (.areturn, 1) := dk_176 (dk_at dksX2_tag_1 11 rfl rfl)
theorem dX2_tag_36 : decode cX2_tag 36 = .ok (.iinc 1 1, 3) := dk_132 1 1 (dk_at dksX2_tag_1 12 rfl rfl)
theorem dX2_tag_39 : decode cX2_tag 39 = .ok (.goto (-37), 3) := dk_167 255 219 (dk_at dksX2_tag_1 15 rfl rfl)
theorem dX2_tag_42 : decode cX2_tag 42 = .ok (.aload_n 0, 1) := dk_42 (dk_at dksX2_tag_1 18 rfl rfl)
theorem dX2_tag_43 : decode cX2_tag 43 = .ok (.invokevirtual 254, 3) := dk_182 0 254 (dk_at dksX2_tag_1 19 rfl rfl)
theorem dX2_tag_46 : decode cX2_tag 46 = .ok (.astore_n 1, 1) := dk_76 (dk_at dksX2_tag_1 22 rfl rfl)
theorem dX2_tag_47 : decode cX2_tag 47 = .ok (.aload_n 0, 1) := dk_42 (dk_at dksX2_tag_1 23 rfl rfl)
theorem dX2_tag_48 : decode cX2_tag 48 = .ok (.invokevirtual 70, 3) := dk_182 0 70 (dk_at dksX2_tag_2 0 rfl rfl)
theorem dX2_tag_51 : decode cX2_tag 51 = .ok (.istore_n 2, 1) := dk_61 (dk_at dksX2_tag_2 3 rfl rfl)
theorem dX2_tag_52 : decode cX2_tag 52 = .ok (.iload_n 2, 1) := dk_28 (dk_at dksX2_tag_2 4 rfl rfl)
theorem dX2_tag_53 : decode cX2_tag 53 = .ok (.bipush 60, 2) := dk_16 60 (dk_at dksX2_tag_2 5 rfl rfl)
theorem dX2_tag_55 : decode cX2_tag 55 = .ok (.if_icmp .eq 17, 3) := dk_159 0 17 (dk_at dksX2_tag_2 7 rfl rfl)
theorem dX2_tag_58 : decode cX2_tag 58 = .ok (.iload_n 2, 1) := dk_28 (dk_at dksX2_tag_2 10 rfl rfl)
theorem dX2_tag_59 : decode cX2_tag 59 = .ok (.bipush 62, 2) := dk_16 62 (dk_at dksX2_tag_2 11 rfl rfl)
theorem dX2_tag_61 : decode cX2_tag 61 = .ok (.if_icmp .eq 11, 3) := dk_159 0 11 (dk_at dksX2_tag_2 13 rfl rfl)
theorem dX2_tag_64 : decode cX2_tag 64 = .ok (.aload_n 0, 1) := dk_42 (dk_at dksX2_tag_2 16 rfl rfl)
theorem dX2_tag_65 : decode cX2_tag 65 = .ok (.aload_n 0, 1) := dk_42 (dk_at dksX2_tag_2 17 rfl rfl)
theorem dX2_tag_66 : decode cX2_tag 66 = .ok (.getfield 64, 3) := dk_180 0 64 (dk_at dksX2_tag_2 18 rfl rfl)
theorem dX2_tag_69 : decode cX2_tag 69 = .ok (.invokevirtual 85, 3) := dk_182 0 85 (dk_at dksX2_tag_2 21 rfl rfl)
theorem dX2_tag_72 : decode cX2_tag 72 = .ok (.aload_n 0, 1) := dk_42 (dk_at dksX2_tag_3 0 rfl rfl)
theorem dX2_tag_73 : decode cX2_tag 73 = .ok (.dup, 1) := dk_89 (dk_at dksX2_tag_3 1 rfl rfl)
theorem dX2_tag_74 : decode cX2_tag 74 = .ok (.getfield 64, 3) := dk_180 0 64 (dk_at dksX2_tag_3 2 rfl rfl)
theorem dX2_tag_77 : decode cX2_tag 77 = .ok (.iconst 1, 1) := dk_4 (dk_at dksX2_tag_3 5 rfl rfl)
theorem dX2_tag_78 : decode cX2_tag 78 = .ok (.iadd, 1) := dk_96 (dk_at dksX2_tag_3 6 rfl rfl)
theorem dX2_tag_79 : decode cX2_tag 79 = .ok (.putfield 64, 3) := dk_181 0 64 (dk_at dksX2_tag_3 7 rfl rfl)
theorem dX2_tag_82 : decode cX2_tag 82 = .ok (.aload_n 0, 1) := dk_42 (dk_at dksX2_tag_3 10 rfl rfl)
theorem dX2_tag_83 : decode cX2_tag 83 = .ok (.invokevirtual 254, 3) := dk_182 0 254 (dk_at dksX2_tag_3 11 rfl rfl)
theorem dX2_tag_86 : decode cX2_tag 86 = .ok (.astore_n 3, 1) := dk_78 (dk_at dksX2_tag_3 14 rfl rfl)
theorem dX2_tag_87 : decode cX2_tag 87 = .ok (.iload_n 2, 1) := dk_28 (dk_at dksX2_tag_3 15 rfl rfl)
theorem dX2_tag_88 : decode cX2_tag 88 = .ok (.bipush 60, 2) := dk_16 60 (dk_at dksX2_tag_3 16 rfl rfl)
theorem dX2_tag_90 : decode cX2_tag 90 = .ok (.if_icmp .ne 15, 3) := dk_160 0 15 (dk_at dksX2_tag_3 18 rfl rfl)
theorem dX2_tag_93 : decode cX2_tag 93 = .ok (.new 258, 3) := dk_187 1 2 (dk_at dksX2_tag_3 21 rfl rfl)
theorem dX2_tag_96 : decode cX2_tag 96 = .ok (.dup, 1) := dk_89 (dk_at dksX2_tag_4 0 rfl rfl)
theorem dX2_tag_97 : decode cX2_tag 97 = .ok (.aload_n 1, 1) := dk_43 (dk_at dksX2_tag_4 1 rfl rfl)
theorem dX2_tag_98 : decode cX2_tag 98 = .ok (.aload_n 3, 1) := dk_45 (dk_at dksX2_tag_4 2 rfl rfl)
theorem dX2_tag_99 : decode cX2_tag 99 = .ok (.invokespecial 260, 3) := dk_183 1 4 (dk_at dksX2_tag_4 3 rfl rfl)
theorem dX2_tag_102 : decode cX2_tag 102 = .ok (.goto 12, 3) := dk_167 0 12 (dk_at dksX2_tag_4 6 rfl rfl)
theorem dX2_tag_105 : decode cX2_tag 105 = .ok (.new 258, 3) := dk_187 1 2 (dk_at dksX2_tag_4 9 rfl rfl)
theorem dX2_tag_108 : decode cX2_tag 108 = .ok (.dup, 1) := dk_89 (dk_at dksX2_tag_4 12 rfl rfl)
theorem dX2_tag_109 : decode cX2_tag 109 = .ok (.aload_n 3, 1) := dk_45 (dk_at dksX2_tag_4 13 rfl rfl)
theorem dX2_tag_110 : decode cX2_tag 110 = .ok (.aload_n 1, 1) := dk_43 (dk_at dksX2_tag_4 14 rfl rfl)
theorem dX2_tag_111 : decode cX2_tag 111 = .ok (.invokespecial 260, 3) := dk_183 1 4 (dk_at dksX2_tag_4 15 rfl rfl)
theorem dX2_tag_114 : decode cX2_tag 114 = .ok (.areturn, 1) := dk_176 (dk_at dksX2_tag_4 18 rfl rfl)
abbrev cX2_sum : ByteArray := prog_10_method_21_code
def yX2_sum : MethodName := ⟨RX2, "sum", "()LGhostAssize$Sum;"⟩
def dkwX2_sum_1 : List UInt8 := [180, 0, 64, 4, 96, 181, 0, 64, 42, 43, 182, 1, 10, 167, 255, 232, 43, 176]
abbrev dktX2_sum_1 : List UInt8 := dkwX2_sum_1 ++ []
def dkwX2_sum_0 : List UInt8 := [187, 1, 7, 89, 183, 1, 9, 76, 42, 43, 182, 1, 10, 42, 182, 0, 70, 16, 43, 160, 0, 21, 42, 89]
abbrev dktX2_sum_0 : List UInt8 := dkwX2_sum_0 ++ dktX2_sum_1
theorem dksX2_sum_0 : cX2_sum.data.toList.drop 0 = dktX2_sum_0 := by decide +kernel
theorem dksX2_sum_1 : cX2_sum.data.toList.drop 24 = dktX2_sum_1 := dk_seg dksX2_sum_0 24 rfl rfl
theorem dX2_sum_0 : decode cX2_sum 0 = .ok (.new 263, 3) := dk_187 1 7 (dk_at dksX2_sum_0 0 rfl rfl)
theorem dX2_sum_3 : decode cX2_sum 3 = .ok (.dup, 1) := dk_89 (dk_at dksX2_sum_0 3 rfl rfl)
theorem dX2_sum_4 : decode cX2_sum 4 = .ok (.invokespecial 265, 3) := dk_183 1 9 (dk_at dksX2_sum_0 4 rfl rfl)
theorem dX2_sum_7 : decode cX2_sum 7 = .ok (.astore_n 1, 1) := dk_76 (dk_at dksX2_sum_0 7 rfl rfl)
theorem dX2_sum_8 : decode cX2_sum 8 = .ok (.aload_n 0, 1) := dk_42 (dk_at dksX2_sum_0 8 rfl rfl)
theorem dX2_sum_9 : decode cX2_sum 9 = .ok (.aload_n 1, 1) := dk_43 (dk_at dksX2_sum_0 9 rfl rfl)
theorem dX2_sum_10 : decode cX2_sum 10 = .ok (.invokevirtual 266, 3) := dk_182 1 10 (dk_at dksX2_sum_0 10 rfl rfl)
theorem dX2_sum_13 : decode cX2_sum 13 = .ok (.aload_n 0, 1) := dk_42 (dk_at dksX2_sum_0 13 rfl rfl)
theorem dX2_sum_14 : decode cX2_sum 14 = .ok (.invokevirtual 70, 3) := dk_182 0 70 (dk_at dksX2_sum_0 14 rfl rfl)
theorem dX2_sum_17 : decode cX2_sum 17 = .ok (.bipush 43, 2) := dk_16 43 (dk_at dksX2_sum_0 17 rfl rfl)
theorem dX2_sum_19 : decode cX2_sum 19 = .ok (.if_icmp .ne 21, 3) := dk_160 0 21 (dk_at dksX2_sum_0 19 rfl rfl)
theorem dX2_sum_22 : decode cX2_sum 22 = .ok (.aload_n 0, 1) := dk_42 (dk_at dksX2_sum_0 22 rfl rfl)
theorem dX2_sum_23 : decode cX2_sum 23 = .ok (.dup, 1) := dk_89 (dk_at dksX2_sum_0 23 rfl rfl)
theorem dX2_sum_24 : decode cX2_sum 24 = .ok (.getfield 64, 3) := dk_180 0 64 (dk_at dksX2_sum_1 0 rfl rfl)
theorem dX2_sum_27 : decode cX2_sum 27 = .ok (.iconst 1, 1) := dk_4 (dk_at dksX2_sum_1 3 rfl rfl)
theorem dX2_sum_28 : decode cX2_sum 28 = .ok (.iadd, 1) := dk_96 (dk_at dksX2_sum_1 4 rfl rfl)
theorem dX2_sum_29 : decode cX2_sum 29 = .ok (.putfield 64, 3) := dk_181 0 64 (dk_at dksX2_sum_1 5 rfl rfl)
theorem dX2_sum_32 : decode cX2_sum 32 = .ok (.aload_n 0, 1) := dk_42 (dk_at dksX2_sum_1 8 rfl rfl)
theorem dX2_sum_33 : decode cX2_sum 33 = .ok (.aload_n 1, 1) := dk_43 (dk_at dksX2_sum_1 9 rfl rfl)
theorem dX2_sum_34 : decode cX2_sum 34 = .ok (.invokevirtual 266, 3) := dk_182 1 10 (dk_at dksX2_sum_1 10 rfl rfl)
theorem dX2_sum_37 : decode cX2_sum 37 = .ok (.goto (-24), 3) := dk_167 255 232 (dk_at dksX2_sum_1 13 rfl rfl)
theorem dX2_sum_40 : decode cX2_sum 40 = .ok (.aload_n 1, 1) := dk_43 (dk_at dksX2_sum_1 16 rfl rfl)
theorem dX2_sum_41 : decode cX2_sum 41 = .ok (.areturn, 1) := dk_176 (dk_at dksX2_sum_1 17 rfl rfl)
abbrev cX2_part : ByteArray := prog_10_method_22_code
def yX2_part : MethodName := ⟨RX2, "part", "(LGhostAssize$Sum;)V"⟩
def dkwX2_part_3 : List UInt8 := [180, 0, 64, 182, 0, 85, 177]
abbrev dktX2_part_3 : List UInt8 := dkwX2_part_3 ++ []
def dkwX2_part_2 : List UInt8 := [167, 0, 14, 43, 180, 1, 20, 28, 92, 46, 4, 96, 79, 177, 132, 2, 1, 167, 255, 220, 42, 42]
abbrev dktX2_part_2 : List UInt8 := dkwX2_part_2 ++ dktX2_part_3
def dkwX2_part_1 : List UInt8 := [177, 3, 61, 28, 16, 6, 162, 0, 36, 42, 42, 180, 0, 29, 28, 50, 182, 0, 81, 154, 0, 6]
abbrev dktX2_part_1 : List UInt8 := dkwX2_part_1 ++ dktX2_part_2
def dkwX2_part_0 : List UInt8 := [42, 182, 1, 14, 153, 0, 21, 43, 89, 180, 1, 18, 42, 3, 17, 3, 231, 182, 0, 96, 96, 181, 1, 18]
abbrev dktX2_part_0 : List UInt8 := dkwX2_part_0 ++ dktX2_part_1
theorem dksX2_part_0 : cX2_part.data.toList.drop 0 = dktX2_part_0 := by decide +kernel
theorem dksX2_part_1 : cX2_part.data.toList.drop 24 = dktX2_part_1 := dk_seg dksX2_part_0 24 rfl rfl
theorem dksX2_part_2 : cX2_part.data.toList.drop 46 = dktX2_part_2 := dk_seg dksX2_part_1 22 rfl rfl
theorem dksX2_part_3 : cX2_part.data.toList.drop 68 = dktX2_part_3 := dk_seg dksX2_part_2 22 rfl rfl
theorem dX2_part_0 : decode cX2_part 0 = .ok (.aload_n 0, 1) := dk_42 (dk_at dksX2_part_0 0 rfl rfl)
theorem dX2_part_1 : decode cX2_part 1 = .ok (.invokevirtual 270, 3) := dk_182 1 14 (dk_at dksX2_part_0 1 rfl rfl)
theorem dX2_part_4 : decode cX2_part 4 = .ok (.ifCond .eq 21, 3) := dk_153 0 21 (dk_at dksX2_part_0 4 rfl rfl)
theorem dX2_part_7 : decode cX2_part 7 = .ok (.aload_n 1, 1) := dk_43 (dk_at dksX2_part_0 7 rfl rfl)
theorem dX2_part_8 : decode cX2_part 8 = .ok (.dup, 1) := dk_89 (dk_at dksX2_part_0 8 rfl rfl)
theorem dX2_part_9 : decode cX2_part 9 = .ok (.getfield 274, 3) := dk_180 1 18 (dk_at dksX2_part_0 9 rfl rfl)
theorem dX2_part_12 : decode cX2_part 12 = .ok (.aload_n 0, 1) := dk_42 (dk_at dksX2_part_0 12 rfl rfl)
theorem dX2_part_13 : decode cX2_part 13 = .ok (.iconst 0, 1) := dk_3 (dk_at dksX2_part_0 13 rfl rfl)
theorem dX2_part_14 : decode cX2_part 14 = .ok (.sipush 999, 3) := dk_17 3 231 (dk_at dksX2_part_0 14 rfl rfl)
theorem dX2_part_17 : decode cX2_part 17 = .ok (.invokevirtual 96, 3) := dk_182 0 96 (dk_at dksX2_part_0 17 rfl rfl)
theorem dX2_part_20 : decode cX2_part 20 = .ok (.iadd, 1) := dk_96 (dk_at dksX2_part_0 20 rfl rfl)
theorem dX2_part_21 : decode cX2_part 21 = .ok (.putfield 274, 3) := dk_181 1 18 (dk_at dksX2_part_0 21 rfl rfl)
theorem dX2_part_24 : decode cX2_part 24 = .ok (.return_, 1) := dk_177 (dk_at dksX2_part_1 0 rfl rfl)
theorem dX2_part_25 : decode cX2_part 25 = .ok (.iconst 0, 1) := dk_3 (dk_at dksX2_part_1 1 rfl rfl)
theorem dX2_part_26 : decode cX2_part 26 = .ok (.istore_n 2, 1) := dk_61 (dk_at dksX2_part_1 2 rfl rfl)
theorem dX2_part_27 : decode cX2_part 27 = .ok (.iload_n 2, 1) := dk_28 (dk_at dksX2_part_1 3 rfl rfl)
theorem dX2_part_28 : decode cX2_part 28 = .ok (.bipush 6, 2) := dk_16 6 (dk_at dksX2_part_1 4 rfl rfl)
theorem dX2_part_30 : decode cX2_part 30 = .ok (.if_icmp .ge 36, 3) := dk_162 0 36 (dk_at dksX2_part_1 6 rfl rfl)
theorem dX2_part_33 : decode cX2_part 33 = .ok (.aload_n 0, 1) := dk_42 (dk_at dksX2_part_1 9 rfl rfl)
theorem dX2_part_34 : decode cX2_part 34 = .ok (.aload_n 0, 1) := dk_42 (dk_at dksX2_part_1 10 rfl rfl)
theorem dX2_part_35 : decode cX2_part 35 = .ok (.getfield 29, 3) := dk_180 0 29 (dk_at dksX2_part_1 11 rfl rfl)
theorem dX2_part_38 : decode cX2_part 38 = .ok (.iload_n 2, 1) := dk_28 (dk_at dksX2_part_1 14 rfl rfl)
theorem dX2_part_39 : decode cX2_part 39 = .ok (.aaload, 1) := dk_50 (dk_at dksX2_part_1 15 rfl rfl)
theorem dX2_part_40 : decode cX2_part 40 = .ok (.invokevirtual 81, 3) := dk_182 0 81 (dk_at dksX2_part_1 16 rfl rfl)
theorem dX2_part_43 : decode cX2_part 43 = .ok (.ifCond .ne 6, 3) := dk_154 0 6 (dk_at dksX2_part_1 19 rfl rfl)
theorem dX2_part_46 : decode cX2_part 46 = .ok (.goto 14, 3) := dk_167 0 14 (dk_at dksX2_part_2 0 rfl rfl)
theorem dX2_part_49 : decode cX2_part 49 = .ok (.aload_n 1, 1) := dk_43 (dk_at dksX2_part_2 3 rfl rfl)
theorem dX2_part_50 : decode cX2_part 50 = .ok (.getfield 276, 3) := dk_180 1 20 (dk_at dksX2_part_2 4 rfl rfl)
theorem dX2_part_53 : decode cX2_part 53 = .ok (.iload_n 2, 1) := dk_28 (dk_at dksX2_part_2 7 rfl rfl)
theorem dX2_part_54 : decode cX2_part 54 = .ok (.dup2, 1) := dk_92 (dk_at dksX2_part_2 8 rfl rfl)
theorem dX2_part_55 : decode cX2_part 55 = .ok (.iaload, 1) := dk_46 (dk_at dksX2_part_2 9 rfl rfl)
theorem dX2_part_56 : decode cX2_part 56 = .ok (.iconst 1, 1) := dk_4 (dk_at dksX2_part_2 10 rfl rfl)
theorem dX2_part_57 : decode cX2_part 57 = .ok (.iadd, 1) := dk_96 (dk_at dksX2_part_2 11 rfl rfl)
theorem dX2_part_58 : decode cX2_part 58 = .ok (.iastore, 1) := dk_79 (dk_at dksX2_part_2 12 rfl rfl)
theorem dX2_part_59 : decode cX2_part 59 = .ok (.return_, 1) := dk_177 (dk_at dksX2_part_2 13 rfl rfl)
theorem dX2_part_60 : decode cX2_part 60 = .ok (.iinc 2 1, 3) := dk_132 2 1 (dk_at dksX2_part_2 14 rfl rfl)
theorem dX2_part_63 : decode cX2_part 63 = .ok (.goto (-36), 3) := dk_167 255 220 (dk_at dksX2_part_2 17 rfl rfl)
theorem dX2_part_66 : decode cX2_part 66 = .ok (.aload_n 0, 1) := dk_42 (dk_at dksX2_part_2 20 rfl rfl)
theorem dX2_part_67 : decode cX2_part 67 = .ok (.aload_n 0, 1) := dk_42 (dk_at dksX2_part_2 21 rfl rfl)
theorem dX2_part_68 : decode cX2_part 68 = .ok (.getfield 64, 3) := dk_180 0 64 (dk_at dksX2_part_3 0 rfl rfl)
theorem dX2_part_71 : decode cX2_part 71 = .ok (.invokevirtual 85, 3) := dk_182 0 85 (dk_at dksX2_part_3 3 rfl rfl)
theorem dX2_part_74 : decode cX2_part 74 = .ok (.return_, 1) := dk_177 (dk_at dksX2_part_3 6 rfl rfl)
abbrev cX2_isFigure : ByteArray := prog_10_method_5_code
def yX2_isFigure : MethodName := ⟨RX2, "isFigure", "()Z"⟩
def dkwX2_isFigure_0 : List UInt8 := [42, 182, 0, 70, 60, 27, 16, 48, 161, 0, 13, 27, 16, 57, 163, 0, 7, 4, 167, 0, 4, 3, 172]
abbrev dktX2_isFigure_0 : List UInt8 := dkwX2_isFigure_0 ++ []
theorem dksX2_isFigure_0 : cX2_isFigure.data.toList.drop 0 = dktX2_isFigure_0 := by decide +kernel
theorem dX2_isFigure_0 : decode cX2_isFigure 0 = .ok (.aload_n 0, 1) := dk_42 (dk_at dksX2_isFigure_0 0 rfl rfl)
theorem dX2_isFigure_1 : decode cX2_isFigure 1 = .ok (.invokevirtual 70, 3) := dk_182 0 70 (dk_at dksX2_isFigure_0 1 rfl rfl)
theorem dX2_isFigure_4 : decode cX2_isFigure 4 = .ok (.istore_n 1, 1) := dk_60 (dk_at dksX2_isFigure_0 4 rfl rfl)
theorem dX2_isFigure_5 : decode cX2_isFigure 5 = .ok (.iload_n 1, 1) := dk_27 (dk_at dksX2_isFigure_0 5 rfl rfl)
theorem dX2_isFigure_6 : decode cX2_isFigure 6 = .ok (.bipush 48, 2) := dk_16 48 (dk_at dksX2_isFigure_0 6 rfl rfl)
theorem dX2_isFigure_8 : decode cX2_isFigure 8 = .ok (.if_icmp .lt 13, 3) := dk_161 0 13 (dk_at dksX2_isFigure_0 8 rfl rfl)
theorem dX2_isFigure_11 : decode cX2_isFigure 11 = .ok (.iload_n 1, 1) := dk_27 (dk_at dksX2_isFigure_0 11 rfl rfl)
theorem dX2_isFigure_12 : decode cX2_isFigure 12 = .ok (.bipush 57, 2) := dk_16 57 (dk_at dksX2_isFigure_0 12 rfl rfl)
theorem dX2_isFigure_14 : decode cX2_isFigure 14 = .ok (.if_icmp .gt 7, 3) := dk_163 0 7 (dk_at dksX2_isFigure_0 14 rfl rfl)
theorem dX2_isFigure_17 : decode cX2_isFigure 17 = .ok (.iconst 1, 1) := dk_4 (dk_at dksX2_isFigure_0 17 rfl rfl)
theorem dX2_isFigure_18 : decode cX2_isFigure 18 = .ok (.goto 4, 3) := dk_167 0 4 (dk_at dksX2_isFigure_0 18 rfl rfl)
theorem dX2_isFigure_21 : decode cX2_isFigure 21 = .ok (.iconst 0, 1) := dk_3 (dk_at dksX2_isFigure_0 21 rfl rfl)
theorem dX2_isFigure_22 : decode cX2_isFigure 22 = .ok (.ireturn, 1) := dk_172 (dk_at dksX2_isFigure_0 22 rfl rfl)
theorem q122 : (Jvm.Cond.initialized "GhostAssize$Reader") ∈ lw_all := lw_g (lw_at lw_m1 2 rfl) rfl
theorem q162 : (Jvm.Cond.instantiable "GhostAssize$Reader" (10 : Nat)) ∈ lw_all := lw_g (lw_at lw_m1 42 rfl) rfl
theorem q164 : (Jvm.Cond.instanceMethod ({ cls := "GhostAssize$Reader", name := "<init>", desc := "()V" } : Jvm.MethodName)) ∈ lw_all := lw_g (lw_at lw_m1 44 rfl) rfl
theorem q165 : (Jvm.Cond.code ({ cls := "GhostAssize$Reader", name := "<init>", desc := "()V" } : Jvm.MethodName) prog_10_method_1_code (1 : Nat) (Option.none : Option Jvm.ClassFile.FieldType)) ∈ lw_all := lw_g (lw_at lw_m1 45 rfl) rfl
theorem q166 : (Jvm.Cond.methodLink "GhostAssize$Reader" (3 : Nat) ({ cls := "java/lang/Object", name := "<init>", desc := "()V" } : Jvm.MethodName)) ∈ lw_all := lw_g (lw_at lw_m1 46 rfl) rfl
theorem q167 : (Jvm.Cond.classLink "GhostAssize$Reader" (15 : Nat) "java/lang/String") ∈ lw_all := lw_g (lw_at lw_m1 47 rfl) rfl
theorem q169 : (Jvm.Cond.stringRef "GhostAssize$Reader" (17 : Nat) "prop") ∈ lw_tbl := lw_at lw_m1 49 rfl
theorem q170 : (Jvm.Cond.stringRef "GhostAssize$Reader" (19 : Nat) "slot") ∈ lw_tbl := lw_at lw_m1 50 rfl
theorem q171 : (Jvm.Cond.stringRef "GhostAssize$Reader" (21 : Nat) "jerk") ∈ lw_tbl := lw_at lw_m1 51 rfl
theorem q172 : (Jvm.Cond.stringRef "GhostAssize$Reader" (23 : Nat) "worn") ∈ lw_tbl := lw_at lw_m1 52 rfl
theorem q173 : (Jvm.Cond.stringRef "GhostAssize$Reader" (25 : Nat) "tense") ∈ lw_tbl := lw_at lw_m1 53 rfl
theorem q174 : (Jvm.Cond.stringRef "GhostAssize$Reader" (27 : Nat) "nerve") ∈ lw_tbl := lw_at lw_m1 54 rfl
theorem q175 : (Jvm.Cond.stringRef "GhostAssize$Reader" (33 : Nat) "knows") ∈ lw_tbl := lw_at lw_m1 55 rfl
theorem q176 : (Jvm.Cond.stringRef "GhostAssize$Reader" (35 : Nat) "guilty") ∈ lw_tbl := lw_at lw_m1 56 rfl
theorem q177 : (Jvm.Cond.classLink "GhostAssize$Reader" (40 : Nat) "GhostAssize$Line") ∈ lw_all := lw_g (lw_at lw_m1 57 rfl) rfl
theorem q179 : (Jvm.Cond.classLink "GhostAssize$Reader" (46 : Nat) "GhostAssize$State") ∈ lw_all := lw_g (lw_at lw_m1 59 rfl) rfl
theorem q181 : (Jvm.Cond.methodLink "GhostAssize$Reader" (48 : Nat) ({ cls := "GhostAssize$State", name := "<init>", desc := "()V" } : Jvm.MethodName)) ∈ lw_all := lw_g (lw_at lw_m1 61 rfl) rfl
theorem q197 : (Jvm.Cond.fieldLinkNest "GhostAssize$Reader" (157 : Nat) "GhostAssize$Prop" "deed" "I" "GhostAssize") ∈ lw_tbl := lw_at lw_m1 77 rfl
theorem q201 : (Jvm.Cond.fieldLinkNest "GhostAssize$Reader" (166 : Nat) "GhostAssize$Prop" "jerk" "I" "GhostAssize") ∈ lw_tbl := lw_at lw_m1 81 rfl
theorem q205 : (Jvm.Cond.fieldLinkNest "GhostAssize$Reader" (168 : Nat) "GhostAssize$Prop" "worn" "I" "GhostAssize") ∈ lw_tbl := lw_at lw_m1 85 rfl
theorem q209 : (Jvm.Cond.fieldLinkNest "GhostAssize$Reader" (170 : Nat) "GhostAssize$Prop" "slot" "I" "GhostAssize") ∈ lw_tbl := lw_at lw_m1 89 rfl
theorem q229 : (Jvm.Cond.fieldLinkNest "GhostAssize$Reader" (194 : Nat) "GhostAssize$One" "deeds" "I" "GhostAssize") ∈ lw_tbl := lw_at lw_m1 109 rfl
theorem q234 : (Jvm.Cond.fieldLinkNest "GhostAssize$Reader" (188 : Nat) "GhostAssize$One" "nerve" "I" "GhostAssize") ∈ lw_tbl := lw_at lw_m1 114 rfl
theorem q238 : (Jvm.Cond.fieldLinkNest "GhostAssize$Reader" (197 : Nat) "GhostAssize$One" "knows" "I" "GhostAssize") ∈ lw_tbl := lw_at lw_m1 118 rfl
theorem q242 : (Jvm.Cond.fieldLinkNest "GhostAssize$Reader" (199 : Nat) "GhostAssize$One" "state" "I" "GhostAssize") ∈ lw_tbl := lw_at lw_m1 122 rfl
theorem q255 : (Jvm.Cond.fieldLinkNest "GhostAssize$Reader" (146 : Nat) "GhostAssize$State" "props" "[LGhostAssize$Prop;" "GhostAssize") ∈ lw_tbl := lw_at lw_m1 135 rfl
theorem q258 : (Jvm.Cond.fieldLinkNest "GhostAssize$Reader" (184 : Nat) "GhostAssize$State" "ones" "[LGhostAssize$One;" "GhostAssize") ∈ lw_tbl := lw_at lw_m1 138 rfl
theorem q263 : (Jvm.Cond.fieldLinkNest "GhostAssize$Reader" (173 : Nat) "GhostAssize$State" "slots" "[I" "GhostAssize") ∈ lw_tbl := lw_at lw_m1 143 rfl
theorem q269 : (Jvm.Cond.fieldLinkNest "GhostAssize$Reader" (143 : Nat) "GhostAssize$State" "propMany" "I" "GhostAssize") ∈ lw_tbl := lw_at lw_m1 149 rfl
theorem q272 : (Jvm.Cond.fieldLinkNest "GhostAssize$Reader" (181 : Nat) "GhostAssize$State" "oneMany" "I" "GhostAssize") ∈ lw_tbl := lw_at lw_m1 152 rfl
theorem q278 : (Jvm.Cond.fieldLinkNest "GhostAssize$Reader" (135 : Nat) "GhostAssize$State" "day" "I" "GhostAssize") ∈ lw_tbl := lw_at lw_m1 158 rfl
theorem q281 : (Jvm.Cond.fieldLinkNest "GhostAssize$Reader" (127 : Nat) "GhostAssize$State" "calm" "I" "GhostAssize") ∈ lw_tbl := lw_at lw_m1 161 rfl
theorem q284 : (Jvm.Cond.fieldLinkNest "GhostAssize$Reader" (131 : Nat) "GhostAssize$State" "echo" "I" "GhostAssize") ∈ lw_tbl := lw_at lw_m1 164 rfl
theorem q321 : (Jvm.Cond.classLink "GhostAssize$Reader" (53 : Nat) "GhostAssize$Wrong") ∈ lw_all := lw_g (lw_at lw_m1 201 rfl) rfl
theorem q366 : (Jvm.Cond.methodLink "GhostAssize$Reader" (55 : Nat) ({ cls := "GhostAssize$Wrong", name := "<init>", desc := "()V" } : Jvm.MethodName)) ∈ lw_all := lw_g (lw_at lw_m2 6 rfl) rfl
theorem q378 : (Jvm.Cond.fieldLinkNest "GhostAssize$Reader" (60 : Nat) "GhostAssize$Wrong" "place" "I" "GhostAssize") ∈ lw_tbl := lw_at lw_m2 18 rfl
theorem q395 : (Jvm.Cond.fieldLink "GhostAssize$Reader" (9 : Nat) "GhostAssize$Reader" "tape" "[B") ∈ lw_all := lw_g (lw_at lw_m2 35 rfl) rfl
theorem q397 : (Jvm.Cond.fieldLink "GhostAssize$Reader" (29 : Nat) "GhostAssize$Reader" "words" "[Ljava/lang/String;") ∈ lw_all := lw_g (lw_at lw_m2 37 rfl) rfl
theorem q398 : (Jvm.Cond.fieldLink "GhostAssize$Reader" (37 : Nat) "GhostAssize$Reader" "tags" "[Ljava/lang/String;") ∈ lw_all := lw_g (lw_at lw_m2 38 rfl) rfl
theorem q399 : (Jvm.Cond.fieldLink "GhostAssize$Reader" (42 : Nat) "GhostAssize$Reader" "row" "[LGhostAssize$Line;") ∈ lw_all := lw_g (lw_at lw_m2 39 rfl) rfl
theorem q401 : (Jvm.Cond.fieldLink "GhostAssize$Reader" (49 : Nat) "GhostAssize$Reader" "draft" "LGhostAssize$State;") ∈ lw_all := lw_g (lw_at lw_m2 41 rfl) rfl
theorem q402 : (Jvm.Cond.fieldLink "GhostAssize$Reader" (56 : Nat) "GhostAssize$Reader" "wrong" "LGhostAssize$Wrong;") ∈ lw_all := lw_g (lw_at lw_m2 42 rfl) rfl
theorem q404 : (Jvm.Cond.fieldLink "GhostAssize$Reader" (67 : Nat) "GhostAssize$Reader" "end" "I") ∈ lw_all := lw_g (lw_at lw_m2 44 rfl) rfl
theorem q405 : (Jvm.Cond.fieldLink "GhostAssize$Reader" (64 : Nat) "GhostAssize$Reader" "at" "I") ∈ lw_all := lw_g (lw_at lw_m2 45 rfl) rfl
theorem q406 : (Jvm.Cond.fieldLink "GhostAssize$Reader" (100 : Nat) "GhostAssize$Reader" "deep" "I") ∈ lw_all := lw_g (lw_at lw_m2 46 rfl) rfl
theorem q407 : (Jvm.Cond.laysFinal "GhostAssize$Reader" "GhostAssize$Reader" "tape" "[B") ∈ lw_all := lw_g (lw_at lw_m2 47 rfl) rfl
theorem q408 : (Jvm.Cond.soleField "GhostAssize$Reader" "tape") ∈ lw_all := lw_g (lw_at lw_m2 48 rfl) rfl
theorem q409 : (Jvm.Cond.laysFinal "GhostAssize$Reader" "GhostAssize$Reader" "words" "[Ljava/lang/String;") ∈ lw_all := lw_g (lw_at lw_m2 49 rfl) rfl
theorem q410 : (Jvm.Cond.soleField "GhostAssize$Reader" "words") ∈ lw_all := lw_g (lw_at lw_m2 50 rfl) rfl
theorem q411 : (Jvm.Cond.laysFinal "GhostAssize$Reader" "GhostAssize$Reader" "tags" "[Ljava/lang/String;") ∈ lw_all := lw_g (lw_at lw_m2 51 rfl) rfl
theorem q412 : (Jvm.Cond.soleField "GhostAssize$Reader" "tags") ∈ lw_all := lw_g (lw_at lw_m2 52 rfl) rfl
theorem q413 : (Jvm.Cond.laysFinal "GhostAssize$Reader" "GhostAssize$Reader" "row" "[LGhostAssize$Line;") ∈ lw_all := lw_g (lw_at lw_m2 53 rfl) rfl
theorem q414 : (Jvm.Cond.soleField "GhostAssize$Reader" "row") ∈ lw_all := lw_g (lw_at lw_m2 54 rfl) rfl
theorem q415 : (Jvm.Cond.laysFinal "GhostAssize$Reader" "GhostAssize$Reader" "draft" "LGhostAssize$State;") ∈ lw_all := lw_g (lw_at lw_m2 55 rfl) rfl
theorem q416 : (Jvm.Cond.soleField "GhostAssize$Reader" "draft") ∈ lw_all := lw_g (lw_at lw_m2 56 rfl) rfl
theorem q417 : (Jvm.Cond.laysFinal "GhostAssize$Reader" "GhostAssize$Reader" "wrong" "LGhostAssize$Wrong;") ∈ lw_all := lw_g (lw_at lw_m2 57 rfl) rfl
theorem q418 : (Jvm.Cond.soleField "GhostAssize$Reader" "wrong") ∈ lw_all := lw_g (lw_at lw_m2 58 rfl) rfl
theorem q419 : (Jvm.Cond.lays "GhostAssize$Reader" "GhostAssize$Reader" "size" "I") ∈ lw_all := lw_g (lw_at lw_m2 59 rfl) rfl
theorem q420 : (Jvm.Cond.soleField "GhostAssize$Reader" "size") ∈ lw_all := lw_g (lw_at lw_m2 60 rfl) rfl
theorem q421 : (Jvm.Cond.lays "GhostAssize$Reader" "GhostAssize$Reader" "end" "I") ∈ lw_all := lw_g (lw_at lw_m2 61 rfl) rfl
theorem q422 : (Jvm.Cond.soleField "GhostAssize$Reader" "end") ∈ lw_all := lw_g (lw_at lw_m2 62 rfl) rfl
theorem q423 : (Jvm.Cond.lays "GhostAssize$Reader" "GhostAssize$Reader" "at" "I") ∈ lw_all := lw_g (lw_at lw_m2 63 rfl) rfl
theorem q424 : (Jvm.Cond.soleField "GhostAssize$Reader" "at") ∈ lw_all := lw_g (lw_at lw_m2 64 rfl) rfl
theorem q425 : (Jvm.Cond.lays "GhostAssize$Reader" "GhostAssize$Reader" "deep" "I") ∈ lw_all := lw_g (lw_at lw_m2 65 rfl) rfl
theorem q426 : (Jvm.Cond.soleField "GhostAssize$Reader" "deep") ∈ lw_all := lw_g (lw_at lw_m2 66 rfl) rfl
theorem q427 : (Jvm.Cond.superclass "GhostAssize$Reader" "java/lang/Object") ∈ lw_all := lw_g (lw_at lw_m2 67 rfl) rfl
theorem q797 : (Jvm.Cond.instanceMethod ({ cls := "GhostAssize$Reader", name := "court", desc := "(ILGhostAssize$State;)LGhostAssize$State;" } : Jvm.MethodName)) ∈ lw_all := lw_g (lw_at lw_m3 197 rfl) rfl
theorem q798 : (Jvm.Cond.selects "GhostAssize$Reader" ({ cls := "GhostAssize$Reader", name := "court", desc := "(ILGhostAssize$State;)LGhostAssize$State;" } : Jvm.MethodName) ({ cls := "GhostAssize$Reader", name := "court", desc := "(ILGhostAssize$State;)LGhostAssize$State;" } : Jvm.MethodName)) ∈ lw_all := lw_g (lw_at lw_m3 198 rfl) rfl
theorem q799 : (Jvm.Cond.code ({ cls := "GhostAssize$Reader", name := "court", desc := "(ILGhostAssize$State;)LGhostAssize$State;" } : Jvm.MethodName) prog_10_method_12_code (4 : Nat) (Option.some (Jvm.ClassFile.FieldType.object "GhostAssize$State"))) ∈ lw_all := lw_g (lw_at lw_m3 199 rfl) rfl
theorem q800 : (Jvm.Cond.methodLink "GhostAssize$Reader" (103 : Nat) ({ cls := "GhostAssize$Reader", name := "begins", desc := "(I)V" } : Jvm.MethodName)) ∈ lw_all := lw_g (lw_at lw_m3 200 rfl) rfl
theorem q801 : (Jvm.Cond.privateMethod ({ cls := "GhostAssize$Reader", name := "begins", desc := "(I)V" } : Jvm.MethodName)) ∈ lw_tbl := lw_at lw_m3 201 rfl
theorem q802 : (Jvm.Cond.instanceMethod ({ cls := "GhostAssize$Reader", name := "begins", desc := "(I)V" } : Jvm.MethodName)) ∈ lw_all := lw_g (lw_at lw_m3 202 rfl) rfl
theorem q803 : (Jvm.Cond.code ({ cls := "GhostAssize$Reader", name := "begins", desc := "(I)V" } : Jvm.MethodName) prog_10_method_10_code (2 : Nat) (Option.none : Option Jvm.ClassFile.FieldType)) ∈ lw_all := lw_g (lw_at lw_m3 203 rfl) rfl
theorem q804 : (Jvm.Cond.methodLink "GhostAssize$Reader" (106 : Nat) ({ cls := "GhostAssize$State", name := "be", desc := "(LGhostAssize$State;)V" } : Jvm.MethodName)) ∈ lw_all := lw_g (lw_at lw_m3 204 rfl) rfl
theorem q805 : (Jvm.Cond.methodLink "GhostAssize$Reader" (110 : Nat) ({ cls := "GhostAssize$Reader", name := "more", desc := "(II)Z" } : Jvm.MethodName)) ∈ lw_all := lw_g (lw_at lw_m3 205 rfl) rfl
theorem q806 : (Jvm.Cond.privateMethod ({ cls := "GhostAssize$Reader", name := "more", desc := "(II)Z" } : Jvm.MethodName)) ∈ lw_tbl := lw_at lw_m3 206 rfl
theorem q807 : (Jvm.Cond.instanceMethod ({ cls := "GhostAssize$Reader", name := "more", desc := "(II)Z" } : Jvm.MethodName)) ∈ lw_all := lw_g (lw_at lw_m3 207 rfl) rfl
theorem q808 : (Jvm.Cond.code ({ cls := "GhostAssize$Reader", name := "more", desc := "(II)Z" } : Jvm.MethodName) prog_10_method_11_code (5 : Nat) (Option.some Jvm.ClassFile.FieldType.boolean)) ∈ lw_all := lw_g (lw_at lw_m3 208 rfl) rfl
theorem q809 : (Jvm.Cond.methodLink "GhostAssize$Reader" (70 : Nat) ({ cls := "GhostAssize$Reader", name := "sign", desc := "()I" } : Jvm.MethodName)) ∈ lw_all := lw_g (lw_at lw_m3 209 rfl) rfl
theorem q810 : (Jvm.Cond.privateMethod ({ cls := "GhostAssize$Reader", name := "sign", desc := "()I" } : Jvm.MethodName)) ∈ lw_tbl := lw_at lw_m3 210 rfl
theorem q811 : (Jvm.Cond.instanceMethod ({ cls := "GhostAssize$Reader", name := "sign", desc := "()I" } : Jvm.MethodName)) ∈ lw_all := lw_g (lw_at lw_m3 211 rfl) rfl
theorem q812 : (Jvm.Cond.code ({ cls := "GhostAssize$Reader", name := "sign", desc := "()I" } : Jvm.MethodName) prog_10_method_3_code (1 : Nat) (Option.some Jvm.ClassFile.FieldType.int)) ∈ lw_all := lw_g (lw_at lw_m3 212 rfl) rfl
theorem q813 : (Jvm.Cond.methodLink "GhostAssize$Reader" (85 : Nat) ({ cls := "GhostAssize$Reader", name := "fail", desc := "(I)V" } : Jvm.MethodName)) ∈ lw_all := lw_g (lw_at lw_m3 213 rfl) rfl
theorem q814 : (Jvm.Cond.privateMethod ({ cls := "GhostAssize$Reader", name := "fail", desc := "(I)V" } : Jvm.MethodName)) ∈ lw_tbl := lw_at lw_m3 214 rfl
theorem q815 : (Jvm.Cond.instanceMethod ({ cls := "GhostAssize$Reader", name := "fail", desc := "(I)V" } : Jvm.MethodName)) ∈ lw_all := lw_g (lw_at lw_m3 215 rfl) rfl
theorem q816 : (Jvm.Cond.code ({ cls := "GhostAssize$Reader", name := "fail", desc := "(I)V" } : Jvm.MethodName) prog_10_method_2_code (2 : Nat) (Option.none : Option Jvm.ClassFile.FieldType)) ∈ lw_all := lw_g (lw_at lw_m3 216 rfl) rfl
theorem q817 : (Jvm.Cond.methodLink "GhostAssize$Reader" (114 : Nat) ({ cls := "GhostAssize$Reader", name := "line", desc := "()V" } : Jvm.MethodName)) ∈ lw_all := lw_g (lw_at lw_m3 217 rfl) rfl
theorem q818 : (Jvm.Cond.privateMethod ({ cls := "GhostAssize$Reader", name := "line", desc := "()V" } : Jvm.MethodName)) ∈ lw_tbl := lw_at lw_m3 218 rfl
theorem q819 : (Jvm.Cond.instanceMethod ({ cls := "GhostAssize$Reader", name := "line", desc := "()V" } : Jvm.MethodName)) ∈ lw_all := lw_g (lw_at lw_m3 219 rfl) rfl
theorem q820 : (Jvm.Cond.code ({ cls := "GhostAssize$Reader", name := "line", desc := "()V" } : Jvm.MethodName) prog_10_method_13_code (2 : Nat) (Option.none : Option Jvm.ClassFile.FieldType)) ∈ lw_all := lw_g (lw_at lw_m3 220 rfl) rfl
theorem q821 : (Jvm.Cond.methodLink "GhostAssize$Reader" (81 : Nat) ({ cls := "GhostAssize$Reader", name := "takes", desc := "(Ljava/lang/String;)Z" } : Jvm.MethodName)) ∈ lw_all := lw_g (lw_at lw_m3 221 rfl) rfl
theorem q822 : (Jvm.Cond.privateMethod ({ cls := "GhostAssize$Reader", name := "takes", desc := "(Ljava/lang/String;)Z" } : Jvm.MethodName)) ∈ lw_tbl := lw_at lw_m3 222 rfl
theorem q823 : (Jvm.Cond.instanceMethod ({ cls := "GhostAssize$Reader", name := "takes", desc := "(Ljava/lang/String;)Z" } : Jvm.MethodName)) ∈ lw_all := lw_g (lw_at lw_m3 223 rfl) rfl
theorem q824 : (Jvm.Cond.code ({ cls := "GhostAssize$Reader", name := "takes", desc := "(Ljava/lang/String;)Z" } : Jvm.MethodName) prog_10_method_6_code (6 : Nat) (Option.some Jvm.ClassFile.FieldType.boolean)) ∈ lw_all := lw_g (lw_at lw_m3 224 rfl) rfl
theorem q825 : (Jvm.Cond.methodLink "GhostAssize$Reader" (74 : Nat) ({ cls := "java/lang/String", name := "length", desc := "()I" } : Jvm.MethodName)) ∈ lw_all := lw_g (lw_at lw_m3 225 rfl) rfl
theorem q835 : (Jvm.Cond.methodLink "GhostAssize$Reader" (77 : Nat) ({ cls := "java/lang/String", name := "charAt", desc := "(I)C" } : Jvm.MethodName)) ∈ lw_all := lw_g (lw_at lw_m3 235 rfl) rfl
theorem q873 : (Jvm.Cond.methodLink "GhostAssize$Reader" (117 : Nat) ({ cls := "GhostAssize$Reader", name := "addProp", desc := "(I)V" } : Jvm.MethodName)) ∈ lw_all := lw_g (lw_at lw_m4 33 rfl) rfl
theorem q874 : (Jvm.Cond.privateMethod ({ cls := "GhostAssize$Reader", name := "addProp", desc := "(I)V" } : Jvm.MethodName)) ∈ lw_tbl := lw_at lw_m4 34 rfl
theorem q875 : (Jvm.Cond.instanceMethod ({ cls := "GhostAssize$Reader", name := "addProp", desc := "(I)V" } : Jvm.MethodName)) ∈ lw_all := lw_g (lw_at lw_m4 35 rfl) rfl
theorem q876 : (Jvm.Cond.code ({ cls := "GhostAssize$Reader", name := "addProp", desc := "(I)V" } : Jvm.MethodName) prog_10_method_15_code (5 : Nat) (Option.none : Option Jvm.ClassFile.FieldType)) ∈ lw_all := lw_g (lw_at lw_m4 36 rfl) rfl
theorem q877 : (Jvm.Cond.methodLink "GhostAssize$Reader" (150 : Nat) ({ cls := "GhostAssize$Reader", name := "letters", desc := "(Z)I" } : Jvm.MethodName)) ∈ lw_all := lw_g (lw_at lw_m4 37 rfl) rfl
theorem q878 : (Jvm.Cond.privateMethod ({ cls := "GhostAssize$Reader", name := "letters", desc := "(Z)I" } : Jvm.MethodName)) ∈ lw_tbl := lw_at lw_m4 38 rfl
theorem q879 : (Jvm.Cond.instanceMethod ({ cls := "GhostAssize$Reader", name := "letters", desc := "(Z)I" } : Jvm.MethodName)) ∈ lw_all := lw_g (lw_at lw_m4 39 rfl) rfl
theorem q880 : (Jvm.Cond.code ({ cls := "GhostAssize$Reader", name := "letters", desc := "(Z)I" } : Jvm.MethodName) prog_10_method_14_code (5 : Nat) (Option.some Jvm.ClassFile.FieldType.int)) ∈ lw_all := lw_g (lw_at lw_m4 40 rfl) rfl
theorem q881 : (Jvm.Cond.methodLink "GhostAssize$Reader" (89 : Nat) ({ cls := "GhostAssize$Reader", name := "here", desc := "()I" } : Jvm.MethodName)) ∈ lw_all := lw_g (lw_at lw_m4 41 rfl) rfl
theorem q882 : (Jvm.Cond.privateMethod ({ cls := "GhostAssize$Reader", name := "here", desc := "()I" } : Jvm.MethodName)) ∈ lw_tbl := lw_at lw_m4 42 rfl
theorem q883 : (Jvm.Cond.instanceMethod ({ cls := "GhostAssize$Reader", name := "here", desc := "()I" } : Jvm.MethodName)) ∈ lw_all := lw_g (lw_at lw_m4 43 rfl) rfl
theorem q884 : (Jvm.Cond.code ({ cls := "GhostAssize$Reader", name := "here", desc := "()I" } : Jvm.MethodName) prog_10_method_4_code (2 : Nat) (Option.some Jvm.ClassFile.FieldType.int)) ∈ lw_all := lw_g (lw_at lw_m4 44 rfl) rfl
theorem q885 : (Jvm.Cond.methodLink "GhostAssize$Reader" (137 : Nat) ({ cls := "java/lang/Integer", name := "bitCount", desc := "(I)I" } : Jvm.MethodName)) ∈ lw_all := lw_g (lw_at lw_m4 45 rfl) rfl
theorem q886 : (Jvm.Cond.methodLink "GhostAssize$Reader" (154 : Nat) ({ cls := "java/lang/Integer", name := "numberOfTrailingZeros", desc := "(I)I" } : Jvm.MethodName)) ∈ lw_all := lw_g (lw_at lw_m4 46 rfl) rfl
theorem q890 : (Jvm.Cond.methodLink "GhostAssize$Reader" (162 : Nat) ({ cls := "GhostAssize$Reader", name := "after", desc := "(Ljava/lang/String;II)I" } : Jvm.MethodName)) ∈ lw_all := lw_g (lw_at lw_m4 50 rfl) rfl
theorem q891 : (Jvm.Cond.privateMethod ({ cls := "GhostAssize$Reader", name := "after", desc := "(Ljava/lang/String;II)I" } : Jvm.MethodName)) ∈ lw_tbl := lw_at lw_m4 51 rfl
theorem q892 : (Jvm.Cond.instanceMethod ({ cls := "GhostAssize$Reader", name := "after", desc := "(Ljava/lang/String;II)I" } : Jvm.MethodName)) ∈ lw_all := lw_g (lw_at lw_m4 52 rfl) rfl
theorem q893 : (Jvm.Cond.code ({ cls := "GhostAssize$Reader", name := "after", desc := "(Ljava/lang/String;II)I" } : Jvm.MethodName) prog_10_method_9_code (4 : Nat) (Option.some Jvm.ClassFile.FieldType.int)) ∈ lw_all := lw_g (lw_at lw_m4 53 rfl) rfl
theorem q894 : (Jvm.Cond.methodLink "GhostAssize$Reader" (92 : Nat) ({ cls := "GhostAssize$Reader", name := "expect", desc := "(Ljava/lang/String;)V" } : Jvm.MethodName)) ∈ lw_all := lw_g (lw_at lw_m4 54 rfl) rfl
theorem q895 : (Jvm.Cond.privateMethod ({ cls := "GhostAssize$Reader", name := "expect", desc := "(Ljava/lang/String;)V" } : Jvm.MethodName)) ∈ lw_tbl := lw_at lw_m4 55 rfl
theorem q896 : (Jvm.Cond.instanceMethod ({ cls := "GhostAssize$Reader", name := "expect", desc := "(Ljava/lang/String;)V" } : Jvm.MethodName)) ∈ lw_all := lw_g (lw_at lw_m4 56 rfl) rfl
theorem q897 : (Jvm.Cond.code ({ cls := "GhostAssize$Reader", name := "expect", desc := "(Ljava/lang/String;)V" } : Jvm.MethodName) prog_10_method_7_code (2 : Nat) (Option.none : Option Jvm.ClassFile.FieldType)) ∈ lw_all := lw_g (lw_at lw_m4 57 rfl) rfl
theorem q898 : (Jvm.Cond.methodLink "GhostAssize$Reader" (96 : Nat) ({ cls := "GhostAssize$Reader", name := "number", desc := "(II)I" } : Jvm.MethodName)) ∈ lw_all := lw_g (lw_at lw_m4 58 rfl) rfl
theorem q899 : (Jvm.Cond.privateMethod ({ cls := "GhostAssize$Reader", name := "number", desc := "(II)I" } : Jvm.MethodName)) ∈ lw_tbl := lw_at lw_m4 59 rfl
theorem q900 : (Jvm.Cond.instanceMethod ({ cls := "GhostAssize$Reader", name := "number", desc := "(II)I" } : Jvm.MethodName)) ∈ lw_all := lw_g (lw_at lw_m4 60 rfl) rfl
theorem q901 : (Jvm.Cond.code ({ cls := "GhostAssize$Reader", name := "number", desc := "(II)I" } : Jvm.MethodName) prog_10_method_8_code (5 : Nat) (Option.some Jvm.ClassFile.FieldType.int)) ∈ lw_all := lw_g (lw_at lw_m4 61 rfl) rfl
theorem q902 : (Jvm.Cond.stringRef "GhostAssize$Reader" (172 : Nat) "at") ∈ lw_tbl := lw_at lw_m4 62 rfl
theorem q903 : (Jvm.Cond.methodLink "GhostAssize$Reader" (177 : Nat) ({ cls := "GhostAssize$State", name := "nails", desc := "(II)V" } : Jvm.MethodName)) ∈ lw_all := lw_g (lw_at lw_m4 63 rfl) rfl
theorem q907 : (Jvm.Cond.stringRef "GhostAssize$Reader" (120 : Nat) "accused") ∈ lw_tbl := lw_at lw_m4 67 rfl
theorem q908 : (Jvm.Cond.methodLink "GhostAssize$Reader" (122 : Nat) ({ cls := "GhostAssize$Reader", name := "addOne", desc := "(I)V" } : Jvm.MethodName)) ∈ lw_all := lw_g (lw_at lw_m4 68 rfl) rfl
theorem q909 : (Jvm.Cond.privateMethod ({ cls := "GhostAssize$Reader", name := "addOne", desc := "(I)V" } : Jvm.MethodName)) ∈ lw_tbl := lw_at lw_m4 69 rfl
theorem q910 : (Jvm.Cond.instanceMethod ({ cls := "GhostAssize$Reader", name := "addOne", desc := "(I)V" } : Jvm.MethodName)) ∈ lw_all := lw_g (lw_at lw_m4 70 rfl) rfl
theorem q911 : (Jvm.Cond.code ({ cls := "GhostAssize$Reader", name := "addOne", desc := "(I)V" } : Jvm.MethodName) prog_10_method_16_code (3 : Nat) (Option.none : Option Jvm.ClassFile.FieldType)) ∈ lw_all := lw_g (lw_at lw_m4 71 rfl) rfl
theorem q912 : (Jvm.Cond.stringRef "GhostAssize$Reader" (192 : Nat) "did") ∈ lw_tbl := lw_at lw_m4 72 rfl
theorem q913 : (Jvm.Cond.stringRef "GhostAssize$Reader" (125 : Nat) "calm") ∈ lw_tbl := lw_at lw_m4 73 rfl
theorem q914 : (Jvm.Cond.stringRef "GhostAssize$Reader" (129 : Nat) "echo") ∈ lw_tbl := lw_at lw_m4 74 rfl
theorem q915 : (Jvm.Cond.stringRef "GhostAssize$Reader" (133 : Nat) "day") ∈ lw_tbl := lw_at lw_m4 75 rfl
theorem q967 : (Jvm.Cond.instanceMethod ({ cls := "GhostAssize$Reader", name := "law", desc := "(I)I" } : Jvm.MethodName)) ∈ lw_all := lw_g (lw_at lw_m4 127 rfl) rfl
theorem q968 : (Jvm.Cond.selects "GhostAssize$Reader" ({ cls := "GhostAssize$Reader", name := "law", desc := "(I)I" } : Jvm.MethodName) ({ cls := "GhostAssize$Reader", name := "law", desc := "(I)I" } : Jvm.MethodName)) ∈ lw_all := lw_g (lw_at lw_m4 128 rfl) rfl
theorem q969 : (Jvm.Cond.code ({ cls := "GhostAssize$Reader", name := "law", desc := "(I)I" } : Jvm.MethodName) prog_10_method_17_code (6 : Nat) (Option.some Jvm.ClassFile.FieldType.int)) ∈ lw_all := lw_g (lw_at lw_m4 129 rfl) rfl
theorem q970 : (Jvm.Cond.stringRef "GhostAssize$Reader" (202 : Nat) "fright") ∈ lw_tbl := lw_at lw_m4 130 rfl
theorem q971 : (Jvm.Cond.stringRef "GhostAssize$Reader" (204 : Nat) "ease") ∈ lw_tbl := lw_at lw_m4 131 rfl
theorem q972 : (Jvm.Cond.stringRef "GhostAssize$Reader" (206 : Nat) "wear") ∈ lw_tbl := lw_at lw_m4 132 rfl
theorem q973 : (Jvm.Cond.stringRef "GhostAssize$Reader" (208 : Nat) "if") ∈ lw_tbl := lw_at lw_m4 133 rfl
theorem q974 : (Jvm.Cond.methodLink "GhostAssize$Reader" (210 : Nat) ({ cls := "GhostAssize$Reader", name := "row", desc := "(Z)LGhostAssize$Cond;" } : Jvm.MethodName)) ∈ lw_all := lw_g (lw_at lw_m4 134 rfl) rfl
theorem q975 : (Jvm.Cond.privateMethod ({ cls := "GhostAssize$Reader", name := "row", desc := "(Z)LGhostAssize$Cond;" } : Jvm.MethodName)) ∈ lw_tbl := lw_at lw_m4 135 rfl
theorem q976 : (Jvm.Cond.instanceMethod ({ cls := "GhostAssize$Reader", name := "row", desc := "(Z)LGhostAssize$Cond;" } : Jvm.MethodName)) ∈ lw_all := lw_g (lw_at lw_m4 136 rfl) rfl
theorem q977 : (Jvm.Cond.code ({ cls := "GhostAssize$Reader", name := "row", desc := "(Z)LGhostAssize$Cond;" } : Jvm.MethodName) prog_10_method_18_code (4 : Nat) (Option.some (Jvm.ClassFile.FieldType.object "GhostAssize$Cond"))) ∈ lw_all := lw_g (lw_at lw_m4 137 rfl) rfl
theorem q978 : (Jvm.Cond.classLink "GhostAssize$Reader" (223 : Nat) "GhostAssize$Chain") ∈ lw_all := lw_g (lw_at lw_m4 138 rfl) rfl
theorem q980 : (Jvm.Cond.methodLink "GhostAssize$Reader" (225 : Nat) ({ cls := "GhostAssize$Reader", name := "atom", desc := "()LGhostAssize$Cond;" } : Jvm.MethodName)) ∈ lw_all := lw_g (lw_at lw_m4 140 rfl) rfl
theorem q981 : (Jvm.Cond.privateMethod ({ cls := "GhostAssize$Reader", name := "atom", desc := "()LGhostAssize$Cond;" } : Jvm.MethodName)) ∈ lw_tbl := lw_at lw_m4 141 rfl
theorem q982 : (Jvm.Cond.instanceMethod ({ cls := "GhostAssize$Reader", name := "atom", desc := "()LGhostAssize$Cond;" } : Jvm.MethodName)) ∈ lw_all := lw_g (lw_at lw_m4 142 rfl) rfl
theorem q983 : (Jvm.Cond.code ({ cls := "GhostAssize$Reader", name := "atom", desc := "()LGhostAssize$Cond;" } : Jvm.MethodName) prog_10_method_19_code (5 : Nat) (Option.some (Jvm.ClassFile.FieldType.object "GhostAssize$Cond"))) ∈ lw_all := lw_g (lw_at lw_m4 143 rfl) rfl
theorem q984 : (Jvm.Cond.stringRef "GhostAssize$Reader" (240 : Nat) "not") ∈ lw_tbl := lw_at lw_m4 144 rfl
theorem q985 : (Jvm.Cond.methodLink "GhostAssize$Reader" (242 : Nat) ({ cls := "GhostAssize$Reader", name := "tag", desc := "()LGhostAssize$Cond;" } : Jvm.MethodName)) ∈ lw_all := lw_g (lw_at lw_m4 145 rfl) rfl
theorem q986 : (Jvm.Cond.privateMethod ({ cls := "GhostAssize$Reader", name := "tag", desc := "()LGhostAssize$Cond;" } : Jvm.MethodName)) ∈ lw_tbl := lw_at lw_m4 146 rfl
theorem q987 : (Jvm.Cond.instanceMethod ({ cls := "GhostAssize$Reader", name := "tag", desc := "()LGhostAssize$Cond;" } : Jvm.MethodName)) ∈ lw_all := lw_g (lw_at lw_m4 147 rfl) rfl
theorem q988 : (Jvm.Cond.code ({ cls := "GhostAssize$Reader", name := "tag", desc := "()LGhostAssize$Cond;" } : Jvm.MethodName) prog_10_method_20_code (4 : Nat) (Option.some (Jvm.ClassFile.FieldType.object "GhostAssize$Cond"))) ∈ lw_all := lw_g (lw_at lw_m4 148 rfl) rfl
theorem q989 : (Jvm.Cond.classLink "GhostAssize$Reader" (250 : Nat) "GhostAssize$Tag") ∈ lw_all := lw_g (lw_at lw_m4 149 rfl) rfl
theorem q991 : (Jvm.Cond.methodLink "GhostAssize$Reader" (252 : Nat) ({ cls := "GhostAssize$Tag", name := "<init>", desc := "(I)V" } : Jvm.MethodName)) ∈ lw_all := lw_g (lw_at lw_m4 151 rfl) rfl
theorem q999 : (Jvm.Cond.methodLink "GhostAssize$Reader" (254 : Nat) ({ cls := "GhostAssize$Reader", name := "sum", desc := "()LGhostAssize$Sum;" } : Jvm.MethodName)) ∈ lw_all := lw_g (lw_at lw_m4 159 rfl) rfl
theorem q1000 : (Jvm.Cond.privateMethod ({ cls := "GhostAssize$Reader", name := "sum", desc := "()LGhostAssize$Sum;" } : Jvm.MethodName)) ∈ lw_tbl := lw_at lw_m4 160 rfl
theorem q1001 : (Jvm.Cond.instanceMethod ({ cls := "GhostAssize$Reader", name := "sum", desc := "()LGhostAssize$Sum;" } : Jvm.MethodName)) ∈ lw_all := lw_g (lw_at lw_m4 161 rfl) rfl
theorem q1002 : (Jvm.Cond.code ({ cls := "GhostAssize$Reader", name := "sum", desc := "()LGhostAssize$Sum;" } : Jvm.MethodName) prog_10_method_21_code (2 : Nat) (Option.some (Jvm.ClassFile.FieldType.object "GhostAssize$Sum"))) ∈ lw_all := lw_g (lw_at lw_m4 162 rfl) rfl
theorem q1003 : (Jvm.Cond.classLink "GhostAssize$Reader" (263 : Nat) "GhostAssize$Sum") ∈ lw_all := lw_g (lw_at lw_m4 163 rfl) rfl
theorem q1005 : (Jvm.Cond.methodLinkNest "GhostAssize$Reader" (265 : Nat) ({ cls := "GhostAssize$Sum", name := "<init>", desc := "()V" } : Jvm.MethodName) "GhostAssize") ∈ lw_tbl := lw_at lw_m4 165 rfl
theorem q1010 : (Jvm.Cond.fieldLinkNest "GhostAssize$Reader" (276 : Nat) "GhostAssize$Sum" "times" "[I" "GhostAssize") ∈ lw_tbl := lw_at lw_m4 170 rfl
theorem q1012 : (Jvm.Cond.fieldLinkNest "GhostAssize$Reader" (274 : Nat) "GhostAssize$Sum" "number" "I" "GhostAssize") ∈ lw_tbl := lw_at lw_m4 172 rfl
theorem q1018 : (Jvm.Cond.methodLink "GhostAssize$Reader" (266 : Nat) ({ cls := "GhostAssize$Reader", name := "part", desc := "(LGhostAssize$Sum;)V" } : Jvm.MethodName)) ∈ lw_all := lw_g (lw_at lw_m4 178 rfl) rfl
theorem q1019 : (Jvm.Cond.privateMethod ({ cls := "GhostAssize$Reader", name := "part", desc := "(LGhostAssize$Sum;)V" } : Jvm.MethodName)) ∈ lw_tbl := lw_at lw_m4 179 rfl
theorem q1020 : (Jvm.Cond.instanceMethod ({ cls := "GhostAssize$Reader", name := "part", desc := "(LGhostAssize$Sum;)V" } : Jvm.MethodName)) ∈ lw_all := lw_g (lw_at lw_m4 180 rfl) rfl
theorem q1021 : (Jvm.Cond.code ({ cls := "GhostAssize$Reader", name := "part", desc := "(LGhostAssize$Sum;)V" } : Jvm.MethodName) prog_10_method_22_code (3 : Nat) (Option.none : Option Jvm.ClassFile.FieldType)) ∈ lw_all := lw_g (lw_at lw_m4 181 rfl) rfl
theorem q1022 : (Jvm.Cond.methodLink "GhostAssize$Reader" (270 : Nat) ({ cls := "GhostAssize$Reader", name := "isFigure", desc := "()Z" } : Jvm.MethodName)) ∈ lw_all := lw_g (lw_at lw_m4 182 rfl) rfl
theorem q1023 : (Jvm.Cond.privateMethod ({ cls := "GhostAssize$Reader", name := "isFigure", desc := "()Z" } : Jvm.MethodName)) ∈ lw_tbl := lw_at lw_m4 183 rfl
theorem q1024 : (Jvm.Cond.instanceMethod ({ cls := "GhostAssize$Reader", name := "isFigure", desc := "()Z" } : Jvm.MethodName)) ∈ lw_all := lw_g (lw_at lw_m4 184 rfl) rfl
theorem q1025 : (Jvm.Cond.code ({ cls := "GhostAssize$Reader", name := "isFigure", desc := "()Z" } : Jvm.MethodName) prog_10_method_5_code (2 : Nat) (Option.some Jvm.ClassFile.FieldType.boolean)) ∈ lw_all := lw_g (lw_at lw_m4 185 rfl) rfl
theorem q1026 : (Jvm.Cond.classLink "GhostAssize$Reader" (258 : Nat) "GhostAssize$Less") ∈ lw_all := lw_g (lw_at lw_m4 186 rfl) rfl
theorem q1028 : (Jvm.Cond.methodLink "GhostAssize$Reader" (260 : Nat) ({ cls := "GhostAssize$Less", name := "<init>", desc := "(LGhostAssize$Sum;LGhostAssize$Sum;)V" } : Jvm.MethodName)) ∈ lw_all := lw_g (lw_at lw_m4 188 rfl) rfl
theorem q1039 : (Jvm.Cond.classLink "GhostAssize$Reader" (245 : Nat) "GhostAssize$Not") ∈ lw_all := lw_g (lw_at lw_m4 199 rfl) rfl
theorem q1041 : (Jvm.Cond.methodLink "GhostAssize$Reader" (247 : Nat) ({ cls := "GhostAssize$Not", name := "<init>", desc := "(LGhostAssize$Cond;)V" } : Jvm.MethodName)) ∈ lw_all := lw_g (lw_at lw_m4 201 rfl) rfl
theorem q1049 : (Jvm.Cond.methodLink "GhostAssize$Reader" (229 : Nat) ({ cls := "GhostAssize$Chain", name := "<init>", desc := "(LGhostAssize$Cond;Z)V" } : Jvm.MethodName)) ∈ lw_all := lw_g (lw_at lw_m4 209 rfl) rfl
theorem q1056 : (Jvm.Cond.fieldLinkNest "GhostAssize$Reader" (236 : Nat) "GhostAssize$Chain" "next" "LGhostAssize$Chain;" "GhostAssize") ∈ lw_tbl := lw_at lw_m4 216 rfl
theorem q1064 : (Jvm.Cond.stringRef "GhostAssize$Reader" (232 : Nat) "and") ∈ lw_tbl := lw_at lw_m4 224 rfl
theorem q1065 : (Jvm.Cond.stringRef "GhostAssize$Reader" (234 : Nat) "or") ∈ lw_tbl := lw_at lw_m4 225 rfl
theorem q1066 : (Jvm.Cond.classLink "GhostAssize$Reader" (213 : Nat) "GhostAssize$Wears") ∈ lw_all := lw_g (lw_at lw_m4 226 rfl) rfl
theorem q1068 : (Jvm.Cond.methodLink "GhostAssize$Reader" (215 : Nat) ({ cls := "GhostAssize$Wears", name := "<init>", desc := "(ILGhostAssize$Cond;)V" } : Jvm.MethodName)) ∈ lw_all := lw_g (lw_at lw_m4 228 rfl) rfl
theorem q1082 : (Jvm.Cond.classLink "GhostAssize$Reader" (218 : Nat) "GhostAssize$Frights") ∈ lw_all := lw_g (lw_at lw_m5 2 rfl) rfl
theorem q1084 : (Jvm.Cond.methodLink "GhostAssize$Reader" (220 : Nat) ({ cls := "GhostAssize$Frights", name := "<init>", desc := "(ILGhostAssize$Cond;Z)V" } : Jvm.MethodName)) ∈ lw_all := lw_g (lw_at lw_m5 4 rfl) rfl
theorem q2105 : (Jvm.Cond.castable "GhostAssize$Reader" "java/lang/Object") ∈ lw_tbl := lw_at lw_m9 65 rfl
theorem in_X2 : ∀ w ∈ wsX20, w ∈ lw_all := lw_in wsX20 [407, 409, 411, 413, 415, 417, 419, 421, 423, 425] (by decide +kernel) (by decide +kernel)

/-! GhostAssize$State -/
set_option maxRecDepth 100000
def RX3 : String := "GhostAssize$State"
def TX3 : u_T := fun k => match k with
  | 0 => ("GhostAssize$State", "props", "[LGhostAssize$Prop;", true)
  | 1 => ("GhostAssize$State", "ones", "[LGhostAssize$One;", true)
  | 2 => ("GhostAssize$State", "law", "[LGhostAssize$Line;", true)
  | 3 => ("GhostAssize$State", "slots", "[I", true)
  | 4 => ("GhostAssize$State", "facts", "[I", true)
  | 5 => ("GhostAssize$State", "rows", "[I", true)
  | 6 => ("GhostAssize$State", "propMany", "I", false)
  | 7 => ("GhostAssize$State", "oneMany", "I", false)
  | 8 => ("GhostAssize$State", "lawMany", "I", false)
  | 9 => ("GhostAssize$State", "texts", "I", false)
  | 10 => ("GhostAssize$State", "day", "I", false)
  | 11 => ("GhostAssize$State", "calm", "I", false)
  | 12 => ("GhostAssize$State", "echo", "I", false)
  | 13 => ("GhostAssize$State", "seed", "I", false)
  | _ => ("GhostAssize$State", "rowMany", "I", false)
def tyX3 : Nat → FieldType := fun k => match k with
  | 0 => .array (.object "GhostAssize$Prop")
  | 1 => .array (.object "GhostAssize$One")
  | 2 => .array (.object "GhostAssize$Line")
  | 3 => .array .int
  | 4 => .array .int
  | 5 => .array .int
  | 6 => .int
  | 7 => .int
  | 8 => .int
  | 9 => .int
  | 10 => .int
  | 11 => .int
  | 12 => .int
  | 13 => .int
  | _ => .int
abbrev wsX30 : List Cond := u_ws RX3 TX3 15
set_option maxRecDepth 100000 in
theorem nmX3 : ∀ a, a < 15 → ∀ b, b < 15 → a ≠ b → (TX3 a).2.1 ≠ (TX3 b).2.1 := by decide +kernel
set_option maxRecDepth 100000 in
theorem tyX3_ok : ∀ k, k < 15 → parseFieldDescriptor (TX3 k).2.2.1 = some (tyX3 k) := by decide +kernel
abbrev cX3_init : ByteArray := prog_11_method_1_code
def yX3_init : MethodName := ⟨RX3, "<init>", "()V"⟩
def dkwX3_init_6 : List UInt8 := [180, 0, 29, 27, 2, 79, 132, 1, 1, 167, 255, 240, 177]
abbrev dktX3_init_6 : List UInt8 := dkwX3_init_6 ++ []
def dkwX3_init_5 : List UInt8 := [187, 0, 17, 89, 183, 0, 53, 83, 132, 1, 1, 167, 255, 234, 3, 60, 27, 16, 10, 162, 0, 16, 42]
abbrev dktX3_init_5 : List UInt8 := dkwX3_init_5 ++ dktX3_init_6
def dkwX3_init_4 : List UInt8 := [89, 183, 0, 52, 83, 132, 1, 1, 167, 255, 234, 3, 60, 27, 16, 6, 162, 0, 22, 42, 180, 0, 19, 27]
abbrev dktX3_init_4 : List UInt8 := dkwX3_init_4 ++ dktX3_init_5
def dkwX3_init_3 : List UInt8 := [181, 0, 46, 42, 4, 181, 0, 49, 3, 60, 27, 16, 8, 162, 0, 22, 42, 180, 0, 11, 27, 187, 0, 9]
abbrev dktX3_init_3 : List UInt8 := dkwX3_init_3 ++ dktX3_init_4
def dkwX3_init_2 : List UInt8 := [42, 17, 0, 240, 188, 10, 181, 0, 36, 42, 2, 181, 0, 39, 42, 5, 181, 0, 43, 42, 16, 10]
abbrev dktX3_init_2 : List UInt8 := dkwX3_init_2 ++ dktX3_init_3
def dkwX3_init_1 : List UInt8 := [16, 12, 189, 0, 23, 181, 0, 25, 42, 16, 10, 188, 10, 181, 0, 29, 42, 16, 8, 188, 10, 181, 0, 33]
abbrev dktX3_init_1 : List UInt8 := dkwX3_init_1 ++ dktX3_init_2
def dkwX3_init_0 : List UInt8 := [42, 183, 0, 3, 42, 16, 8, 189, 0, 9, 181, 0, 11, 42, 16, 6, 189, 0, 17, 181, 0, 19, 42]
abbrev dktX3_init_0 : List UInt8 := dkwX3_init_0 ++ dktX3_init_1
theorem dksX3_init_0 : cX3_init.data.toList.drop 0 = dktX3_init_0 := by decide +kernel
theorem dksX3_init_1 : cX3_init.data.toList.drop 23 = dktX3_init_1 := dk_seg dksX3_init_0 23 rfl rfl
theorem dksX3_init_2 : cX3_init.data.toList.drop 47 = dktX3_init_2 := dk_seg dksX3_init_1 24 rfl rfl
theorem dksX3_init_3 : cX3_init.data.toList.drop 69 = dktX3_init_3 := dk_seg dksX3_init_2 22 rfl rfl
theorem dksX3_init_4 : cX3_init.data.toList.drop 93 = dktX3_init_4 := dk_seg dksX3_init_3 24 rfl rfl
theorem dksX3_init_5 : cX3_init.data.toList.drop 117 = dktX3_init_5 := dk_seg dksX3_init_4 24 rfl rfl
theorem dksX3_init_6 : cX3_init.data.toList.drop 140 = dktX3_init_6 := dk_seg dksX3_init_5 23 rfl rfl
theorem dX3_init_0 : decode cX3_init 0 = .ok (.aload_n 0, 1) := dk_42 (dk_at dksX3_init_0 0 rfl rfl)
theorem dX3_init_1 : decode cX3_init 1 = .ok (.invokespecial 3, 3) := dk_183 0 3 (dk_at dksX3_init_0 1 rfl rfl)
theorem dX3_init_4 : decode cX3_init 4 = .ok (.aload_n 0, 1) := dk_42 (dk_at dksX3_init_0 4 rfl rfl)
theorem dX3_init_5 : decode cX3_init 5 = .ok (.bipush 8, 2) := dk_16 8 (dk_at dksX3_init_0 5 rfl rfl)
theorem dX3_init_7 : decode cX3_init 7 = .ok (.anewarray 9, 3) := dk_189 0 9 (dk_at dksX3_init_0 7 rfl rfl)
theorem dX3_init_10 : decode cX3_init 10 = .ok (.putfield 11, 3) := dk_181 0 11 (dk_at dksX3_init_0 10 rfl rfl)
theorem dX3_init_13 : decode cX3_init 13 = .ok (.aload_n 0, 1) := dk_42 (dk_at dksX3_init_0 13 rfl rfl)
theorem dX3_init_14 : decode cX3_init 14 = .ok (.bipush 6, 2) := dk_16 6 (dk_at dksX3_init_0 14 rfl rfl)
theorem dX3_init_16 : decode cX3_init 16 = .ok (.anewarray 17, 3) := dk_189 0 17 (dk_at dksX3_init_0 16 rfl rfl)
theorem dX3_init_19 : decode cX3_init 19 = .ok (.putfield 19, 3) := dk_181 0 19 (dk_at dksX3_init_0 19 rfl rfl)
theorem dX3_init_22 : decode cX3_init 22 = .ok (.aload_n 0, 1) := dk_42 (dk_at dksX3_init_0 22 rfl rfl)
theorem dX3_init_23 : decode cX3_init 23 = .ok (.bipush 12, 2) := dk_16 12 (dk_at dksX3_init_1 0 rfl rfl)
theorem dX3_init_25 : decode cX3_init 25 = .ok (.anewarray 23, 3) := dk_189 0 23 (dk_at dksX3_init_1 2 rfl rfl)
theorem dX3_init_28 : decode cX3_init 28 = .ok (.putfield 25, 3) := dk_181 0 25 (dk_at dksX3_init_1 5 rfl rfl)
theorem dX3_init_31 : decode cX3_init 31 = .ok (.aload_n 0, 1) := dk_42 (dk_at dksX3_init_1 8 rfl rfl)
theorem dX3_init_32 : decode cX3_init 32 = .ok (.bipush 10, 2) := dk_16 10 (dk_at dksX3_init_1 9 rfl rfl)
theorem dX3_init_34 : decode cX3_init 34 = .ok (.newarray .int, 2) := dk_188_10 (dk_at dksX3_init_1 11 rfl rfl)
theorem dX3_init_36 : decode cX3_init 36 = .ok (.putfield 29, 3) := dk_181 0 29 (dk_at dksX3_init_1 13 rfl rfl)
theorem dX3_init_39 : decode cX3_init 39 = .ok (.aload_n 0, 1) := dk_42 (dk_at dksX3_init_1 16 rfl rfl)
theorem dX3_init_40 : decode cX3_init 40 = .ok (.bipush 8, 2) := dk_16 8 (dk_at dksX3_init_1 17 rfl rfl)
theorem dX3_init_42 : decode cX3_init 42 = .ok (.newarray .int, 2) := dk_188_10 (dk_at dksX3_init_1 19 rfl rfl)
theorem dX3_init_44 : decode cX3_init 44 = .ok (.putfield 33, 3) := dk_181 0 33 (dk_at dksX3_init_1 21 rfl rfl)
theorem dX3_init_47 : decode cX3_init 47 = .ok (.aload_n 0, 1) := dk_42 (dk_at dksX3_init_2 0 rfl rfl)
theorem dX3_init_48 : decode cX3_init 48 = .ok (.sipush 240, 3) := dk_17 0 240 (dk_at dksX3_init_2 1 rfl rfl)
theorem dX3_init_51 : decode cX3_init 51 = .ok (.newarray .int, 2) := dk_188_10 (dk_at dksX3_init_2 4 rfl rfl)
theorem dX3_init_53 : decode cX3_init 53 = .ok (.putfield 36, 3) := dk_181 0 36 (dk_at dksX3_init_2 6 rfl rfl)
theorem dX3_init_56 : decode cX3_init 56 = .ok (.aload_n 0, 1) := dk_42 (dk_at dksX3_init_2 9 rfl rfl)
theorem dX3_init_57 : decode cX3_init 57 = .ok (.iconst (-1), 1) := dk_2 (dk_at dksX3_init_2 10 rfl rfl)
theorem dX3_init_58 : decode cX3_init 58 = .ok (.putfield 39, 3) := dk_181 0 39 (dk_at dksX3_init_2 11 rfl rfl)
theorem dX3_init_61 : decode cX3_init 61 = .ok (.aload_n 0, 1) := dk_42 (dk_at dksX3_init_2 14 rfl rfl)
theorem dX3_init_62 : decode cX3_init 62 = .ok (.iconst 2, 1) := dk_5 (dk_at dksX3_init_2 15 rfl rfl)
theorem dX3_init_63 : decode cX3_init 63 = .ok (.putfield 43, 3) := dk_181 0 43 (dk_at dksX3_init_2 16 rfl rfl)
theorem dX3_init_66 : decode cX3_init 66 = .ok (.aload_n 0, 1) := dk_42 (dk_at dksX3_init_2 19 rfl rfl)
theorem dX3_init_67 : decode cX3_init 67 = .ok (.bipush 10, 2) := dk_16 10 (dk_at dksX3_init_2 20 rfl rfl)
theorem dX3_init_69 : decode cX3_init 69 = .ok (.putfield 46, 3) := dk_181 0 46 (dk_at dksX3_init_3 0 rfl rfl)
theorem dX3_init_72 : decode cX3_init 72 = .ok (.aload_n 0, 1) := dk_42 (dk_at dksX3_init_3 3 rfl rfl)
theorem dX3_init_73 : decode cX3_init 73 = .ok (.iconst 1, 1) := dk_4 (dk_at dksX3_init_3 4 rfl rfl)
theorem dX3_init_74 : decode cX3_init 74 = .ok (.putfield 49, 3) := dk_181 0 49 (dk_at dksX3_init_3 5 rfl rfl)
theorem dX3_init_77 : decode cX3_init 77 = .ok (.iconst 0, 1) := dk_3 (dk_at dksX3_init_3 8 rfl rfl)
theorem dX3_init_78 : decode cX3_init 78 = .ok (.istore_n 1, 1) := dk_60 (dk_at dksX3_init_3 9 rfl rfl)
theorem dX3_init_79 : decode cX3_init 79 = .ok (.iload_n 1, 1) := dk_27 (dk_at dksX3_init_3 10 rfl rfl)
theorem dX3_init_80 : decode cX3_init 80 = .ok (.bipush 8, 2) := dk_16 8 (dk_at dksX3_init_3 11 rfl rfl)
theorem dX3_init_82 : decode cX3_init 82 = .ok (.if_icmp .ge 22, 3) := dk_162 0 22 (dk_at dksX3_init_3 13 rfl rfl)
theorem dX3_init_85 : decode cX3_init 85 = .ok (.aload_n 0, 1) := dk_42 (dk_at dksX3_init_3 16 rfl rfl)
theorem dX3_init_86 : decode cX3_init 86 = .ok (.getfield 11, 3) := dk_180 0 11 (dk_at dksX3_init_3 17 rfl rfl)
theorem dX3_init_89 : decode cX3_init 89 = .ok (.iload_n 1, 1) := dk_27 (dk_at dksX3_init_3 20 rfl rfl)
theorem dX3_init_90 : decode cX3_init 90 = .ok (.new 9, 3) := dk_187 0 9 (dk_at dksX3_init_3 21 rfl rfl)
theorem dX3_init_93 : decode cX3_init 93 = .ok (.dup, 1) := dk_89 (dk_at dksX3_init_4 0 rfl rfl)
theorem dX3_init_94 : decode cX3_init 94 = .ok (.invokespecial 52, 3) := dk_183 0 52 (dk_at dksX3_init_4 1 rfl rfl)
theorem dX3_init_97 : decode cX3_init 97 = .ok (.aastore, 1) := dk_83 (dk_at dksX3_init_4 4 rfl rfl)
theorem dX3_init_98 : decode cX3_init 98 = .ok (.iinc 1 1, 3) := dk_132 1 1 (dk_at dksX3_init_4 5 rfl rfl)
theorem dX3_init_101 : decode cX3_init 101 = .ok (.goto (-22), 3) := dk_167 255 234 (dk_at dksX3_init_4 8 rfl rfl)
theorem dX3_init_104 : decode cX3_init 104 = .ok (.iconst 0, 1) := dk_3 (dk_at dksX3_init_4 11 rfl rfl)
theorem dX3_init_105 : decode cX3_init 105 = .ok (.istore_n 1, 1) := dk_60 (dk_at dksX3_init_4 12 rfl rfl)
theorem dX3_init_106 : decode cX3_init 106 = .ok (.iload_n 1, 1) := dk_27 (dk_at dksX3_init_4 13 rfl rfl)
theorem dX3_init_107 : decode cX3_init 107 = .ok (.bipush 6, 2) := dk_16 6 (dk_at dksX3_init_4 14 rfl rfl)
theorem dX3_init_109 : decode cX3_init 109 = .ok (.if_icmp .ge 22, 3) := dk_162 0 22 (dk_at dksX3_init_4 16 rfl rfl)
theorem dX3_init_112 : decode cX3_init 112 = .ok (.aload_n 0, 1) := dk_42 (dk_at dksX3_init_4 19 rfl rfl)
theorem dX3_init_113 : decode cX3_init 113 = .ok (.getfield 19, 3) := dk_180 0 19 (dk_at dksX3_init_4 20 rfl rfl)
theorem dX3_init_116 : decode cX3_init 116 = .ok (.iload_n 1, 1) := dk_27 (dk_at dksX3_init_4 23 rfl rfl)
theorem dX3_init_117 : decode cX3_init 117 = .ok (.new 17, 3) := dk_187 0 17 (dk_at dksX3_init_5 0 rfl rfl)
theorem dX3_init_120 : decode cX3_init 120 = .ok (.dup, 1) := dk_89 (dk_at dksX3_init_5 3 rfl rfl)
theorem dX3_init_121 : decode cX3_init 121 = .ok (.invokespecial 53, 3) := dk_183 0 53 (dk_at dksX3_init_5 4 rfl rfl)
theorem dX3_init_124 : decode cX3_init 124 = .ok (.aastore, 1) := dk_83 (dk_at dksX3_init_5 7 rfl rfl)
theorem dX3_init_125 : decode cX3_init 125 = .ok (.iinc 1 1, 3) := dk_132 1 1 (dk_at dksX3_init_5 8 rfl rfl)
theorem dX3_init_128 : decode cX3_init 128 = .ok (.goto (-22), 3) := dk_167 255 234 (dk_at dksX3_init_5 11 rfl rfl)
theorem dX3_init_131 : decode cX3_init 131 = .ok (.iconst 0, 1) := dk_3 (dk_at dksX3_init_5 14 rfl rfl)
theorem dX3_init_132 : decode cX3_init 132 = .ok (.istore_n 1, 1) := dk_60 (dk_at dksX3_init_5 15 rfl rfl)
theorem dX3_init_133 : decode cX3_init 133 = .ok (.iload_n 1, 1) := dk_27 (dk_at dksX3_init_5 16 rfl rfl)
theorem dX3_init_134 : decode cX3_init 134 = .ok (.bipush 10, 2) := dk_16 10 (dk_at dksX3_init_5 17 rfl rfl)
theorem dX3_init_136 : decode cX3_init 136 = .ok (.if_icmp .ge 16, 3) := dk_162 0 16 (dk_at dksX3_init_5 19 rfl rfl)
theorem dX3_init_139 : decode cX3_init 139 = .ok (.aload_n 0, 1) := dk_42 (dk_at dksX3_init_5 22 rfl rfl)
theorem dX3_init_140 : decode cX3_init 140 = .ok (.getfield 29, 3) := dk_180 0 29 (dk_at dksX3_init_6 0 rfl rfl)
theorem dX3_init_143 : decode cX3_init 143 = .ok (.iload_n 1, 1) := dk_27 (dk_at dksX3_init_6 3 rfl rfl)
theorem dX3_init_144 : decode cX3_init 144 = .ok (.iconst (-1), 1) := dk_2 (dk_at dksX3_init_6 4 rfl rfl)
theorem dX3_init_145 : decode cX3_init 145 = .ok (.iastore, 1) := dk_79 (dk_at dksX3_init_6 5 rfl rfl)
theorem dX3_init_146 : decode cX3_init 146 = .ok (.iinc 1 1, 3) := dk_132 1 1 (dk_at dksX3_init_6 6 rfl rfl)
theorem dX3_init_149 : decode cX3_init 149 = .ok (.goto (-16), 3) := dk_167 255 240 (dk_at dksX3_init_6 9 rfl rfl)
theorem dX3_init_152 : decode cX3_init 152 = .ok (.return_, 1) := dk_177 (dk_at dksX3_init_6 12 rfl rfl)
abbrev cX3_nailed : ByteArray := prog_11_method_8_code
def yX3_nailed : MethodName := ⟨RX3, "nailed", "()I"⟩
def dkwX3_nailed_1 : List UInt8 := [167, 0, 4, 3, 96, 60, 132, 2, 1, 167, 255, 229, 27, 172]
abbrev dktX3_nailed_1 : List UInt8 := dkwX3_nailed_1 ++ []
def dkwX3_nailed_0 : List UInt8 := [3, 60, 3, 61, 28, 16, 10, 162, 0, 27, 27, 42, 180, 0, 29, 28, 46, 2, 159, 0, 7, 4]
abbrev dktX3_nailed_0 : List UInt8 := dkwX3_nailed_0 ++ dktX3_nailed_1
theorem dksX3_nailed_0 : cX3_nailed.data.toList.drop 0 = dktX3_nailed_0 := by decide +kernel
theorem dksX3_nailed_1 : cX3_nailed.data.toList.drop 22 = dktX3_nailed_1 := dk_seg dksX3_nailed_0 22 rfl rfl
theorem dX3_nailed_0 : decode cX3_nailed 0 = .ok (.iconst 0, 1) := dk_3 (dk_at dksX3_nailed_0 0 rfl rfl)
theorem dX3_nailed_1 : decode cX3_nailed 1 = .ok (.istore_n 1, 1) := dk_60 (dk_at dksX3_nailed_0 1 rfl rfl)
theorem dX3_nailed_2 : decode cX3_nailed 2 = .ok (.iconst 0, 1) := dk_3 (dk_at dksX3_nailed_0 2 rfl rfl)
theorem dX3_nailed_3 : decode cX3_nailed 3 = .ok (.istore_n 2, 1) := dk_61 (dk_at dksX3_nailed_0 3 rfl rfl)
theorem dX3_nailed_4 : decode cX3_nailed 4 = .ok (.iload_n 2, 1) := dk_28 (dk_at dksX3_nailed_0 4 rfl rfl)
theorem dX3_nailed_5 : decode cX3_nailed 5 = .ok (.bipush 10, 2) := dk_16 10 (dk_at dksX3_nailed_0 5 rfl rfl)
theorem dX3_nailed_7 : decode cX3_nailed 7 = .ok (.if_icmp .ge 27, 3) := dk_162 0 27 (dk_at dksX3_nailed_0 7 rfl rfl)
theorem dX3_nailed_10 : decode cX3_nailed 10 = .ok (.iload_n 1, 1) := dk_27 (dk_at dksX3_nailed_0 10 rfl rfl)
theorem dX3_nailed_11 : decode cX3_nailed 11 = .ok (.aload_n 0, 1) := dk_42 (dk_at dksX3_nailed_0 11 rfl rfl)
theorem dX3_nailed_12 : decode cX3_nailed 12 = .ok (.getfield 29, 3) := dk_180 0 29 (dk_at dksX3_nailed_0 12 rfl rfl)
theorem dX3_nailed_15 : decode cX3_nailed 15 = .ok (.iload_n 2, 1) := dk_28 (dk_at dksX3_nailed_0 15 rfl rfl)
theorem dX3_nailed_16 : decode cX3_nailed 16 = .ok (.iaload, 1) := dk_46 (dk_at dksX3_nailed_0 16 rfl rfl)
theorem dX3_nailed_17 : decode cX3_nailed 17 = .ok (.iconst (-1), 1) := dk_2 (dk_at dksX3_nailed_0 17 rfl rfl)
theorem dX3_nailed_18 : decode cX3_nailed 18 = .ok (.if_icmp .eq 7, 3) := dk_159 0 7 (dk_at dksX3_nailed_0 18 rfl rfl)
theorem dX3_nailed_21 : decode cX3_nailed 21 = .ok (.iconst 1, 1) := dk_4 (dk_at dksX3_nailed_0 21 rfl rfl)
theorem dX3_nailed_22 : decode cX3_nailed 22 = .ok (.goto 4, 3) := dk_167 0 4 (dk_at dksX3_nailed_1 0 rfl rfl)
theorem dX3_nailed_25 : decode cX3_nailed 25 = .ok (.iconst 0, 1) := dk_3 (dk_at dksX3_nailed_1 3 rfl rfl)
theorem dX3_nailed_26 : decode cX3_nailed 26 = .ok (.iadd, 1) := dk_96 (dk_at dksX3_nailed_1 4 rfl rfl)
theorem dX3_nailed_27 : decode cX3_nailed 27 = .ok (.istore_n 1, 1) := dk_60 (dk_at dksX3_nailed_1 5 rfl rfl)
theorem dX3_nailed_28 : decode cX3_nailed 28 = .ok (.iinc 2 1, 3) := dk_132 2 1 (dk_at dksX3_nailed_1 6 rfl rfl)
theorem dX3_nailed_31 : decode cX3_nailed 31 = .ok (.goto (-27), 3) := dk_167 255 229 (dk_at dksX3_nailed_1 9 rfl rfl)
theorem dX3_nailed_34 : decode cX3_nailed 34 = .ok (.iload_n 1, 1) := dk_27 (dk_at dksX3_nailed_1 12 rfl rfl)
theorem dX3_nailed_35 : decode cX3_nailed 35 = .ok (.ireturn, 1) := dk_172 (dk_at dksX3_nailed_1 13 rfl rfl)
abbrev cX3_behind : ByteArray := prog_11_method_7_code
def yX3_behind : MethodName := ⟨RX3, "behind", "(LGhostAssize$One;III)I"⟩
def dkwX3_behind_1 : List UInt8 := [42, 43, 28, 29, 182, 0, 118, 96, 21, 4, 96, 172]
abbrev dktX3_behind_1 : List UInt8 := dkwX3_behind_1 ++ []
def dkwX3_behind_0 : List UInt8 := [42, 180, 0, 29, 28, 46, 2, 160, 0, 16, 3, 29, 42, 180, 0, 43, 100, 184, 0, 109, 167, 0, 15, 29]
abbrev dktX3_behind_0 : List UInt8 := dkwX3_behind_0 ++ dktX3_behind_1
theorem dksX3_behind_0 : cX3_behind.data.toList.drop 0 = dktX3_behind_0 := by decide +kernel
theorem dksX3_behind_1 : cX3_behind.data.toList.drop 24 = dktX3_behind_1 := dk_seg dksX3_behind_0 24 rfl rfl
theorem dX3_behind_0 : decode cX3_behind 0 = .ok (.aload_n 0, 1) := dk_42 (dk_at dksX3_behind_0 0 rfl rfl)
theorem dX3_behind_1 : decode cX3_behind 1 = .ok (.getfield 29, 3) := dk_180 0 29 (dk_at dksX3_behind_0 1 rfl rfl)
theorem dX3_behind_4 : decode cX3_behind 4 = .ok (.iload_n 2, 1) := dk_28 (dk_at dksX3_behind_0 4 rfl rfl)
theorem dX3_behind_5 : decode cX3_behind 5 = .ok (.iaload, 1) := dk_46 (dk_at dksX3_behind_0 5 rfl rfl)
theorem dX3_behind_6 : decode cX3_behind 6 = .ok (.iconst (-1), 1) := dk_2 (dk_at dksX3_behind_0 6 rfl rfl)
theorem dX3_behind_7 : decode cX3_behind 7 = .ok (.if_icmp .ne 16, 3) := dk_160 0 16 (dk_at dksX3_behind_0 7 rfl rfl)
theorem dX3_behind_10 : decode cX3_behind 10 = .ok (.iconst 0, 1) := dk_3 (dk_at dksX3_behind_0 10 rfl rfl)
theorem dX3_behind_11 : decode cX3_behind 11 = .ok (.iload_n 3, 1) := dk_29 (dk_at dksX3_behind_0 11 rfl rfl)
theorem dX3_behind_12 : decode cX3_behind 12 = .ok (.aload_n 0, 1) := dk_42 (dk_at dksX3_behind_0 12 rfl rfl)
theorem dX3_behind_13 : decode cX3_behind 13 = .ok (.getfield 43, 3) := dk_180 0 43 (dk_at dksX3_behind_0 13 rfl rfl)
theorem dX3_behind_16 : decode cX3_behind 16 = .ok (.isub, 1) := dk_100 (dk_at dksX3_behind_0 16 rfl rfl)
theorem dX3_behind_17 : decode cX3_behind 17 = .ok (.invokestatic 109, 3) := dk_184 0 109 (dk_at dksX3_behind_0 17 rfl rfl)
theorem dX3_behind_20 : decode cX3_behind 20 = .ok (.goto 15, 3) := dk_167 0 15 (dk_at dksX3_behind_0 20 rfl rfl)
theorem dX3_behind_23 : decode cX3_behind 23 = .ok (.iload_n 3, 1) := dk_29 (dk_at dksX3_behind_0 23 rfl rfl)
theorem dX3_behind_24 : decode cX3_behind 24 = .ok (.aload_n 0, 1) := dk_42 (dk_at dksX3_behind_1 0 rfl rfl)
theorem dX3_behind_25 : decode cX3_behind 25 = .ok (.aload_n 1, 1) := dk_43 (dk_at dksX3_behind_1 1 rfl rfl)
theorem dX3_behind_26 : decode cX3_behind 26 = .ok (.iload_n 2, 1) := dk_28 (dk_at dksX3_behind_1 2 rfl rfl)
theorem dX3_behind_27 : decode cX3_behind 27 = .ok (.iload_n 3, 1) := dk_29 (dk_at dksX3_behind_1 3 rfl rfl)
theorem dX3_behind_28 : decode cX3_behind 28 = .ok (.invokevirtual 118, 3) := dk_182 0 118 (dk_at dksX3_behind_1 4 rfl rfl)
theorem dX3_behind_31 : decode cX3_behind 31 = .ok (.iadd, 1) := dk_96 (dk_at dksX3_behind_1 7 rfl rfl)
theorem dX3_behind_32 : decode cX3_behind 32 = .ok (.iload 4, 2) := dk_21 4 (dk_at dksX3_behind_1 8 rfl rfl)
theorem dX3_behind_34 : decode cX3_behind 34 = .ok (.iadd, 1) := dk_96 (dk_at dksX3_behind_1 10 rfl rfl)
theorem dX3_behind_35 : decode cX3_behind 35 = .ok (.ireturn, 1) := dk_172 (dk_at dksX3_behind_1 11 rfl rfl)
abbrev cX3_frights : ByteArray := prog_11_method_5_code
def yX3_frights : MethodName := ⟨RX3, "frights", "(LGhostAssize$One;II)I"⟩
def dkwX3_frights_4 : List UInt8 := [184, 0, 109, 172]
abbrev dktX3_frights_4 : List UInt8 := dkwX3_frights_4 ++ []
def dkwX3_frights_3 : List UInt8 := [21, 5, 50, 42, 180, 0, 33, 182, 0, 105, 96, 54, 4, 132, 5, 1, 167, 255, 225, 3, 21, 4]
abbrev dktX3_frights_3 : List UInt8 := dkwX3_frights_3 ++ dktX3_frights_4
def dkwX3_frights_2 : List UInt8 := [16, 10, 108, 100, 54, 4, 3, 54, 5, 21, 5, 42, 180, 0, 39, 162, 0, 28, 21, 4, 42, 180, 0, 25]
abbrev dktX3_frights_2 : List UInt8 := dkwX3_frights_2 ++ dktX3_frights_3
def dkwX3_frights_1 : List UInt8 := [180, 0, 29, 28, 46, 50, 180, 0, 83, 42, 180, 0, 11, 42, 180, 0, 29, 28, 46, 50, 180, 0, 86]
abbrev dktX3_frights_1 : List UInt8 := dkwX3_frights_1 ++ dktX3_frights_2
def dkwX3_frights_0 : List UInt8 := [42, 180, 0, 29, 28, 46, 2, 160, 0, 5, 3, 172, 42, 43, 28, 29, 182, 0, 101, 42, 180, 0, 11, 42]
abbrev dktX3_frights_0 : List UInt8 := dkwX3_frights_0 ++ dktX3_frights_1
theorem dksX3_frights_0 : cX3_frights.data.toList.drop 0 = dktX3_frights_0 := by decide +kernel
theorem dksX3_frights_1 : cX3_frights.data.toList.drop 24 = dktX3_frights_1 := dk_seg dksX3_frights_0 24 rfl rfl
theorem dksX3_frights_2 : cX3_frights.data.toList.drop 47 = dktX3_frights_2 := dk_seg dksX3_frights_1 23 rfl rfl
theorem dksX3_frights_3 : cX3_frights.data.toList.drop 71 = dktX3_frights_3 := dk_seg dksX3_frights_2 24 rfl rfl
theorem dksX3_frights_4 : cX3_frights.data.toList.drop 93 = dktX3_frights_4 := dk_seg dksX3_frights_3 22 rfl rfl
theorem dX3_frights_0 : decode cX3_frights 0 = .ok (.aload_n 0, 1) := dk_42 (dk_at dksX3_frights_0 0 rfl rfl)
theorem dX3_frights_1 : decode cX3_frights 1 = .ok (.getfield 29, 3) := dk_180 0 29 (dk_at dksX3_frights_0 1 rfl rfl)
theorem dX3_frights_4 : decode cX3_frights 4 = .ok (.iload_n 2, 1) := dk_28 (dk_at dksX3_frights_0 4 rfl rfl)
theorem dX3_frights_5 : decode cX3_frights 5 = .ok (.iaload, 1) := dk_46 (dk_at dksX3_frights_0 5 rfl rfl)
theorem dX3_frights_6 : decode cX3_frights 6 = .ok (.iconst (-1), 1) := dk_2 (dk_at dksX3_frights_0 6 rfl rfl)
theorem dX3_frights_7 : decode cX3_frights 7 = .ok (.if_icmp .ne 5, 3) := dk_160 0 5 (dk_at dksX3_frights_0 7 rfl rfl)
theorem dX3_frights_10 : decode cX3_frights 10 = .ok (.iconst 0, 1) := dk_3 (dk_at dksX3_frights_0 10 rfl rfl)
theorem dX3_frights_11 : decode cX3_frights 11 = .ok (.ireturn, 1) := dk_172 (dk_at dksX3_frights_0 11 rfl rfl)
theorem dX3_frights_12 : decode cX3_frights 12 = .ok (.aload_n 0, 1) := dk_42 (dk_at dksX3_frights_0 12 rfl rfl)
theorem dX3_frights_13 : decode cX3_frights 13 = .ok (.aload_n 1, 1) := dk_43 (dk_at dksX3_frights_0 13 rfl rfl)
theorem dX3_frights_14 : decode cX3_frights 14 = .ok (.iload_n 2, 1) := dk_28 (dk_at dksX3_frights_0 14 rfl rfl)
theorem dX3_frights_15 : decode cX3_frights 15 = .ok (.iload_n 3, 1) := dk_29 (dk_at dksX3_frights_0 15 rfl rfl)
theorem dX3_frights_16 : decode cX3_frights 16 = .ok (.invokevirtual 101, 3) := dk_182 0 101 (dk_at dksX3_frights_0 16 rfl rfl)
theorem dX3_frights_19 : decode cX3_frights 19 = .ok (.aload_n 0, 1) := dk_42 (dk_at dksX3_frights_0 19 rfl rfl)
theorem dX3_frights_20 : decode cX3_frights 20 = .ok (.getfield 11, 3) := dk_180 0 11 (dk_at dksX3_frights_0 20 rfl rfl)
theorem dX3_frights_23 : decode cX3_frights 23 = .ok (.aload_n 0, 1) := dk_42 (dk_at dksX3_frights_0 23 rfl rfl)
theorem dX3_frights_24 : decode cX3_frights 24 = .ok (.getfield 29, 3) := dk_180 0 29 (dk_at dksX3_frights_1 0 rfl rfl)
theorem dX3_frights_27 : decode cX3_frights 27 = .ok (.iload_n 2, 1) := dk_28 (dk_at dksX3_frights_1 3 rfl rfl)
theorem dX3_frights_28 : decode cX3_frights 28 = .ok (.iaload, 1) := dk_46 (dk_at dksX3_frights_1 4 rfl rfl)
theorem dX3_frights_29 : decode cX3_frights 29 = .ok (.aaload, 1) := dk_50 (dk_at dksX3_frights_1 5 rfl rfl)
theorem dX3_frights_30 : decode cX3_frights 30 = .ok (.getfield 83, 3) := dk_180 0 83 (dk_at dksX3_frights_1 6 rfl rfl)
theorem dX3_frights_33 : decode cX3_frights 33 = .ok (.aload_n 0, 1) := dk_42 (dk_at dksX3_frights_1 9 rfl rfl)
theorem dX3_frights_34 : decode cX3_frights 34 = .ok (.getfield 11, 3) := dk_180 0 11 (dk_at dksX3_frights_1 10 rfl rfl)
theorem dX3_frights_37 : decode cX3_frights 37 = .ok (.aload_n 0, 1) := dk_42 (dk_at dksX3_frights_1 13 rfl rfl)
theorem dX3_frights_38 : decode cX3_frights 38 = .ok (.getfield 29, 3) := dk_180 0 29 (dk_at dksX3_frights_1 14 rfl rfl)
theorem dX3_frights_41 : decode cX3_frights 41 = .ok (.iload_n 2, 1) := dk_28 (dk_at dksX3_frights_1 17 rfl rfl)
theorem dX3_frights_42 : decode cX3_frights 42 = .ok (.iaload, 1) := dk_46 (dk_at dksX3_frights_1 18 rfl rfl)
theorem dX3_frights_43 : decode cX3_frights 43 = .ok (.aaload, 1) := dk_50 (dk_at dksX3_frights_1 19 rfl rfl)
theorem dX3_frights_44 : decode cX3_frights 44 = .ok (.getfield 86, 3) := dk_180 0 86 (dk_at dksX3_frights_1 20 rfl rfl)
theorem dX3_frights_47 : decode cX3_frights 47 = .ok (.bipush 10, 2) := dk_16 10 (dk_at dksX3_frights_2 0 rfl rfl)
theorem dX3_frights_49 : decode cX3_frights 49 = .ok (.idiv, 1) := dk_108 (dk_at dksX3_frights_2 2 rfl rfl)
theorem dX3_frights_50 : decode cX3_frights 50 = .ok (.isub, 1) := dk_100 (dk_at dksX3_frights_2 3 rfl rfl)
theorem dX3_frights_51 : decode cX3_frights 51 = .ok (.istore 4, 2) := dk_54 4 (dk_at dksX3_frights_2 4 rfl rfl)
theorem dX3_frights_53 : decode cX3_frights 53 = .ok (.iconst 0, 1) := dk_3 (dk_at dksX3_frights_2 6 rfl rfl)
theorem dX3_frights_54 : decode cX3_frights 54 = .ok (.istore 5, 2) := dk_54 5 (dk_at dksX3_frights_2 7 rfl rfl)
theorem dX3_frights_56 : decode cX3_frights 56 = .ok (.iload 5, 2) := dk_21 5 (dk_at dksX3_frights_2 9 rfl rfl)
theorem dX3_frights_58 : decode cX3_frights 58 = .ok (.aload_n 0, 1) := dk_42 (dk_at dksX3_frights_2 11 rfl rfl)
theorem dX3_frights_59 : decode cX3_frights 59 = .ok (.getfield 39, 3) := dk_180 0 39 (dk_at dksX3_frights_2 12 rfl rfl)
theorem dX3_frights_62 : decode cX3_frights 62 = .ok (.if_icmp .ge 28, 3) := dk_162 0 28 (dk_at dksX3_frights_2 15 rfl rfl)
theorem dX3_frights_65 : decode cX3_frights 65 = .ok (.iload 4, 2) := dk_21 4 (dk_at dksX3_frights_2 18 rfl rfl)
theorem dX3_frights_67 : decode cX3_frights 67 = .ok (.aload_n 0, 1) := dk_42 (dk_at dksX3_frights_2 20 rfl rfl)
theorem dX3_frights_68 : decode cX3_frights 68 = .ok (.getfield 25, 3) := dk_180 0 25 (dk_at dksX3_frights_2 21 rfl rfl)
theorem dX3_frights_71 : decode cX3_frights 71 = .ok (.iload 5, 2) := dk_21 5 (dk_at dksX3_frights_3 0 rfl rfl)
theorem dX3_frights_73 : decode cX3_frights 73 = .ok (.aaload, 1) := dk_50 (dk_at dksX3_frights_3 2 rfl rfl)
theorem dX3_frights_74 : decode cX3_frights 74 = .ok (.aload_n 0, 1) := dk_42 (dk_at dksX3_frights_3 3 rfl rfl)
theorem dX3_frights_75 : decode cX3_frights 75 = .ok (.getfield 33, 3) := dk_180 0 33 (dk_at dksX3_frights_3 4 rfl rfl)
theorem dX3_frights_78 : decode cX3_frights 78 = .ok (.invokevirtual 105, 3) := dk_182 0 105 (dk_at dksX3_frights_3 7 rfl rfl)
theorem dX3_frights_81 : decode cX3_frights 81 = .ok (.iadd, 1) := dk_96 (dk_at dksX3_frights_3 10 rfl rfl)
theorem dX3_frights_82 : decode cX3_frights 82 = .ok (.istore 4, 2) := dk_54 4 (dk_at dksX3_frights_3 11 rfl rfl)
theorem dX3_frights_84 : decode cX3_frights 84 = .ok (.iinc 5 1, 3) := dk_132 5 1 (dk_at dksX3_frights_3 13 rfl rfl)
theorem dX3_frights_87 : decode cX3_frights 87 = .ok (.goto (-31), 3) := dk_167 255 225 (dk_at dksX3_frights_3 16 rfl rfl)
theorem dX3_frights_90 : decode cX3_frights 90 = .ok (.iconst 0, 1) := dk_3 (dk_at dksX3_frights_3 19 rfl rfl)
theorem dX3_frights_91 : decode cX3_frights 91 = .ok (.iload 4, 2) := dk_21 4 (dk_at dksX3_frights_3 20 rfl rfl)
theorem dX3_frights_93 : decode cX3_frights 93 = .ok (.invokestatic 109, 3) := dk_184 0 109 (dk_at dksX3_frights_4 0 rfl rfl)
theorem dX3_frights_96 : decode cX3_frights 96 = .ok (.ireturn, 1) := dk_172 (dk_at dksX3_frights_4 3 rfl rfl)
abbrev cX3_tells : ByteArray := prog_11_method_4_code
def yX3_tells : MethodName := ⟨RX3, "tells", "(LGhostAssize$One;II)V"⟩
def dkwX3_tells_4 : List UInt8 := [16, 7, 43, 180, 0, 95, 25, 4, 180, 0, 98, 122, 4, 126, 79, 177]
abbrev dktX3_tells_4 : List UInt8 := dkwX3_tells_4 ++ []
def dkwX3_tells_3 : List UInt8 := [180, 0, 33, 16, 6, 43, 180, 0, 92, 42, 180, 0, 29, 28, 46, 122, 4, 126, 79, 42, 180, 0, 33]
abbrev dktX3_tells_3 : List UInt8 := dkwX3_tells_3 ++ dktX3_tells_4
def dkwX3_tells_2 : List UInt8 := [25, 4, 180, 0, 86, 79, 42, 180, 0, 33, 7, 29, 79, 42, 180, 0, 33, 8, 43, 180, 0, 89, 79, 42]
abbrev dktX3_tells_2 : List UInt8 := dkwX3_tells_2 ++ dktX3_tells_3
def dkwX3_tells_1 : List UInt8 := [79, 42, 180, 0, 33, 4, 28, 79, 42, 180, 0, 33, 5, 25, 4, 180, 0, 83, 79, 42, 180, 0, 33, 6]
abbrev dktX3_tells_1 : List UInt8 := dkwX3_tells_1 ++ dktX3_tells_2
def dkwX3_tells_0 : List UInt8 := [42, 180, 0, 11, 42, 180, 0, 29, 28, 46, 50, 58, 4, 42, 180, 0, 33, 3, 42, 180, 0, 29, 28, 46]
abbrev dktX3_tells_0 : List UInt8 := dkwX3_tells_0 ++ dktX3_tells_1
theorem dksX3_tells_0 : cX3_tells.data.toList.drop 0 = dktX3_tells_0 := by decide +kernel
theorem dksX3_tells_1 : cX3_tells.data.toList.drop 24 = dktX3_tells_1 := dk_seg dksX3_tells_0 24 rfl rfl
theorem dksX3_tells_2 : cX3_tells.data.toList.drop 48 = dktX3_tells_2 := dk_seg dksX3_tells_1 24 rfl rfl
theorem dksX3_tells_3 : cX3_tells.data.toList.drop 72 = dktX3_tells_3 := dk_seg dksX3_tells_2 24 rfl rfl
theorem dksX3_tells_4 : cX3_tells.data.toList.drop 95 = dktX3_tells_4 := dk_seg dksX3_tells_3 23 rfl rfl
theorem dX3_tells_0 : decode cX3_tells 0 = .ok (.aload_n 0, 1) := dk_42 (dk_at dksX3_tells_0 0 rfl rfl)
theorem dX3_tells_1 : decode cX3_tells 1 = .ok (.getfield 11, 3) := dk_180 0 11 (dk_at dksX3_tells_0 1 rfl rfl)
theorem dX3_tells_4 : decode cX3_tells 4 = .ok (.aload_n 0, 1) := dk_42 (dk_at dksX3_tells_0 4 rfl rfl)
theorem dX3_tells_5 : decode cX3_tells 5 = .ok (.getfield 29, 3) := dk_180 0 29 (dk_at dksX3_tells_0 5 rfl rfl)
theorem dX3_tells_8 : decode cX3_tells 8 = .ok (.iload_n 2, 1) := dk_28 (dk_at dksX3_tells_0 8 rfl rfl)
theorem dX3_tells_9 : decode cX3_tells 9 = .ok (.iaload, 1) := dk_46 (dk_at dksX3_tells_0 9 rfl rfl)
theorem dX3_tells_10 : decode cX3_tells 10 = .ok (.aaload, 1) := dk_50 (dk_at dksX3_tells_0 10 rfl rfl)
theorem dX3_tells_11 : decode cX3_tells 11 = .ok (.astore 4, 2) := dk_58 4 (dk_at dksX3_tells_0 11 rfl rfl)
theorem dX3_tells_13 : decode cX3_tells 13 = .ok (.aload_n 0, 1) := dk_42 (dk_at dksX3_tells_0 13 rfl rfl)
theorem dX3_tells_14 : decode cX3_tells 14 = .ok (.getfield 33, 3) := dk_180 0 33 (dk_at dksX3_tells_0 14 rfl rfl)
theorem dX3_tells_17 : decode cX3_tells 17 = .ok (.iconst 0, 1) := dk_3 (dk_at dksX3_tells_0 17 rfl rfl)
theorem dX3_tells_18 : decode cX3_tells 18 = .ok (.aload_n 0, 1) := dk_42 (dk_at dksX3_tells_0 18 rfl rfl)
theorem dX3_tells_19 : decode cX3_tells 19 = .ok (.getfield 29, 3) := dk_180 0 29 (dk_at dksX3_tells_0 19 rfl rfl)
theorem dX3_tells_22 : decode cX3_tells 22 = .ok (.iload_n 2, 1) := dk_28 (dk_at dksX3_tells_0 22 rfl rfl)
theorem dX3_tells_23 : decode cX3_tells 23 = .ok (.iaload, 1) := dk_46 (dk_at dksX3_tells_0 23 rfl rfl)
theorem dX3_tells_24 : decode cX3_tells 24 = .ok (.iastore, 1) := dk_79 (dk_at dksX3_tells_1 0 rfl rfl)
theorem dX3_tells_25 : decode cX3_tells 25 = .ok (.aload_n 0, 1) := dk_42 (dk_at dksX3_tells_1 1 rfl rfl)
theorem dX3_tells_26 : decode cX3_tells 26 = .ok (.getfield 33, 3) := dk_180 0 33 (dk_at dksX3_tells_1 2 rfl rfl)
theorem dX3_tells_29 : decode cX3_tells 29 = .ok (.iconst 1, 1) := dk_4 (dk_at dksX3_tells_1 5 rfl rfl)
theorem dX3_tells_30 : decode cX3_tells 30 = .ok (.iload_n 2, 1) := dk_28 (dk_at dksX3_tells_1 6 rfl rfl)
theorem dX3_tells_31 : decode cX3_tells 31 = .ok (.iastore, 1) := dk_79 (dk_at dksX3_tells_1 7 rfl rfl)
theorem dX3_tells_32 : decode cX3_tells 32 = .ok (.aload_n 0, 1) := dk_42 (dk_at dksX3_tells_1 8 rfl rfl)
theorem dX3_tells_33 : decode cX3_tells 33 = .ok (.getfield 33, 3) := dk_180 0 33 (dk_at dksX3_tells_1 9 rfl rfl)
theorem dX3_tells_36 : decode cX3_tells 36 = .ok (.iconst 2, 1) := dk_5 (dk_at dksX3_tells_1 12 rfl rfl)
theorem dX3_tells_37 : decode cX3_tells 37 = .ok (.aload 4, 2) := dk_25 4 (dk_at dksX3_tells_1 13 rfl rfl)
theorem dX3_tells_39 : decode cX3_tells 39 = .ok (.getfield 83, 3) := dk_180 0 83 (dk_at dksX3_tells_1 15 rfl rfl)
theorem dX3_tells_42 : decode cX3_tells 42 = .ok (.iastore, 1) := dk_79 (dk_at dksX3_tells_1 18 rfl rfl)
theorem dX3_tells_43 : decode cX3_tells 43 = .ok (.aload_n 0, 1) := dk_42 (dk_at dksX3_tells_1 19 rfl rfl)
theorem dX3_tells_44 : decode cX3_tells 44 = .ok (.getfield 33, 3) := dk_180 0 33 (dk_at dksX3_tells_1 20 rfl rfl)
theorem dX3_tells_47 : decode cX3_tells 47 = .ok (.iconst 3, 1) := dk_6 (dk_at dksX3_tells_1 23 rfl rfl)
theorem dX3_tells_48 : decode cX3_tells 48 = .ok (.aload 4, 2) := dk_25 4 (dk_at dksX3_tells_2 0 rfl rfl)
theorem dX3_tells_50 : decode cX3_tells 50 = .ok (.getfield 86, 3) := dk_180 0 86 (dk_at dksX3_tells_2 2 rfl rfl)
theorem dX3_tells_53 : decode cX3_tells 53 = .ok (.iastore, 1) := dk_79 (dk_at dksX3_tells_2 5 rfl rfl)
theorem dX3_tells_54 : decode cX3_tells 54 = .ok (.aload_n 0, 1) := dk_42 (dk_at dksX3_tells_2 6 rfl rfl)
theorem dX3_tells_55 : decode cX3_tells 55 = .ok (.getfield 33, 3) := dk_180 0 33 (dk_at dksX3_tells_2 7 rfl rfl)
theorem dX3_tells_58 : decode cX3_tells 58 = .ok (.iconst 4, 1) := dk_7 (dk_at dksX3_tells_2 10 rfl rfl)
theorem dX3_tells_59 : decode cX3_tells 59 = .ok (.iload_n 3, 1) := dk_29 (dk_at dksX3_tells_2 11 rfl rfl)
theorem dX3_tells_60 : decode cX3_tells 60 = .ok (.iastore, 1) := dk_79 (dk_at dksX3_tells_2 12 rfl rfl)
theorem dX3_tells_61 : decode cX3_tells 61 = .ok (.aload_n 0, 1) := dk_42 (dk_at dksX3_tells_2 13 rfl rfl)
theorem dX3_tells_62 : decode cX3_tells 62 = .ok (.getfield 33, 3) := dk_180 0 33 (dk_at dksX3_tells_2 14 rfl rfl)
theorem dX3_tells_65 : decode cX3_tells 65 = .ok (.iconst 5, 1) := dk_8 (dk_at dksX3_tells_2 17 rfl rfl)
theorem dX3_tells_66 : decode cX3_tells 66 = .ok (.aload_n 1, 1) := dk_43 (dk_at dksX3_tells_2 18 rfl rfl)
theorem dX3_tells_67 : decode cX3_tells 67 = .ok (.getfield 89, 3) := dk_180 0 89 (dk_at dksX3_tells_2 19 rfl rfl)
theorem dX3_tells_70 : decode cX3_tells 70 = .ok (.iastore, 1) := dk_79 (dk_at dksX3_tells_2 22 rfl rfl)
theorem dX3_tells_71 : decode cX3_tells 71 = .ok (.aload_n 0, 1) := dk_42 (dk_at dksX3_tells_2 23 rfl rfl)
theorem dX3_tells_72 : decode cX3_tells 72 = .ok (.getfield 33, 3) := dk_180 0 33 (dk_at dksX3_tells_3 0 rfl rfl)
theorem dX3_tells_75 : decode cX3_tells 75 = .ok (.bipush 6, 2) := dk_16 6 (dk_at dksX3_tells_3 3 rfl rfl)
theorem dX3_tells_77 : decode cX3_tells 77 = .ok (.aload_n 1, 1) := dk_43 (dk_at dksX3_tells_3 5 rfl rfl)
theorem dX3_tells_78 : decode cX3_tells 78 = .ok (.getfield 92, 3) := dk_180 0 92 (dk_at dksX3_tells_3 6 rfl rfl)
theorem dX3_tells_81 : decode cX3_tells 81 = .ok (.aload_n 0, 1) := dk_42 (dk_at dksX3_tells_3 9 rfl rfl)
theorem dX3_tells_82 : decode cX3_tells 82 = .ok (.getfield 29, 3) := dk_180 0 29 (dk_at dksX3_tells_3 10 rfl rfl)
theorem dX3_tells_85 : decode cX3_tells 85 = .ok (.iload_n 2, 1) := dk_28 (dk_at dksX3_tells_3 13 rfl rfl)
theorem dX3_tells_86 : decode cX3_tells 86 = .ok (.iaload, 1) := dk_46 (dk_at dksX3_tells_3 14 rfl rfl)
theorem dX3_tells_87 : decode cX3_tells 87 = .ok (.ishr, 1) := dk_122 (dk_at dksX3_tells_3 15 rfl rfl)
theorem dX3_tells_88 : decode cX3_tells 88 = .ok (.iconst 1, 1) := dk_4 (dk_at dksX3_tells_3 16 rfl rfl)
theorem dX3_tells_89 : decode cX3_tells 89 = .ok (.iand, 1) := dk_126 (dk_at dksX3_tells_3 17 rfl rfl)
theorem dX3_tells_90 : decode cX3_tells 90 = .ok (.iastore, 1) := dk_79 (dk_at dksX3_tells_3 18 rfl rfl)
theorem dX3_tells_91 : decode cX3_tells 91 = .ok (.aload_n 0, 1) := dk_42 (dk_at dksX3_tells_3 19 rfl rfl)
theorem dX3_tells_92 : decode cX3_tells 92 = .ok (.getfield 33, 3) := dk_180 0 33 (dk_at dksX3_tells_3 20 rfl rfl)
theorem dX3_tells_95 : decode cX3_tells 95 = .ok (.bipush 7, 2) := dk_16 7 (dk_at dksX3_tells_4 0 rfl rfl)
theorem dX3_tells_97 : decode cX3_tells 97 = .ok (.aload_n 1, 1) := dk_43 (dk_at dksX3_tells_4 2 rfl rfl)
theorem dX3_tells_98 : decode cX3_tells 98 = .ok (.getfield 95, 3) := dk_180 0 95 (dk_at dksX3_tells_4 3 rfl rfl)
theorem dX3_tells_101 : decode cX3_tells 101 = .ok (.aload 4, 2) := dk_25 4 (dk_at dksX3_tells_4 6 rfl rfl)
theorem dX3_tells_103 : decode cX3_tells 103 = .ok (.getfield 98, 3) := dk_180 0 98 (dk_at dksX3_tells_4 8 rfl rfl)
theorem dX3_tells_106 : decode cX3_tells 106 = .ok (.ishr, 1) := dk_122 (dk_at dksX3_tells_4 11 rfl rfl)
theorem dX3_tells_107 : decode cX3_tells 107 = .ok (.iconst 1, 1) := dk_4 (dk_at dksX3_tells_4 12 rfl rfl)
theorem dX3_tells_108 : decode cX3_tells 108 = .ok (.iand, 1) := dk_126 (dk_at dksX3_tells_4 13 rfl rfl)
theorem dX3_tells_109 : decode cX3_tells 109 = .ok (.iastore, 1) := dk_79 (dk_at dksX3_tells_4 14 rfl rfl)
theorem dX3_tells_110 : decode cX3_tells 110 = .ok (.return_, 1) := dk_177 (dk_at dksX3_tells_4 15 rfl rfl)
abbrev cX3_be : ByteArray := prog_11_method_2_code
def yX3_be : MethodName := ⟨RX3, "be", "(LGhostAssize$State;)V"⟩
def dkwX3_be_7 : List UInt8 := [42, 43, 180, 0, 49, 181, 0, 49, 42, 43, 180, 0, 79, 181, 0, 79, 177]
abbrev dktX3_be_7 : List UInt8 := dkwX3_be_7 ++ []
def dkwX3_be_6 : List UInt8 := [42, 43, 180, 0, 76, 181, 0, 76, 42, 43, 180, 0, 43, 181, 0, 43, 42, 43, 180, 0, 46, 181, 0, 46]
abbrev dktX3_be_6 : List UInt8 := dkwX3_be_6 ++ dktX3_be_7
def dkwX3_be_5 : List UInt8 := [42, 43, 180, 0, 61, 181, 0, 61, 42, 43, 180, 0, 39, 181, 0, 39, 42, 43, 180, 0, 73, 181, 0, 73]
abbrev dktX3_be_5 : List UInt8 := dkwX3_be_5 ++ dktX3_be_6
def dkwX3_be_4 : List UInt8 := [43, 180, 0, 36, 3, 42, 180, 0, 36, 3, 17, 0, 240, 184, 0, 67, 42, 43, 180, 0, 54, 181, 0, 54]
abbrev dktX3_be_4 : List UInt8 := dkwX3_be_4 ++ dktX3_be_5
def dkwX3_be_3 : List UInt8 := [180, 0, 25, 3, 16, 12, 184, 0, 67, 43, 180, 0, 29, 3, 42, 180, 0, 29, 3, 16, 10, 184, 0, 67]
abbrev dktX3_be_3 : List UInt8 := dkwX3_be_3 ++ dktX3_be_4
def dkwX3_be_2 : List UInt8 := [50, 43, 180, 0, 19, 28, 50, 182, 0, 64, 132, 2, 1, 167, 255, 230, 43, 180, 0, 25, 3, 42]
abbrev dktX3_be_2 : List UInt8 := dkwX3_be_2 ++ dktX3_be_3
def dkwX3_be_1 : List UInt8 := [182, 0, 57, 132, 2, 1, 167, 255, 230, 3, 61, 28, 43, 180, 0, 61, 162, 0, 24, 42, 180, 0, 19, 28]
abbrev dktX3_be_1 : List UInt8 := dkwX3_be_1 ++ dktX3_be_2
def dkwX3_be_0 : List UInt8 := [3, 61, 28, 43, 180, 0, 54, 162, 0, 24, 42, 180, 0, 11, 28, 50, 43, 180, 0, 11, 28, 50]
abbrev dktX3_be_0 : List UInt8 := dkwX3_be_0 ++ dktX3_be_1
theorem dksX3_be_0 : cX3_be.data.toList.drop 0 = dktX3_be_0 := by decide +kernel
theorem dksX3_be_1 : cX3_be.data.toList.drop 22 = dktX3_be_1 := dk_seg dksX3_be_0 22 rfl rfl
theorem dksX3_be_2 : cX3_be.data.toList.drop 46 = dktX3_be_2 := dk_seg dksX3_be_1 24 rfl rfl
theorem dksX3_be_3 : cX3_be.data.toList.drop 68 = dktX3_be_3 := dk_seg dksX3_be_2 22 rfl rfl
theorem dksX3_be_4 : cX3_be.data.toList.drop 92 = dktX3_be_4 := dk_seg dksX3_be_3 24 rfl rfl
theorem dksX3_be_5 : cX3_be.data.toList.drop 116 = dktX3_be_5 := dk_seg dksX3_be_4 24 rfl rfl
theorem dksX3_be_6 : cX3_be.data.toList.drop 140 = dktX3_be_6 := dk_seg dksX3_be_5 24 rfl rfl
theorem dksX3_be_7 : cX3_be.data.toList.drop 164 = dktX3_be_7 := dk_seg dksX3_be_6 24 rfl rfl
theorem dX3_be_0 : decode cX3_be 0 = .ok (.iconst 0, 1) := dk_3 (dk_at dksX3_be_0 0 rfl rfl)
theorem dX3_be_1 : decode cX3_be 1 = .ok (.istore_n 2, 1) := dk_61 (dk_at dksX3_be_0 1 rfl rfl)
theorem dX3_be_2 : decode cX3_be 2 = .ok (.iload_n 2, 1) := dk_28 (dk_at dksX3_be_0 2 rfl rfl)
theorem dX3_be_3 : decode cX3_be 3 = .ok (.aload_n 1, 1) := dk_43 (dk_at dksX3_be_0 3 rfl rfl)
theorem dX3_be_4 : decode cX3_be 4 = .ok (.getfield 54, 3) := dk_180 0 54 (dk_at dksX3_be_0 4 rfl rfl)
theorem dX3_be_7 : decode cX3_be 7 = .ok (.if_icmp .ge 24, 3) := dk_162 0 24 (dk_at dksX3_be_0 7 rfl rfl)
theorem dX3_be_10 : decode cX3_be 10 = .ok (.aload_n 0, 1) := dk_42 (dk_at dksX3_be_0 10 rfl rfl)
theorem dX3_be_11 : decode cX3_be 11 = .ok (.getfield 11, 3) := dk_180 0 11 (dk_at dksX3_be_0 11 rfl rfl)
theorem dX3_be_14 : decode cX3_be 14 = .ok (.iload_n 2, 1) := dk_28 (dk_at dksX3_be_0 14 rfl rfl)
theorem dX3_be_15 : decode cX3_be 15 = .ok (.aaload, 1) := dk_50 (dk_at dksX3_be_0 15 rfl rfl)
theorem dX3_be_16 : decode cX3_be 16 = .ok (.aload_n 1, 1) := dk_43 (dk_at dksX3_be_0 16 rfl rfl)
theorem dX3_be_17 : decode cX3_be 17 = .ok (.getfield 11, 3) := dk_180 0 11 (dk_at dksX3_be_0 17 rfl rfl)
theorem dX3_be_20 : decode cX3_be 20 = .ok (.iload_n 2, 1) := dk_28 (dk_at dksX3_be_0 20 rfl rfl)
theorem dX3_be_21 : decode cX3_be 21 = .ok (.aaload, 1) := dk_50 (dk_at dksX3_be_0 21 rfl rfl)
theorem dX3_be_22 : decode cX3_be 22 = .ok (.invokevirtual 57, 3) := dk_182 0 57 (dk_at dksX3_be_1 0 rfl rfl)
theorem dX3_be_25 : decode cX3_be 25 = .ok (.iinc 2 1, 3) := dk_132 2 1 (dk_at dksX3_be_1 3 rfl rfl)
theorem dX3_be_28 : decode cX3_be 28 = .ok (.goto (-26), 3) := dk_167 255 230 (dk_at dksX3_be_1 6 rfl rfl)
theorem dX3_be_31 : decode cX3_be 31 = .ok (.iconst 0, 1) := dk_3 (dk_at dksX3_be_1 9 rfl rfl)
theorem dX3_be_32 : decode cX3_be 32 = .ok (.istore_n 2, 1) := dk_61 (dk_at dksX3_be_1 10 rfl rfl)
theorem dX3_be_33 : decode cX3_be 33 = .ok (.iload_n 2, 1) := dk_28 (dk_at dksX3_be_1 11 rfl rfl)
theorem dX3_be_34 : decode cX3_be 34 = .ok (.aload_n 1, 1) := dk_43 (dk_at dksX3_be_1 12 rfl rfl)
theorem dX3_be_35 : decode cX3_be 35 = .ok (.getfield 61, 3) := dk_180 0 61 (dk_at dksX3_be_1 13 rfl rfl)
theorem dX3_be_38 : decode cX3_be 38 = .ok (.if_icmp .ge 24, 3) := dk_162 0 24 (dk_at dksX3_be_1 16 rfl rfl)
theorem dX3_be_41 : decode cX3_be 41 = .ok (.aload_n 0, 1) := dk_42 (dk_at dksX3_be_1 19 rfl rfl)
theorem dX3_be_42 : decode cX3_be 42 = .ok (.getfield 19, 3) := dk_180 0 19 (dk_at dksX3_be_1 20 rfl rfl)
theorem dX3_be_45 : decode cX3_be 45 = .ok (.iload_n 2, 1) := dk_28 (dk_at dksX3_be_1 23 rfl rfl)
theorem dX3_be_46 : decode cX3_be 46 = .ok (.aaload, 1) := dk_50 (dk_at dksX3_be_2 0 rfl rfl)
theorem dX3_be_47 : decode cX3_be 47 = .ok (.aload_n 1, 1) := dk_43 (dk_at dksX3_be_2 1 rfl rfl)
theorem dX3_be_48 : decode cX3_be 48 = .ok (.getfield 19, 3) := dk_180 0 19 (dk_at dksX3_be_2 2 rfl rfl)
theorem dX3_be_51 : decode cX3_be 51 = .ok (.iload_n 2, 1) := dk_28 (dk_at dksX3_be_2 5 rfl rfl)
theorem dX3_be_52 : decode cX3_be 52 = .ok (.aaload, 1) := dk_50 (dk_at dksX3_be_2 6 rfl rfl)
theorem dX3_be_53 : decode cX3_be 53 = .ok (.invokevirtual 64, 3) := dk_182 0 64 (dk_at dksX3_be_2 7 rfl rfl)
theorem dX3_be_56 : decode cX3_be 56 = .ok (.iinc 2 1, 3) := dk_132 2 1 (dk_at dksX3_be_2 10 rfl rfl)
theorem dX3_be_59 : decode cX3_be 59 = .ok (.goto (-26), 3) := dk_167 255 230 (dk_at dksX3_be_2 13 rfl rfl)
theorem dX3_be_62 : decode cX3_be 62 = .ok (.aload_n 1, 1) := dk_43 (dk_at dksX3_be_2 16 rfl rfl)
theorem dX3_be_63 : decode cX3_be 63 = .ok (.getfield 25, 3) := dk_180 0 25 (dk_at dksX3_be_2 17 rfl rfl)
theorem dX3_be_66 : decode cX3_be 66 = .ok (.iconst 0, 1) := dk_3 (dk_at dksX3_be_2 20 rfl rfl)
theorem dX3_be_67 : decode cX3_be 67 = .ok (.aload_n 0, 1) := dk_42 (dk_at dksX3_be_2 21 rfl rfl)
theorem dX3_be_68 : decode cX3_be 68 = .ok (.getfield 25, 3) := dk_180 0 25 (dk_at dksX3_be_3 0 rfl rfl)
theorem dX3_be_71 : decode cX3_be 71 = .ok (.iconst 0, 1) := dk_3 (dk_at dksX3_be_3 3 rfl rfl)
theorem dX3_be_72 : decode cX3_be 72 = .ok (.bipush 12, 2) := dk_16 12 (dk_at dksX3_be_3 4 rfl rfl)
theorem dX3_be_74 : decode cX3_be 74 = .ok (.invokestatic 67, 3) := dk_184 0 67 (dk_at dksX3_be_3 6 rfl rfl)
theorem dX3_be_77 : decode cX3_be 77 = .ok (.aload_n 1, 1) := dk_43 (dk_at dksX3_be_3 9 rfl rfl)
theorem dX3_be_78 : decode cX3_be 78 = .ok (.getfield 29, 3) := dk_180 0 29 (dk_at dksX3_be_3 10 rfl rfl)
theorem dX3_be_81 : decode cX3_be 81 = .ok (.iconst 0, 1) := dk_3 (dk_at dksX3_be_3 13 rfl rfl)
theorem dX3_be_82 : decode cX3_be 82 = .ok (.aload_n 0, 1) := dk_42 (dk_at dksX3_be_3 14 rfl rfl)
theorem dX3_be_83 : decode cX3_be 83 = .ok (.getfield 29, 3) := dk_180 0 29 (dk_at dksX3_be_3 15 rfl rfl)
theorem dX3_be_86 : decode cX3_be 86 = .ok (.iconst 0, 1) := dk_3 (dk_at dksX3_be_3 18 rfl rfl)
theorem dX3_be_87 : decode cX3_be 87 = .ok (.bipush 10, 2) := dk_16 10 (dk_at dksX3_be_3 19 rfl rfl)
theorem dX3_be_89 : decode cX3_be 89 = .ok (.invokestatic 67, 3) := dk_184 0 67 (dk_at dksX3_be_3 21 rfl rfl)
theorem dX3_be_92 : decode cX3_be 92 = .ok (.aload_n 1, 1) := dk_43 (dk_at dksX3_be_4 0 rfl rfl)
theorem dX3_be_93 : decode cX3_be 93 = .ok (.getfield 36, 3) := dk_180 0 36 (dk_at dksX3_be_4 1 rfl rfl)
theorem dX3_be_96 : decode cX3_be 96 = .ok (.iconst 0, 1) := dk_3 (dk_at dksX3_be_4 4 rfl rfl)
theorem dX3_be_97 : decode cX3_be 97 = .ok (.aload_n 0, 1) := dk_42 (dk_at dksX3_be_4 5 rfl rfl)
theorem dX3_be_98 : decode cX3_be 98 = .ok (.getfield 36, 3) := dk_180 0 36 (dk_at dksX3_be_4 6 rfl rfl)
theorem dX3_be_101 : decode cX3_be 101 = .ok (.iconst 0, 1) := dk_3 (dk_at dksX3_be_4 9 rfl rfl)
theorem dX3_be_102 : decode cX3_be 102 = .ok (.sipush 240, 3) := dk_17 0 240 (dk_at dksX3_be_4 10 rfl rfl)
theorem dX3_be_105 : decode cX3_be 105 = .ok (.invokestatic 67, 3) := dk_184 0 67 (dk_at dksX3_be_4 13 rfl rfl)
theorem dX3_be_108 : decode cX3_be 108 = .ok (.aload_n 0, 1) := dk_42 (dk_at dksX3_be_4 16 rfl rfl)
theorem dX3_be_109 : decode cX3_be 109 = .ok (.aload_n 1, 1) := dk_43 (dk_at dksX3_be_4 17 rfl rfl)
theorem dX3_be_110 : decode cX3_be 110 = .ok (.getfield 54, 3) := dk_180 0 54 (dk_at dksX3_be_4 18 rfl rfl)
theorem dX3_be_113 : decode cX3_be 113 = .ok (.putfield 54, 3) := dk_181 0 54 (dk_at dksX3_be_4 21 rfl rfl)
theorem dX3_be_116 : decode cX3_be 116 = .ok (.aload_n 0, 1) := dk_42 (dk_at dksX3_be_5 0 rfl rfl)
theorem dX3_be_117 : decode cX3_be 117 = .ok (.aload_n 1, 1) := dk_43 (dk_at dksX3_be_5 1 rfl rfl)
theorem dX3_be_118 : decode cX3_be 118 = .ok (.getfield 61, 3) := dk_180 0 61 (dk_at dksX3_be_5 2 rfl rfl)
theorem dX3_be_121 : decode cX3_be 121 = .ok (.putfield 61, 3) := dk_181 0 61 (dk_at dksX3_be_5 5 rfl rfl)
theorem dX3_be_124 : decode cX3_be 124 = .ok (.aload_n 0, 1) := dk_42 (dk_at dksX3_be_5 8 rfl rfl)
theorem dX3_be_125 : decode cX3_be 125 = .ok (.aload_n 1, 1) := dk_43 (dk_at dksX3_be_5 9 rfl rfl)
theorem dX3_be_126 : decode cX3_be 126 = .ok (.getfield 39, 3) := dk_180 0 39 (dk_at dksX3_be_5 10 rfl rfl)
theorem dX3_be_129 : decode cX3_be 129 = .ok (.putfield 39, 3) := dk_181 0 39 (dk_at dksX3_be_5 13 rfl rfl)
theorem dX3_be_132 : decode cX3_be 132 = .ok (.aload_n 0, 1) := dk_42 (dk_at dksX3_be_5 16 rfl rfl)
theorem dX3_be_133 : decode cX3_be 133 = .ok (.aload_n 1, 1) := dk_43 (dk_at dksX3_be_5 17 rfl rfl)
theorem dX3_be_134 : decode cX3_be 134 = .ok (.getfield 73, 3) := dk_180 0 73 (dk_at dksX3_be_5 18 rfl rfl)
theorem dX3_be_137 : decode cX3_be 137 = .ok (.putfield 73, 3) := dk_181 0 73 (dk_at dksX3_be_5 21 rfl rfl)
theorem dX3_be_140 : decode cX3_be 140 = .ok (.aload_n 0, 1) := dk_42 (dk_at dksX3_be_6 0 rfl rfl)
theorem dX3_be_141 : decode cX3_be 141 = .ok (.aload_n 1, 1) := dk_43 (dk_at dksX3_be_6 1 rfl rfl)
theorem dX3_be_142 : decode cX3_be 142 = .ok (.getfield 76, 3) := dk_180 0 76 (dk_at dksX3_be_6 2 rfl rfl)
theorem dX3_be_145 : decode cX3_be 145 = .ok (.putfield 76, 3) := dk_181 0 76 (dk_at dksX3_be_6 5 rfl rfl)
theorem dX3_be_148 : decode cX3_be 148 = .ok (.aload_n 0, 1) := dk_42 (dk_at dksX3_be_6 8 rfl rfl)
theorem dX3_be_149 : decode cX3_be 149 = .ok (.aload_n 1, 1) := dk_43 (dk_at dksX3_be_6 9 rfl rfl)
theorem dX3_be_150 : decode cX3_be 150 = .ok (.getfield 43, 3) := dk_180 0 43 (dk_at dksX3_be_6 10 rfl rfl)
theorem dX3_be_153 : decode cX3_be 153 = .ok (.putfield 43, 3) := dk_181 0 43 (dk_at dksX3_be_6 13 rfl rfl)
theorem dX3_be_156 : decode cX3_be 156 = .ok (.aload_n 0, 1) := dk_42 (dk_at dksX3_be_6 16 rfl rfl)
theorem dX3_be_157 : decode cX3_be 157 = .ok (.aload_n 1, 1) := dk_43 (dk_at dksX3_be_6 17 rfl rfl)
theorem dX3_be_158 : decode cX3_be 158 = .ok (.getfield 46, 3) := dk_180 0 46 (dk_at dksX3_be_6 18 rfl rfl)
theorem dX3_be_161 : decode cX3_be 161 = .ok (.putfield 46, 3) := dk_181 0 46 (dk_at dksX3_be_6 21 rfl rfl)
theorem dX3_be_164 : decode cX3_be 164 = .ok (.aload_n 0, 1) := dk_42 (dk_at dksX3_be_7 0 rfl rfl)
theorem dX3_be_165 : decode cX3_be 165 = .ok (.aload_n 1, 1) := dk_43 (dk_at dksX3_be_7 1 rfl rfl)
theorem dX3_be_166 : decode cX3_be 166 = .ok (.getfield 49, 3) := dk_180 0 49 (dk_at dksX3_be_7 2 rfl rfl)
theorem dX3_be_169 : decode cX3_be 169 = .ok (.putfield 49, 3) := dk_181 0 49 (dk_at dksX3_be_7 5 rfl rfl)
theorem dX3_be_172 : decode cX3_be 172 = .ok (.aload_n 0, 1) := dk_42 (dk_at dksX3_be_7 8 rfl rfl)
theorem dX3_be_173 : decode cX3_be 173 = .ok (.aload_n 1, 1) := dk_43 (dk_at dksX3_be_7 9 rfl rfl)
theorem dX3_be_174 : decode cX3_be 174 = .ok (.getfield 79, 3) := dk_180 0 79 (dk_at dksX3_be_7 10 rfl rfl)
theorem dX3_be_177 : decode cX3_be 177 = .ok (.putfield 79, 3) := dk_181 0 79 (dk_at dksX3_be_7 13 rfl rfl)
theorem dX3_be_180 : decode cX3_be 180 = .ok (.return_, 1) := dk_177 (dk_at dksX3_be_7 16 rfl rfl)
abbrev cX3_takes : ByteArray := prog_11_method_10_code
def yX3_takes : MethodName := ⟨RX3, "takes", "(I)V"⟩
def dkwX3_takes_0 : List UInt8 := [42, 180, 0, 11, 42, 180, 0, 29, 27, 46, 50, 2, 181, 0, 121, 42, 180, 0, 29, 27, 2, 79, 177]
abbrev dktX3_takes_0 : List UInt8 := dkwX3_takes_0 ++ []
theorem dksX3_takes_0 : cX3_takes.data.toList.drop 0 = dktX3_takes_0 := by decide +kernel
theorem dX3_takes_0 : decode cX3_takes 0 = .ok (.aload_n 0, 1) := dk_42 (dk_at dksX3_takes_0 0 rfl rfl)
theorem dX3_takes_1 : decode cX3_takes 1 = .ok (.getfield 11, 3) := dk_180 0 11 (dk_at dksX3_takes_0 1 rfl rfl)
theorem dX3_takes_4 : decode cX3_takes 4 = .ok (.aload_n 0, 1) := dk_42 (dk_at dksX3_takes_0 4 rfl rfl)
theorem dX3_takes_5 : decode cX3_takes 5 = .ok (.getfield 29, 3) := dk_180 0 29 (dk_at dksX3_takes_0 5 rfl rfl)
theorem dX3_takes_8 : decode cX3_takes 8 = .ok (.iload_n 1, 1) := dk_27 (dk_at dksX3_takes_0 8 rfl rfl)
theorem dX3_takes_9 : decode cX3_takes 9 = .ok (.iaload, 1) := dk_46 (dk_at dksX3_takes_0 9 rfl rfl)
theorem dX3_takes_10 : decode cX3_takes 10 = .ok (.aaload, 1) := dk_50 (dk_at dksX3_takes_0 10 rfl rfl)
theorem dX3_takes_11 : decode cX3_takes 11 = .ok (.iconst (-1), 1) := dk_2 (dk_at dksX3_takes_0 11 rfl rfl)
theorem dX3_takes_12 : decode cX3_takes 12 = .ok (.putfield 121, 3) := dk_181 0 121 (dk_at dksX3_takes_0 12 rfl rfl)
theorem dX3_takes_15 : decode cX3_takes 15 = .ok (.aload_n 0, 1) := dk_42 (dk_at dksX3_takes_0 15 rfl rfl)
theorem dX3_takes_16 : decode cX3_takes 16 = .ok (.getfield 29, 3) := dk_180 0 29 (dk_at dksX3_takes_0 16 rfl rfl)
theorem dX3_takes_19 : decode cX3_takes 19 = .ok (.iload_n 1, 1) := dk_27 (dk_at dksX3_takes_0 19 rfl rfl)
theorem dX3_takes_20 : decode cX3_takes 20 = .ok (.iconst (-1), 1) := dk_2 (dk_at dksX3_takes_0 20 rfl rfl)
theorem dX3_takes_21 : decode cX3_takes 21 = .ok (.iastore, 1) := dk_79 (dk_at dksX3_takes_0 21 rfl rfl)
theorem dX3_takes_22 : decode cX3_takes 22 = .ok (.return_, 1) := dk_177 (dk_at dksX3_takes_0 22 rfl rfl)
abbrev cX3_wears : ByteArray := prog_11_method_6_code
def yX3_wears : MethodName := ⟨RX3, "wears", "(LGhostAssize$One;II)I"⟩
def dkwX3_wears_2 : List UInt8 := [182, 0, 115, 96, 54, 4, 132, 5, 1, 167, 255, 225, 21, 4, 172]
abbrev dktX3_wears_2 : List UInt8 := dkwX3_wears_2 ++ []
def dkwX3_wears_1 : List UInt8 := [54, 5, 21, 5, 42, 180, 0, 39, 162, 0, 28, 21, 4, 42, 180, 0, 25, 21, 5, 50, 42, 180, 0, 33]
abbrev dktX3_wears_1 : List UInt8 := dkwX3_wears_1 ++ dktX3_wears_2
def dkwX3_wears_0 : List UInt8 := [42, 180, 0, 29, 28, 46, 2, 160, 0, 5, 3, 172, 42, 43, 28, 29, 182, 0, 101, 4, 54, 4, 3]
abbrev dktX3_wears_0 : List UInt8 := dkwX3_wears_0 ++ dktX3_wears_1
theorem dksX3_wears_0 : cX3_wears.data.toList.drop 0 = dktX3_wears_0 := by decide +kernel
theorem dksX3_wears_1 : cX3_wears.data.toList.drop 23 = dktX3_wears_1 := dk_seg dksX3_wears_0 23 rfl rfl
theorem dksX3_wears_2 : cX3_wears.data.toList.drop 47 = dktX3_wears_2 := dk_seg dksX3_wears_1 24 rfl rfl
theorem dX3_wears_0 : decode cX3_wears 0 = .ok (.aload_n 0, 1) := dk_42 (dk_at dksX3_wears_0 0 rfl rfl)
theorem dX3_wears_1 : decode cX3_wears 1 = .ok (.getfield 29, 3) := dk_180 0 29 (dk_at dksX3_wears_0 1 rfl rfl)
theorem dX3_wears_4 : decode cX3_wears 4 = .ok (.iload_n 2, 1) := dk_28 (dk_at dksX3_wears_0 4 rfl rfl)
theorem dX3_wears_5 : decode cX3_wears 5 = .ok (.iaload, 1) := dk_46 (dk_at dksX3_wears_0 5 rfl rfl)
theorem dX3_wears_6 : decode cX3_wears 6 = .ok (.iconst (-1), 1) := dk_2 (dk_at dksX3_wears_0 6 rfl rfl)
theorem dX3_wears_7 : decode cX3_wears 7 = .ok (.if_icmp .ne 5, 3) := dk_160 0 5 (dk_at dksX3_wears_0 7 rfl rfl)
theorem dX3_wears_10 : decode cX3_wears 10 = .ok (.iconst 0, 1) := dk_3 (dk_at dksX3_wears_0 10 rfl rfl)
theorem dX3_wears_11 : decode cX3_wears 11 = .ok (.ireturn, 1) := dk_172 (dk_at dksX3_wears_0 11 rfl rfl)
theorem dX3_wears_12 : decode cX3_wears 12 = .ok (.aload_n 0, 1) := dk_42 (dk_at dksX3_wears_0 12 rfl rfl)
theorem dX3_wears_13 : decode cX3_wears 13 = .ok (.aload_n 1, 1) := dk_43 (dk_at dksX3_wears_0 13 rfl rfl)
theorem dX3_wears_14 : decode cX3_wears 14 = .ok (.iload_n 2, 1) := dk_28 (dk_at dksX3_wears_0 14 rfl rfl)
theorem dX3_wears_15 : decode cX3_wears 15 = .ok (.iload_n 3, 1) := dk_29 (dk_at dksX3_wears_0 15 rfl rfl)
theorem dX3_wears_16 : decode cX3_wears 16 = .ok (.invokevirtual 101, 3) := dk_182 0 101 (dk_at dksX3_wears_0 16 rfl rfl)
theorem dX3_wears_19 : decode cX3_wears 19 = .ok (.iconst 1, 1) := dk_4 (dk_at dksX3_wears_0 19 rfl rfl)
theorem dX3_wears_20 : decode cX3_wears 20 = .ok (.istore 4, 2) := dk_54 4 (dk_at dksX3_wears_0 20 rfl rfl)
theorem dX3_wears_22 : decode cX3_wears 22 = .ok (.iconst 0, 1) := dk_3 (dk_at dksX3_wears_0 22 rfl rfl)
theorem dX3_wears_23 : decode cX3_wears 23 = .ok (.istore 5, 2) := dk_54 5 (dk_at dksX3_wears_1 0 rfl rfl)
theorem dX3_wears_25 : decode cX3_wears 25 = .ok (.iload 5, 2) := dk_21 5 (dk_at dksX3_wears_1 2 rfl rfl)
theorem dX3_wears_27 : decode cX3_wears 27 = .ok (.aload_n 0, 1) := dk_42 (dk_at dksX3_wears_1 4 rfl rfl)
theorem dX3_wears_28 : decode cX3_wears 28 = .ok (.getfield 39, 3) := dk_180 0 39 (dk_at dksX3_wears_1 5 rfl rfl)
theorem dX3_wears_31 : decode cX3_wears 31 = .ok (.if_icmp .ge 28, 3) := dk_162 0 28 (dk_at dksX3_wears_1 8 rfl rfl)
theorem dX3_wears_34 : decode cX3_wears 34 = .ok (.iload 4, 2) := dk_21 4 (dk_at dksX3_wears_1 11 rfl rfl)
theorem dX3_wears_36 : decode cX3_wears 36 = .ok (.aload_n 0, 1) := dk_42 (dk_at dksX3_wears_1 13 rfl rfl)
theorem dX3_wears_37 : decode cX3_wears 37 = .ok (.getfield 25, 3) := dk_180 0 25 (dk_at dksX3_wears_1 14 rfl rfl)
theorem dX3_wears_40 : decode cX3_wears 40 = .ok (.iload 5, 2) := dk_21 5 (dk_at dksX3_wears_1 17 rfl rfl)
theorem dX3_wears_42 : decode cX3_wears 42 = .ok (.aaload, 1) := dk_50 (dk_at dksX3_wears_1 19 rfl rfl)
theorem dX3_wears_43 : decode cX3_wears 43 = .ok (.aload_n 0, 1) := dk_42 (dk_at dksX3_wears_1 20 rfl rfl)
theorem dX3_wears_44 : decode cX3_wears 44 = .ok (.getfield 33, 3) := dk_180 0 33 (dk_at dksX3_wears_1 21 rfl rfl)
theorem dX3_wears_47 : decode cX3_wears 47 = .ok (.invokevirtual 115, 3) := dk_182 0 115 (dk_at dksX3_wears_2 0 rfl rfl)
theorem dX3_wears_50 : decode cX3_wears 50 = .ok (.iadd, 1) := dk_96 (dk_at dksX3_wears_2 3 rfl rfl)
theorem dX3_wears_51 : decode cX3_wears 51 = .ok (.istore 4, 2) := dk_54 4 (dk_at dksX3_wears_2 4 rfl rfl)
theorem dX3_wears_53 : decode cX3_wears 53 = .ok (.iinc 5 1, 3) := dk_132 5 1 (dk_at dksX3_wears_2 6 rfl rfl)
theorem dX3_wears_56 : decode cX3_wears 56 = .ok (.goto (-31), 3) := dk_167 255 225 (dk_at dksX3_wears_2 9 rfl rfl)
theorem dX3_wears_59 : decode cX3_wears 59 = .ok (.iload 4, 2) := dk_21 4 (dk_at dksX3_wears_2 12 rfl rfl)
theorem dX3_wears_61 : decode cX3_wears 61 = .ok (.ireturn, 1) := dk_172 (dk_at dksX3_wears_2 14 rfl rfl)
abbrev cX3_draw : ByteArray := prog_11_method_3_code
def yX3_draw : MethodName := ⟨RX3, "draw", "(I)I"⟩
def dkwX3_draw_1 : List UInt8 := [17, 127, 255, 126, 27, 112, 172]
abbrev dktX3_draw_1 : List UInt8 := dkwX3_draw_1 ++ []
def dkwX3_draw_0 : List UInt8 := [42, 18, 82, 42, 180, 0, 49, 104, 17, 48, 57, 96, 181, 0, 49, 42, 180, 0, 49, 16, 16, 124]
abbrev dktX3_draw_0 : List UInt8 := dkwX3_draw_0 ++ dktX3_draw_1
theorem dksX3_draw_0 : cX3_draw.data.toList.drop 0 = dktX3_draw_0 := by decide +kernel
theorem dksX3_draw_1 : cX3_draw.data.toList.drop 22 = dktX3_draw_1 := dk_seg dksX3_draw_0 22 rfl rfl
theorem dX3_draw_0 : decode cX3_draw 0 = .ok (.aload_n 0, 1) := dk_42 (dk_at dksX3_draw_0 0 rfl rfl)
theorem dX3_draw_1 : decode cX3_draw 1 = .ok (.ldc 82, 2) := dk_18 82 (dk_at dksX3_draw_0 1 rfl rfl)
theorem dX3_draw_3 : decode cX3_draw 3 = .ok (.aload_n 0, 1) := dk_42 (dk_at dksX3_draw_0 3 rfl rfl)
theorem dX3_draw_4 : decode cX3_draw 4 = .ok (.getfield 49, 3) := dk_180 0 49 (dk_at dksX3_draw_0 4 rfl rfl)
theorem dX3_draw_7 : decode cX3_draw 7 = .ok (.imul, 1) := dk_104 (dk_at dksX3_draw_0 7 rfl rfl)
theorem dX3_draw_8 : decode cX3_draw 8 = .ok (.sipush 12345, 3) := dk_17 48 57 (dk_at dksX3_draw_0 8 rfl rfl)
theorem dX3_draw_11 : decode cX3_draw 11 = .ok (.iadd, 1) := dk_96 (dk_at dksX3_draw_0 11 rfl rfl)
theorem dX3_draw_12 : decode cX3_draw 12 = .ok (.putfield 49, 3) := dk_181 0 49 (dk_at dksX3_draw_0 12 rfl rfl)
theorem dX3_draw_15 : decode cX3_draw 15 = .ok (.aload_n 0, 1) := dk_42 (dk_at dksX3_draw_0 15 rfl rfl)
theorem dX3_draw_16 : decode cX3_draw 16 = .ok (.getfield 49, 3) := dk_180 0 49 (dk_at dksX3_draw_0 16 rfl rfl)
theorem dX3_draw_19 : decode cX3_draw 19 = .ok (.bipush 16, 2) := dk_16 16 (dk_at dksX3_draw_0 19 rfl rfl)
theorem dX3_draw_21 : decode cX3_draw 21 = .ok (.iushr, 1) := dk_124 (dk_at dksX3_draw_0 21 rfl rfl)
theorem dX3_draw_22 : decode cX3_draw 22 = .ok (.sipush 32767, 3) := dk_17 127 255 (dk_at dksX3_draw_1 0 rfl rfl)
theorem dX3_draw_25 : decode cX3_draw 25 = .ok (.iand, 1) := dk_126 (dk_at dksX3_draw_1 3 rfl rfl)
theorem dX3_draw_26 : decode cX3_draw 26 = .ok (.iload_n 1, 1) := dk_27 (dk_at dksX3_draw_1 4 rfl rfl)
theorem dX3_draw_27 : decode cX3_draw 27 = .ok (.irem, 1) := dk_112 (dk_at dksX3_draw_1 5 rfl rfl)
theorem dX3_draw_28 : decode cX3_draw 28 = .ok (.ireturn, 1) := dk_172 (dk_at dksX3_draw_1 6 rfl rfl)
abbrev cX3_those : ByteArray := prog_11_method_12_code
def yX3_those : MethodName := ⟨RX3, "those", "(I)I"⟩
def dkwX3_those_1 : List UInt8 := [160, 0, 9, 4, 29, 120, 167, 0, 4, 3, 128, 61, 132, 3, 1, 167, 255, 222, 28, 172]
abbrev dktX3_those_1 : List UInt8 := dkwX3_those_1 ++ []
def dkwX3_those_0 : List UInt8 := [3, 61, 3, 62, 29, 42, 180, 0, 61, 162, 0, 32, 28, 42, 180, 0, 19, 29, 50, 180, 0, 124, 27]
abbrev dktX3_those_0 : List UInt8 := dkwX3_those_0 ++ dktX3_those_1
theorem dksX3_those_0 : cX3_those.data.toList.drop 0 = dktX3_those_0 := by decide +kernel
theorem dksX3_those_1 : cX3_those.data.toList.drop 23 = dktX3_those_1 := dk_seg dksX3_those_0 23 rfl rfl
theorem dX3_those_0 : decode cX3_those 0 = .ok (.iconst 0, 1) := dk_3 (dk_at dksX3_those_0 0 rfl rfl)
theorem dX3_those_1 : decode cX3_those 1 = .ok (.istore_n 2, 1) := dk_61 (dk_at dksX3_those_0 1 rfl rfl)
theorem dX3_those_2 : decode cX3_those 2 = .ok (.iconst 0, 1) := dk_3 (dk_at dksX3_those_0 2 rfl rfl)
theorem dX3_those_3 : decode cX3_those 3 = .ok (.istore_n 3, 1) := dk_62 (dk_at dksX3_those_0 3 rfl rfl)
theorem dX3_those_4 : decode cX3_those 4 = .ok (.iload_n 3, 1) := dk_29 (dk_at dksX3_those_0 4 rfl rfl)
theorem dX3_those_5 : decode cX3_those 5 = .ok (.aload_n 0, 1) := dk_42 (dk_at dksX3_those_0 5 rfl rfl)
theorem dX3_those_6 : decode cX3_those 6 = .ok (.getfield 61, 3) := dk_180 0 61 (dk_at dksX3_those_0 6 rfl rfl)
theorem dX3_those_9 : decode cX3_those 9 = .ok (.if_icmp .ge 32, 3) := dk_162 0 32 (dk_at dksX3_those_0 9 rfl rfl)
theorem dX3_those_12 : decode cX3_those 12 = .ok (.iload_n 2, 1) := dk_28 (dk_at dksX3_those_0 12 rfl rfl)
theorem dX3_those_13 : decode cX3_those 13 = .ok (.aload_n 0, 1) := dk_42 (dk_at dksX3_those_0 13 rfl rfl)
theorem dX3_those_14 : decode cX3_those 14 = .ok (.getfield 19, 3) := dk_180 0 19 (dk_at dksX3_those_0 14 rfl rfl)
theorem dX3_those_17 : decode cX3_those 17 = .ok (.iload_n 3, 1) := dk_29 (dk_at dksX3_those_0 17 rfl rfl)
theorem dX3_those_18 : decode cX3_those 18 = .ok (.aaload, 1) := dk_50 (dk_at dksX3_those_0 18 rfl rfl)
theorem dX3_those_19 : decode cX3_those 19 = .ok (.getfield 124, 3) := dk_180 0 124 (dk_at dksX3_those_0 19 rfl rfl)
theorem dX3_those_22 : decode cX3_those 22 = .ok (.iload_n 1, 1) := dk_27 (dk_at dksX3_those_0 22 rfl rfl)
theorem dX3_those_23 : decode cX3_those 23 = .ok (.if_icmp .ne 9, 3) := dk_160 0 9 (dk_at dksX3_those_1 0 rfl rfl)
theorem dX3_those_26 : decode cX3_those 26 = .ok (.iconst 1, 1) := dk_4 (dk_at dksX3_those_1 3 rfl rfl)
theorem dX3_those_27 : decode cX3_those 27 = .ok (.iload_n 3, 1) := dk_29 (dk_at dksX3_those_1 4 rfl rfl)
theorem dX3_those_28 : decode cX3_those 28 = .ok (.ishl, 1) := dk_120 (dk_at dksX3_those_1 5 rfl rfl)
theorem dX3_those_29 : decode cX3_those 29 = .ok (.goto 4, 3) := dk_167 0 4 (dk_at dksX3_those_1 6 rfl rfl)
theorem dX3_those_32 : decode cX3_those 32 = .ok (.iconst 0, 1) := dk_3 (dk_at dksX3_those_1 9 rfl rfl)
theorem dX3_those_33 : decode cX3_those 33 = .ok (.ior, 1) := dk_128 (dk_at dksX3_those_1 10 rfl rfl)
theorem dX3_those_34 : decode cX3_those 34 = .ok (.istore_n 2, 1) := dk_61 (dk_at dksX3_those_1 11 rfl rfl)
theorem dX3_those_35 : decode cX3_those 35 = .ok (.iinc 3 1, 3) := dk_132 3 1 (dk_at dksX3_those_1 12 rfl rfl)
theorem dX3_those_38 : decode cX3_those 38 = .ok (.goto (-34), 3) := dk_167 255 222 (dk_at dksX3_those_1 15 rfl rfl)
theorem dX3_those_41 : decode cX3_those 41 = .ok (.iload_n 2, 1) := dk_28 (dk_at dksX3_those_1 18 rfl rfl)
theorem dX3_those_42 : decode cX3_those 42 = .ok (.ireturn, 1) := dk_172 (dk_at dksX3_those_1 19 rfl rfl)
abbrev cX3_nails : ByteArray := prog_11_method_9_code
def yX3_nails : MethodName := ⟨RX3, "nails", "(II)V"⟩
def dkwX3_nails_0 : List UInt8 := [42, 180, 0, 29, 28, 27, 79, 42, 180, 0, 11, 27, 50, 28, 181, 0, 121, 177]
abbrev dktX3_nails_0 : List UInt8 := dkwX3_nails_0 ++ []
theorem dksX3_nails_0 : cX3_nails.data.toList.drop 0 = dktX3_nails_0 := by decide +kernel
theorem dX3_nails_0 : decode cX3_nails 0 = .ok (.aload_n 0, 1) := dk_42 (dk_at dksX3_nails_0 0 rfl rfl)
theorem dX3_nails_1 : decode cX3_nails 1 = .ok (.getfield 29, 3) := dk_180 0 29 (dk_at dksX3_nails_0 1 rfl rfl)
theorem dX3_nails_4 : decode cX3_nails 4 = .ok (.iload_n 2, 1) := dk_28 (dk_at dksX3_nails_0 4 rfl rfl)
theorem dX3_nails_5 : decode cX3_nails 5 = .ok (.iload_n 1, 1) := dk_27 (dk_at dksX3_nails_0 5 rfl rfl)
theorem dX3_nails_6 : decode cX3_nails 6 = .ok (.iastore, 1) := dk_79 (dk_at dksX3_nails_0 6 rfl rfl)
theorem dX3_nails_7 : decode cX3_nails 7 = .ok (.aload_n 0, 1) := dk_42 (dk_at dksX3_nails_0 7 rfl rfl)
theorem dX3_nails_8 : decode cX3_nails 8 = .ok (.getfield 11, 3) := dk_180 0 11 (dk_at dksX3_nails_0 8 rfl rfl)
theorem dX3_nails_11 : decode cX3_nails 11 = .ok (.iload_n 1, 1) := dk_27 (dk_at dksX3_nails_0 11 rfl rfl)
theorem dX3_nails_12 : decode cX3_nails 12 = .ok (.aaload, 1) := dk_50 (dk_at dksX3_nails_0 12 rfl rfl)
theorem dX3_nails_13 : decode cX3_nails 13 = .ok (.iload_n 2, 1) := dk_28 (dk_at dksX3_nails_0 13 rfl rfl)
theorem dX3_nails_14 : decode cX3_nails 14 = .ok (.putfield 121, 3) := dk_181 0 121 (dk_at dksX3_nails_0 14 rfl rfl)
theorem dX3_nails_17 : decode cX3_nails 17 = .ok (.return_, 1) := dk_177 (dk_at dksX3_nails_0 17 rfl rfl)
abbrev cX3_writes : ByteArray := prog_11_method_11_code
def yX3_writes : MethodName := ⟨RX3, "writes", "(III)V"⟩
def dkwX3_writes_2 : List UInt8 := [21, 4, 6, 96, 29, 79, 42, 89, 180, 0, 79, 4, 96, 181, 0, 79, 177]
abbrev dktX3_writes_2 : List UInt8 := dkwX3_writes_2 ++ []
def dkwX3_writes_1 : List UInt8 := [180, 0, 36, 21, 4, 4, 96, 27, 79, 42, 180, 0, 36, 21, 4, 5, 96, 28, 79, 42, 180, 0, 36]
abbrev dktX3_writes_1 : List UInt8 := dkwX3_writes_1 ++ dktX3_writes_2
def dkwX3_writes_0 : List UInt8 := [42, 180, 0, 79, 16, 60, 112, 7, 104, 54, 4, 42, 180, 0, 36, 21, 4, 42, 180, 0, 76, 79, 42]
abbrev dktX3_writes_0 : List UInt8 := dkwX3_writes_0 ++ dktX3_writes_1
theorem dksX3_writes_0 : cX3_writes.data.toList.drop 0 = dktX3_writes_0 := by decide +kernel
theorem dksX3_writes_1 : cX3_writes.data.toList.drop 23 = dktX3_writes_1 := dk_seg dksX3_writes_0 23 rfl rfl
theorem dksX3_writes_2 : cX3_writes.data.toList.drop 46 = dktX3_writes_2 := dk_seg dksX3_writes_1 23 rfl rfl
theorem dX3_writes_0 : decode cX3_writes 0 = .ok (.aload_n 0, 1) := dk_42 (dk_at dksX3_writes_0 0 rfl rfl)
theorem dX3_writes_1 : decode cX3_writes 1 = .ok (.getfield 79, 3) := dk_180 0 79 (dk_at dksX3_writes_0 1 rfl rfl)
theorem dX3_writes_4 : decode cX3_writes 4 = .ok (.bipush 60, 2) := dk_16 60 (dk_at dksX3_writes_0 4 rfl rfl)
theorem dX3_writes_6 : decode cX3_writes 6 = .ok (.irem, 1) := dk_112 (dk_at dksX3_writes_0 6 rfl rfl)
theorem dX3_writes_7 : decode cX3_writes 7 = .ok (.iconst 4, 1) := dk_7 (dk_at dksX3_writes_0 7 rfl rfl)
theorem dX3_writes_8 : decode cX3_writes 8 = .ok (.imul, 1) := dk_104 (dk_at dksX3_writes_0 8 rfl rfl)
theorem dX3_writes_9 : decode cX3_writes 9 = .ok (.istore 4, 2) := dk_54 4 (dk_at dksX3_writes_0 9 rfl rfl)
theorem dX3_writes_11 : decode cX3_writes 11 = .ok (.aload_n 0, 1) := dk_42 (dk_at dksX3_writes_0 11 rfl rfl)
theorem dX3_writes_12 : decode cX3_writes 12 = .ok (.getfield 36, 3) := dk_180 0 36 (dk_at dksX3_writes_0 12 rfl rfl)
theorem dX3_writes_15 : decode cX3_writes 15 = .ok (.iload 4, 2) := dk_21 4 (dk_at dksX3_writes_0 15 rfl rfl)
theorem dX3_writes_17 : decode cX3_writes 17 = .ok (.aload_n 0, 1) := dk_42 (dk_at dksX3_writes_0 17 rfl rfl)
theorem dX3_writes_18 : decode cX3_writes 18 = .ok (.getfield 76, 3) := dk_180 0 76 (dk_at dksX3_writes_0 18 rfl rfl)
theorem dX3_writes_21 : decode cX3_writes 21 = .ok (.iastore, 1) := dk_79 (dk_at dksX3_writes_0 21 rfl rfl)
theorem dX3_writes_22 : decode cX3_writes 22 = .ok (.aload_n 0, 1) := dk_42 (dk_at dksX3_writes_0 22 rfl rfl)
theorem dX3_writes_23 : decode cX3_writes 23 = .ok (.getfield 36, 3) := dk_180 0 36 (dk_at dksX3_writes_1 0 rfl rfl)
theorem dX3_writes_26 : decode cX3_writes 26 = .ok (.iload 4, 2) := dk_21 4 (dk_at dksX3_writes_1 3 rfl rfl)
theorem dX3_writes_28 : decode cX3_writes 28 = .ok (.iconst 1, 1) := dk_4 (dk_at dksX3_writes_1 5 rfl rfl)
theorem dX3_writes_29 : decode cX3_writes 29 = .ok (.iadd, 1) := dk_96 (dk_at dksX3_writes_1 6 rfl rfl)
theorem dX3_writes_30 : decode cX3_writes 30 = .ok (.iload_n 1, 1) := dk_27 (dk_at dksX3_writes_1 7 rfl rfl)
theorem dX3_writes_31 : decode cX3_writes 31 = .ok (.iastore, 1) := dk_79 (dk_at dksX3_writes_1 8 rfl rfl)
theorem dX3_writes_32 : decode cX3_writes 32 = .ok (.aload_n 0, 1) := dk_42 (dk_at dksX3_writes_1 9 rfl rfl)
theorem dX3_writes_33 : decode cX3_writes 33 = .ok (.getfield 36, 3) := dk_180 0 36 (dk_at dksX3_writes_1 10 rfl rfl)
theorem dX3_writes_36 : decode cX3_writes 36 = .ok (.iload 4, 2) := dk_21 4 (dk_at dksX3_writes_1 13 rfl rfl)
theorem dX3_writes_38 : decode cX3_writes 38 = .ok (.iconst 2, 1) := dk_5 (dk_at dksX3_writes_1 15 rfl rfl)
theorem dX3_writes_39 : decode cX3_writes 39 = .ok (.iadd, 1) := dk_96 (dk_at dksX3_writes_1 16 rfl rfl)
theorem dX3_writes_40 : decode cX3_writes 40 = .ok (.iload_n 2, 1) := dk_28 (dk_at dksX3_writes_1 17 rfl rfl)
theorem dX3_writes_41 : decode cX3_writes 41 = .ok (.iastore, 1) := dk_79 (dk_at dksX3_writes_1 18 rfl rfl)
theorem dX3_writes_42 : decode cX3_writes 42 = .ok (.aload_n 0, 1) := dk_42 (dk_at dksX3_writes_1 19 rfl rfl)
theorem dX3_writes_43 : decode cX3_writes 43 = .ok (.getfield 36, 3) := dk_180 0 36 (dk_at dksX3_writes_1 20 rfl rfl)
theorem dX3_writes_46 : decode cX3_writes 46 = .ok (.iload 4, 2) := dk_21 4 (dk_at dksX3_writes_2 0 rfl rfl)
theorem dX3_writes_48 : decode cX3_writes 48 = .ok (.iconst 3, 1) := dk_6 (dk_at dksX3_writes_2 2 rfl rfl)
theorem dX3_writes_49 : decode cX3_writes 49 = .ok (.iadd, 1) := dk_96 (dk_at dksX3_writes_2 3 rfl rfl)
theorem dX3_writes_50 : decode cX3_writes 50 = .ok (.iload_n 3, 1) := dk_29 (dk_at dksX3_writes_2 4 rfl rfl)
theorem dX3_writes_51 : decode cX3_writes 51 = .ok (.iastore, 1) := dk_79 (dk_at dksX3_writes_2 5 rfl rfl)
theorem dX3_writes_52 : decode cX3_writes 52 = .ok (.aload_n 0, 1) := dk_42 (dk_at dksX3_writes_2 6 rfl rfl)
theorem dX3_writes_53 : decode cX3_writes 53 = .ok (.dup, 1) := dk_89 (dk_at dksX3_writes_2 7 rfl rfl)
theorem dX3_writes_54 : decode cX3_writes 54 = .ok (.getfield 79, 3) := dk_180 0 79 (dk_at dksX3_writes_2 8 rfl rfl)
theorem dX3_writes_57 : decode cX3_writes 57 = .ok (.iconst 1, 1) := dk_4 (dk_at dksX3_writes_2 11 rfl rfl)
theorem dX3_writes_58 : decode cX3_writes 58 = .ok (.iadd, 1) := dk_96 (dk_at dksX3_writes_2 12 rfl rfl)
theorem dX3_writes_59 : decode cX3_writes 59 = .ok (.putfield 79, 3) := dk_181 0 79 (dk_at dksX3_writes_2 13 rfl rfl)
theorem dX3_writes_62 : decode cX3_writes 62 = .ok (.return_, 1) := dk_177 (dk_at dksX3_writes_2 16 rfl rfl)
abbrev cX3_isKept : ByteArray := prog_11_method_13_code
def yX3_isKept : MethodName := ⟨RX3, "isKept", "(I)Z"⟩
def dkwX3_isKept_0 : List UInt8 := [27, 155, 0, 20, 27, 16, 60, 42, 180, 0, 79, 184, 0, 127, 162, 0, 7, 4, 167, 0, 4, 3, 172]
abbrev dktX3_isKept_0 : List UInt8 := dkwX3_isKept_0 ++ []
theorem dksX3_isKept_0 : cX3_isKept.data.toList.drop 0 = dktX3_isKept_0 := by decide +kernel
theorem dX3_isKept_0 : decode cX3_isKept 0 = .ok (.iload_n 1, 1) := dk_27 (dk_at dksX3_isKept_0 0 rfl rfl)
theorem dX3_isKept_1 : decode cX3_isKept 1 = .ok (.ifCond .lt 20, 3) := dk_155 0 20 (dk_at dksX3_isKept_0 1 rfl rfl)
theorem dX3_isKept_4 : decode cX3_isKept 4 = .ok (.iload_n 1, 1) := dk_27 (dk_at dksX3_isKept_0 4 rfl rfl)
theorem dX3_isKept_5 : decode cX3_isKept 5 = .ok (.bipush 60, 2) := dk_16 60 (dk_at dksX3_isKept_0 5 rfl rfl)
theorem dX3_isKept_7 : decode cX3_isKept 7 = .ok (.aload_n 0, 1) := dk_42 (dk_at dksX3_isKept_0 7 rfl rfl)
theorem dX3_isKept_8 : decode cX3_isKept 8 = .ok (.getfield 79, 3) := dk_180 0 79 (dk_at dksX3_isKept_0 8 rfl rfl)
theorem dX3_isKept_11 : decode cX3_isKept 11 = .ok (.invokestatic 127, 3) := dk_184 0 127 (dk_at dksX3_isKept_0 11 rfl rfl)
theorem dX3_isKept_14 : decode cX3_isKept 14 = .ok (.if_icmp .ge 7, 3) := dk_162 0 7 (dk_at dksX3_isKept_0 14 rfl rfl)
theorem dX3_isKept_17 : decode cX3_isKept 17 = .ok (.iconst 1, 1) := dk_4 (dk_at dksX3_isKept_0 17 rfl rfl)
theorem dX3_isKept_18 : decode cX3_isKept 18 = .ok (.goto 4, 3) := dk_167 0 4 (dk_at dksX3_isKept_0 18 rfl rfl)
theorem dX3_isKept_21 : decode cX3_isKept 21 = .ok (.iconst 0, 1) := dk_3 (dk_at dksX3_isKept_0 21 rfl rfl)
theorem dX3_isKept_22 : decode cX3_isKept 22 = .ok (.ireturn, 1) := dk_172 (dk_at dksX3_isKept_0 22 rfl rfl)
abbrev cX3_row : ByteArray := prog_11_method_14_code
def yX3_row : MethodName := ⟨RX3, "row", "(II)I"⟩
def dkwX3_row_1 : List UInt8 := [104, 28, 96, 46, 167, 0, 4, 2, 172]
abbrev dktX3_row_1 : List UInt8 := dkwX3_row_1 ++ []
def dkwX3_row_0 : List UInt8 := [42, 27, 182, 0, 130, 153, 0, 26, 42, 180, 0, 36, 42, 180, 0, 79, 4, 100, 27, 100, 16, 60, 112, 7]
abbrev dktX3_row_0 : List UInt8 := dkwX3_row_0 ++ dktX3_row_1
theorem dksX3_row_0 : cX3_row.data.toList.drop 0 = dktX3_row_0 := by decide +kernel
theorem dksX3_row_1 : cX3_row.data.toList.drop 24 = dktX3_row_1 := dk_seg dksX3_row_0 24 rfl rfl
theorem dX3_row_0 : decode cX3_row 0 = .ok (.aload_n 0, 1) := dk_42 (dk_at dksX3_row_0 0 rfl rfl)
theorem dX3_row_1 : decode cX3_row 1 = .ok (.iload_n 1, 1) := dk_27 (dk_at dksX3_row_0 1 rfl rfl)
theorem dX3_row_2 : decode cX3_row 2 = .ok (.invokevirtual 130, 3) := dk_182 0 130 (dk_at dksX3_row_0 2 rfl rfl)
theorem dX3_row_5 : decode cX3_row 5 = .ok (.ifCond .eq 26, 3) := dk_153 0 26 (dk_at dksX3_row_0 5 rfl rfl)
theorem dX3_row_8 : decode cX3_row 8 = .ok (.aload_n 0, 1) := dk_42 (dk_at dksX3_row_0 8 rfl rfl)
theorem dX3_row_9 : decode cX3_row 9 = .ok (.getfield 36, 3) := dk_180 0 36 (dk_at dksX3_row_0 9 rfl rfl)
theorem dX3_row_12 : decode cX3_row 12 = .ok (.aload_n 0, 1) := dk_42 (dk_at dksX3_row_0 12 rfl rfl)
theorem dX3_row_13 : decode cX3_row 13 = .ok (.getfield 79, 3) := dk_180 0 79 (dk_at dksX3_row_0 13 rfl rfl)
theorem dX3_row_16 : decode cX3_row 16 = .ok (.iconst 1, 1) := dk_4 (dk_at dksX3_row_0 16 rfl rfl)
theorem dX3_row_17 : decode cX3_row 17 = .ok (.isub, 1) := dk_100 (dk_at dksX3_row_0 17 rfl rfl)
theorem dX3_row_18 : decode cX3_row 18 = .ok (.iload_n 1, 1) := dk_27 (dk_at dksX3_row_0 18 rfl rfl)
theorem dX3_row_19 : decode cX3_row 19 = .ok (.isub, 1) := dk_100 (dk_at dksX3_row_0 19 rfl rfl)
theorem dX3_row_20 : decode cX3_row 20 = .ok (.bipush 60, 2) := dk_16 60 (dk_at dksX3_row_0 20 rfl rfl)
theorem dX3_row_22 : decode cX3_row 22 = .ok (.irem, 1) := dk_112 (dk_at dksX3_row_0 22 rfl rfl)
theorem dX3_row_23 : decode cX3_row 23 = .ok (.iconst 4, 1) := dk_7 (dk_at dksX3_row_0 23 rfl rfl)
theorem dX3_row_24 : decode cX3_row 24 = .ok (.imul, 1) := dk_104 (dk_at dksX3_row_1 0 rfl rfl)
theorem dX3_row_25 : decode cX3_row 25 = .ok (.iload_n 2, 1) := dk_28 (dk_at dksX3_row_1 1 rfl rfl)
theorem dX3_row_26 : decode cX3_row 26 = .ok (.iadd, 1) := dk_96 (dk_at dksX3_row_1 2 rfl rfl)
theorem dX3_row_27 : decode cX3_row 27 = .ok (.iaload, 1) := dk_46 (dk_at dksX3_row_1 3 rfl rfl)
theorem dX3_row_28 : decode cX3_row 28 = .ok (.goto 4, 3) := dk_167 0 4 (dk_at dksX3_row_1 4 rfl rfl)
theorem dX3_row_31 : decode cX3_row 31 = .ok (.iconst (-1), 1) := dk_2 (dk_at dksX3_row_1 7 rfl rfl)
theorem dX3_row_32 : decode cX3_row 32 = .ok (.ireturn, 1) := dk_172 (dk_at dksX3_row_1 8 rfl rfl)
theorem q123 : (Jvm.Cond.initialized "GhostAssize$State") ∈ lw_all := lw_g (lw_at lw_m1 3 rfl) rfl
theorem q180 : (Jvm.Cond.instantiable "GhostAssize$State" (15 : Nat)) ∈ lw_all := lw_g (lw_at lw_m1 60 rfl) rfl
theorem q182 : (Jvm.Cond.instanceMethod ({ cls := "GhostAssize$State", name := "<init>", desc := "()V" } : Jvm.MethodName)) ∈ lw_all := lw_g (lw_at lw_m1 62 rfl) rfl
theorem q183 : (Jvm.Cond.code ({ cls := "GhostAssize$State", name := "<init>", desc := "()V" } : Jvm.MethodName) prog_11_method_1_code (2 : Nat) (Option.none : Option Jvm.ClassFile.FieldType)) ∈ lw_all := lw_g (lw_at lw_m1 63 rfl) rfl
theorem q184 : (Jvm.Cond.methodLink "GhostAssize$State" (3 : Nat) ({ cls := "java/lang/Object", name := "<init>", desc := "()V" } : Jvm.MethodName)) ∈ lw_all := lw_g (lw_at lw_m1 64 rfl) rfl
theorem q185 : (Jvm.Cond.classLink "GhostAssize$State" (9 : Nat) "GhostAssize$Prop") ∈ lw_all := lw_g (lw_at lw_m1 65 rfl) rfl
theorem q187 : (Jvm.Cond.classLink "GhostAssize$State" (17 : Nat) "GhostAssize$One") ∈ lw_all := lw_g (lw_at lw_m1 67 rfl) rfl
theorem q189 : (Jvm.Cond.classLink "GhostAssize$State" (23 : Nat) "GhostAssize$Line") ∈ lw_all := lw_g (lw_at lw_m1 69 rfl) rfl
theorem q191 : (Jvm.Cond.methodLinkNest "GhostAssize$State" (52 : Nat) ({ cls := "GhostAssize$Prop", name := "<init>", desc := "()V" } : Jvm.MethodName) "GhostAssize") ∈ lw_tbl := lw_at lw_m1 71 rfl
theorem q196 : (Jvm.Cond.fieldLinkNest "GhostAssize$State" (98 : Nat) "GhostAssize$Prop" "deed" "I" "GhostAssize") ∈ lw_tbl := lw_at lw_m1 76 rfl
theorem q200 : (Jvm.Cond.fieldLinkNest "GhostAssize$State" (83 : Nat) "GhostAssize$Prop" "jerk" "I" "GhostAssize") ∈ lw_tbl := lw_at lw_m1 80 rfl
theorem q204 : (Jvm.Cond.fieldLinkNest "GhostAssize$State" (86 : Nat) "GhostAssize$Prop" "worn" "I" "GhostAssize") ∈ lw_tbl := lw_at lw_m1 84 rfl
theorem q208 : (Jvm.Cond.fieldLinkNest "GhostAssize$State" (121 : Nat) "GhostAssize$Prop" "slot" "I" "GhostAssize") ∈ lw_tbl := lw_at lw_m1 88 rfl
theorem q223 : (Jvm.Cond.methodLinkNest "GhostAssize$State" (53 : Nat) ({ cls := "GhostAssize$One", name := "<init>", desc := "()V" } : Jvm.MethodName) "GhostAssize") ∈ lw_tbl := lw_at lw_m1 103 rfl
theorem q228 : (Jvm.Cond.fieldLinkNest "GhostAssize$State" (95 : Nat) "GhostAssize$One" "deeds" "I" "GhostAssize") ∈ lw_tbl := lw_at lw_m1 108 rfl
theorem q233 : (Jvm.Cond.fieldLinkNest "GhostAssize$State" (89 : Nat) "GhostAssize$One" "nerve" "I" "GhostAssize") ∈ lw_tbl := lw_at lw_m1 113 rfl
theorem q237 : (Jvm.Cond.fieldLinkNest "GhostAssize$State" (92 : Nat) "GhostAssize$One" "knows" "I" "GhostAssize") ∈ lw_tbl := lw_at lw_m1 117 rfl
theorem q241 : (Jvm.Cond.fieldLinkNest "GhostAssize$State" (124 : Nat) "GhostAssize$One" "state" "I" "GhostAssize") ∈ lw_tbl := lw_at lw_m1 121 rfl
theorem q253 : (Jvm.Cond.fieldLink "GhostAssize$State" (11 : Nat) "GhostAssize$State" "props" "[LGhostAssize$Prop;") ∈ lw_all := lw_g (lw_at lw_m1 133 rfl) rfl
theorem q256 : (Jvm.Cond.fieldLink "GhostAssize$State" (19 : Nat) "GhostAssize$State" "ones" "[LGhostAssize$One;") ∈ lw_all := lw_g (lw_at lw_m1 136 rfl) rfl
theorem q259 : (Jvm.Cond.fieldLink "GhostAssize$State" (25 : Nat) "GhostAssize$State" "law" "[LGhostAssize$Line;") ∈ lw_all := lw_g (lw_at lw_m1 139 rfl) rfl
theorem q261 : (Jvm.Cond.fieldLink "GhostAssize$State" (29 : Nat) "GhostAssize$State" "slots" "[I") ∈ lw_all := lw_g (lw_at lw_m1 141 rfl) rfl
theorem q265 : (Jvm.Cond.fieldLink "GhostAssize$State" (33 : Nat) "GhostAssize$State" "facts" "[I") ∈ lw_all := lw_g (lw_at lw_m1 145 rfl) rfl
theorem q266 : (Jvm.Cond.fieldLink "GhostAssize$State" (36 : Nat) "GhostAssize$State" "rows" "[I") ∈ lw_all := lw_g (lw_at lw_m1 146 rfl) rfl
theorem q267 : (Jvm.Cond.fieldLink "GhostAssize$State" (54 : Nat) "GhostAssize$State" "propMany" "I") ∈ lw_all := lw_g (lw_at lw_m1 147 rfl) rfl
theorem q270 : (Jvm.Cond.fieldLink "GhostAssize$State" (61 : Nat) "GhostAssize$State" "oneMany" "I") ∈ lw_all := lw_g (lw_at lw_m1 150 rfl) rfl
theorem q273 : (Jvm.Cond.fieldLink "GhostAssize$State" (39 : Nat) "GhostAssize$State" "lawMany" "I") ∈ lw_all := lw_g (lw_at lw_m1 153 rfl) rfl
theorem q275 : (Jvm.Cond.fieldLink "GhostAssize$State" (73 : Nat) "GhostAssize$State" "texts" "I") ∈ lw_all := lw_g (lw_at lw_m1 155 rfl) rfl
theorem q277 : (Jvm.Cond.fieldLink "GhostAssize$State" (76 : Nat) "GhostAssize$State" "day" "I") ∈ lw_all := lw_g (lw_at lw_m1 157 rfl) rfl
theorem q280 : (Jvm.Cond.fieldLink "GhostAssize$State" (43 : Nat) "GhostAssize$State" "calm" "I") ∈ lw_all := lw_g (lw_at lw_m1 160 rfl) rfl
theorem q283 : (Jvm.Cond.fieldLink "GhostAssize$State" (46 : Nat) "GhostAssize$State" "echo" "I") ∈ lw_all := lw_g (lw_at lw_m1 163 rfl) rfl
theorem q286 : (Jvm.Cond.fieldLink "GhostAssize$State" (49 : Nat) "GhostAssize$State" "seed" "I") ∈ lw_all := lw_g (lw_at lw_m1 166 rfl) rfl
theorem q288 : (Jvm.Cond.fieldLink "GhostAssize$State" (79 : Nat) "GhostAssize$State" "rowMany" "I") ∈ lw_all := lw_g (lw_at lw_m1 168 rfl) rfl
theorem q290 : (Jvm.Cond.laysFinal "GhostAssize$State" "GhostAssize$State" "props" "[LGhostAssize$Prop;") ∈ lw_all := lw_g (lw_at lw_m1 170 rfl) rfl
theorem q291 : (Jvm.Cond.soleField "GhostAssize$State" "props") ∈ lw_all := lw_g (lw_at lw_m1 171 rfl) rfl
theorem q292 : (Jvm.Cond.laysFinal "GhostAssize$State" "GhostAssize$State" "ones" "[LGhostAssize$One;") ∈ lw_all := lw_g (lw_at lw_m1 172 rfl) rfl
theorem q293 : (Jvm.Cond.soleField "GhostAssize$State" "ones") ∈ lw_all := lw_g (lw_at lw_m1 173 rfl) rfl
theorem q294 : (Jvm.Cond.laysFinal "GhostAssize$State" "GhostAssize$State" "law" "[LGhostAssize$Line;") ∈ lw_all := lw_g (lw_at lw_m1 174 rfl) rfl
theorem q295 : (Jvm.Cond.soleField "GhostAssize$State" "law") ∈ lw_all := lw_g (lw_at lw_m1 175 rfl) rfl
theorem q296 : (Jvm.Cond.laysFinal "GhostAssize$State" "GhostAssize$State" "slots" "[I") ∈ lw_all := lw_g (lw_at lw_m1 176 rfl) rfl
theorem q297 : (Jvm.Cond.soleField "GhostAssize$State" "slots") ∈ lw_all := lw_g (lw_at lw_m1 177 rfl) rfl
theorem q298 : (Jvm.Cond.laysFinal "GhostAssize$State" "GhostAssize$State" "facts" "[I") ∈ lw_all := lw_g (lw_at lw_m1 178 rfl) rfl
theorem q299 : (Jvm.Cond.soleField "GhostAssize$State" "facts") ∈ lw_all := lw_g (lw_at lw_m1 179 rfl) rfl
theorem q300 : (Jvm.Cond.laysFinal "GhostAssize$State" "GhostAssize$State" "rows" "[I") ∈ lw_all := lw_g (lw_at lw_m1 180 rfl) rfl
theorem q301 : (Jvm.Cond.soleField "GhostAssize$State" "rows") ∈ lw_all := lw_g (lw_at lw_m1 181 rfl) rfl
theorem q302 : (Jvm.Cond.lays "GhostAssize$State" "GhostAssize$State" "propMany" "I") ∈ lw_all := lw_g (lw_at lw_m1 182 rfl) rfl
theorem q303 : (Jvm.Cond.soleField "GhostAssize$State" "propMany") ∈ lw_all := lw_g (lw_at lw_m1 183 rfl) rfl
theorem q304 : (Jvm.Cond.lays "GhostAssize$State" "GhostAssize$State" "oneMany" "I") ∈ lw_all := lw_g (lw_at lw_m1 184 rfl) rfl
theorem q305 : (Jvm.Cond.soleField "GhostAssize$State" "oneMany") ∈ lw_all := lw_g (lw_at lw_m1 185 rfl) rfl
theorem q306 : (Jvm.Cond.lays "GhostAssize$State" "GhostAssize$State" "lawMany" "I") ∈ lw_all := lw_g (lw_at lw_m1 186 rfl) rfl
theorem q307 : (Jvm.Cond.soleField "GhostAssize$State" "lawMany") ∈ lw_all := lw_g (lw_at lw_m1 187 rfl) rfl
theorem q308 : (Jvm.Cond.lays "GhostAssize$State" "GhostAssize$State" "texts" "I") ∈ lw_all := lw_g (lw_at lw_m1 188 rfl) rfl
theorem q309 : (Jvm.Cond.soleField "GhostAssize$State" "texts") ∈ lw_all := lw_g (lw_at lw_m1 189 rfl) rfl
theorem q310 : (Jvm.Cond.lays "GhostAssize$State" "GhostAssize$State" "day" "I") ∈ lw_all := lw_g (lw_at lw_m1 190 rfl) rfl
theorem q311 : (Jvm.Cond.soleField "GhostAssize$State" "day") ∈ lw_all := lw_g (lw_at lw_m1 191 rfl) rfl
theorem q312 : (Jvm.Cond.lays "GhostAssize$State" "GhostAssize$State" "calm" "I") ∈ lw_all := lw_g (lw_at lw_m1 192 rfl) rfl
theorem q313 : (Jvm.Cond.soleField "GhostAssize$State" "calm") ∈ lw_all := lw_g (lw_at lw_m1 193 rfl) rfl
theorem q314 : (Jvm.Cond.lays "GhostAssize$State" "GhostAssize$State" "echo" "I") ∈ lw_all := lw_g (lw_at lw_m1 194 rfl) rfl
theorem q315 : (Jvm.Cond.soleField "GhostAssize$State" "echo") ∈ lw_all := lw_g (lw_at lw_m1 195 rfl) rfl
theorem q316 : (Jvm.Cond.lays "GhostAssize$State" "GhostAssize$State" "seed" "I") ∈ lw_all := lw_g (lw_at lw_m1 196 rfl) rfl
theorem q317 : (Jvm.Cond.soleField "GhostAssize$State" "seed") ∈ lw_all := lw_g (lw_at lw_m1 197 rfl) rfl
theorem q318 : (Jvm.Cond.lays "GhostAssize$State" "GhostAssize$State" "rowMany" "I") ∈ lw_all := lw_g (lw_at lw_m1 198 rfl) rfl
theorem q319 : (Jvm.Cond.soleField "GhostAssize$State" "rowMany") ∈ lw_all := lw_g (lw_at lw_m1 199 rfl) rfl
theorem q320 : (Jvm.Cond.superclass "GhostAssize$State" "java/lang/Object") ∈ lw_all := lw_g (lw_at lw_m1 200 rfl) rfl
theorem q552 : (Jvm.Cond.instanceMethod ({ cls := "GhostAssize$State", name := "nailed", desc := "()I" } : Jvm.MethodName)) ∈ lw_all := lw_g (lw_at lw_m2 192 rfl) rfl
theorem q553 : (Jvm.Cond.selects "GhostAssize$State" ({ cls := "GhostAssize$State", name := "nailed", desc := "()I" } : Jvm.MethodName) ({ cls := "GhostAssize$State", name := "nailed", desc := "()I" } : Jvm.MethodName)) ∈ lw_all := lw_g (lw_at lw_m2 193 rfl) rfl
theorem q554 : (Jvm.Cond.code ({ cls := "GhostAssize$State", name := "nailed", desc := "()I" } : Jvm.MethodName) prog_11_method_8_code (3 : Nat) (Option.some Jvm.ClassFile.FieldType.int)) ∈ lw_all := lw_g (lw_at lw_m2 194 rfl) rfl
theorem q560 : (Jvm.Cond.instanceMethod ({ cls := "GhostAssize$State", name := "behind", desc := "(LGhostAssize$One;III)I" } : Jvm.MethodName)) ∈ lw_all := lw_g (lw_at lw_m2 200 rfl) rfl
theorem q561 : (Jvm.Cond.selects "GhostAssize$State" ({ cls := "GhostAssize$State", name := "behind", desc := "(LGhostAssize$One;III)I" } : Jvm.MethodName) ({ cls := "GhostAssize$State", name := "behind", desc := "(LGhostAssize$One;III)I" } : Jvm.MethodName)) ∈ lw_all := lw_g (lw_at lw_m2 201 rfl) rfl
theorem q562 : (Jvm.Cond.code ({ cls := "GhostAssize$State", name := "behind", desc := "(LGhostAssize$One;III)I" } : Jvm.MethodName) prog_11_method_7_code (5 : Nat) (Option.some Jvm.ClassFile.FieldType.int)) ∈ lw_all := lw_g (lw_at lw_m2 202 rfl) rfl
theorem q563 : (Jvm.Cond.methodLink "GhostAssize$State" (109 : Nat) ({ cls := "java/lang/Math", name := "max", desc := "(II)I" } : Jvm.MethodName)) ∈ lw_all := lw_g (lw_at lw_m2 203 rfl) rfl
theorem q566 : (Jvm.Cond.methodLink "GhostAssize$State" (118 : Nat) ({ cls := "GhostAssize$State", name := "frights", desc := "(LGhostAssize$One;II)I" } : Jvm.MethodName)) ∈ lw_all := lw_g (lw_at lw_m2 206 rfl) rfl
theorem q567 : (Jvm.Cond.instanceMethod ({ cls := "GhostAssize$State", name := "frights", desc := "(LGhostAssize$One;II)I" } : Jvm.MethodName)) ∈ lw_all := lw_g (lw_at lw_m2 207 rfl) rfl
theorem q568 : (Jvm.Cond.selects "GhostAssize$State" ({ cls := "GhostAssize$State", name := "frights", desc := "(LGhostAssize$One;II)I" } : Jvm.MethodName) ({ cls := "GhostAssize$State", name := "frights", desc := "(LGhostAssize$One;II)I" } : Jvm.MethodName)) ∈ lw_all := lw_g (lw_at lw_m2 208 rfl) rfl
theorem q569 : (Jvm.Cond.code ({ cls := "GhostAssize$State", name := "frights", desc := "(LGhostAssize$One;II)I" } : Jvm.MethodName) prog_11_method_5_code (6 : Nat) (Option.some Jvm.ClassFile.FieldType.int)) ∈ lw_all := lw_g (lw_at lw_m2 209 rfl) rfl
theorem q570 : (Jvm.Cond.methodLink "GhostAssize$State" (101 : Nat) ({ cls := "GhostAssize$State", name := "tells", desc := "(LGhostAssize$One;II)V" } : Jvm.MethodName)) ∈ lw_all := lw_g (lw_at lw_m2 210 rfl) rfl
theorem q571 : (Jvm.Cond.privateMethod ({ cls := "GhostAssize$State", name := "tells", desc := "(LGhostAssize$One;II)V" } : Jvm.MethodName)) ∈ lw_tbl := lw_at lw_m2 211 rfl
theorem q572 : (Jvm.Cond.instanceMethod ({ cls := "GhostAssize$State", name := "tells", desc := "(LGhostAssize$One;II)V" } : Jvm.MethodName)) ∈ lw_all := lw_g (lw_at lw_m2 212 rfl) rfl
theorem q573 : (Jvm.Cond.code ({ cls := "GhostAssize$State", name := "tells", desc := "(LGhostAssize$One;II)V" } : Jvm.MethodName) prog_11_method_4_code (5 : Nat) (Option.none : Option Jvm.ClassFile.FieldType)) ∈ lw_all := lw_g (lw_at lw_m2 213 rfl) rfl
theorem q574 : (Jvm.Cond.methodLink "GhostAssize$State" (105 : Nat) ({ cls := "GhostAssize$Line", name := "frights", desc := "([I)I" } : Jvm.MethodName)) ∈ lw_all := lw_g (lw_at lw_m2 214 rfl) rfl
theorem q673 : (Jvm.Cond.instanceMethod ({ cls := "GhostAssize$State", name := "be", desc := "(LGhostAssize$State;)V" } : Jvm.MethodName)) ∈ lw_all := lw_g (lw_at lw_m3 73 rfl) rfl
theorem q674 : (Jvm.Cond.selects "GhostAssize$State" ({ cls := "GhostAssize$State", name := "be", desc := "(LGhostAssize$State;)V" } : Jvm.MethodName) ({ cls := "GhostAssize$State", name := "be", desc := "(LGhostAssize$State;)V" } : Jvm.MethodName)) ∈ lw_all := lw_g (lw_at lw_m3 74 rfl) rfl
theorem q675 : (Jvm.Cond.code ({ cls := "GhostAssize$State", name := "be", desc := "(LGhostAssize$State;)V" } : Jvm.MethodName) prog_11_method_2_code (3 : Nat) (Option.none : Option Jvm.ClassFile.FieldType)) ∈ lw_all := lw_g (lw_at lw_m3 75 rfl) rfl
theorem q676 : (Jvm.Cond.methodLink "GhostAssize$State" (57 : Nat) ({ cls := "GhostAssize$Prop", name := "be", desc := "(LGhostAssize$Prop;)V" } : Jvm.MethodName)) ∈ lw_all := lw_g (lw_at lw_m3 76 rfl) rfl
theorem q680 : (Jvm.Cond.methodLink "GhostAssize$State" (64 : Nat) ({ cls := "GhostAssize$One", name := "be", desc := "(LGhostAssize$One;)V" } : Jvm.MethodName)) ∈ lw_all := lw_g (lw_at lw_m3 80 rfl) rfl
theorem q684 : (Jvm.Cond.methodLink "GhostAssize$State" (67 : Nat) ({ cls := "java/lang/System", name := "arraycopy", desc := "(Ljava/lang/Object;ILjava/lang/Object;II)V" } : Jvm.MethodName)) ∈ lw_all := lw_g (lw_at lw_m3 84 rfl) rfl
theorem q686 : (Jvm.Cond.instanceMethod ({ cls := "GhostAssize$State", name := "takes", desc := "(I)V" } : Jvm.MethodName)) ∈ lw_all := lw_g (lw_at lw_m3 86 rfl) rfl
theorem q687 : (Jvm.Cond.selects "GhostAssize$State" ({ cls := "GhostAssize$State", name := "takes", desc := "(I)V" } : Jvm.MethodName) ({ cls := "GhostAssize$State", name := "takes", desc := "(I)V" } : Jvm.MethodName)) ∈ lw_all := lw_g (lw_at lw_m3 87 rfl) rfl
theorem q688 : (Jvm.Cond.code ({ cls := "GhostAssize$State", name := "takes", desc := "(I)V" } : Jvm.MethodName) prog_11_method_10_code (2 : Nat) (Option.none : Option Jvm.ClassFile.FieldType)) ∈ lw_all := lw_g (lw_at lw_m3 88 rfl) rfl
theorem q698 : (Jvm.Cond.instanceMethod ({ cls := "GhostAssize$State", name := "wears", desc := "(LGhostAssize$One;II)I" } : Jvm.MethodName)) ∈ lw_all := lw_g (lw_at lw_m3 98 rfl) rfl
theorem q699 : (Jvm.Cond.selects "GhostAssize$State" ({ cls := "GhostAssize$State", name := "wears", desc := "(LGhostAssize$One;II)I" } : Jvm.MethodName) ({ cls := "GhostAssize$State", name := "wears", desc := "(LGhostAssize$One;II)I" } : Jvm.MethodName)) ∈ lw_all := lw_g (lw_at lw_m3 99 rfl) rfl
theorem q700 : (Jvm.Cond.code ({ cls := "GhostAssize$State", name := "wears", desc := "(LGhostAssize$One;II)I" } : Jvm.MethodName) prog_11_method_6_code (6 : Nat) (Option.some Jvm.ClassFile.FieldType.int)) ∈ lw_all := lw_g (lw_at lw_m3 100 rfl) rfl
theorem q701 : (Jvm.Cond.methodLink "GhostAssize$State" (115 : Nat) ({ cls := "GhostAssize$Line", name := "wears", desc := "([I)I" } : Jvm.MethodName)) ∈ lw_all := lw_g (lw_at lw_m3 101 rfl) rfl
theorem q713 : (Jvm.Cond.instanceMethod ({ cls := "GhostAssize$State", name := "draw", desc := "(I)I" } : Jvm.MethodName)) ∈ lw_all := lw_g (lw_at lw_m3 113 rfl) rfl
theorem q714 : (Jvm.Cond.selects "GhostAssize$State" ({ cls := "GhostAssize$State", name := "draw", desc := "(I)I" } : Jvm.MethodName) ({ cls := "GhostAssize$State", name := "draw", desc := "(I)I" } : Jvm.MethodName)) ∈ lw_all := lw_g (lw_at lw_m3 114 rfl) rfl
theorem q715 : (Jvm.Cond.code ({ cls := "GhostAssize$State", name := "draw", desc := "(I)I" } : Jvm.MethodName) prog_11_method_3_code (2 : Nat) (Option.some Jvm.ClassFile.FieldType.int)) ∈ lw_all := lw_g (lw_at lw_m3 115 rfl) rfl
theorem q716 : (Jvm.Cond.constant "GhostAssize$State" (82 : Nat) (1103515245 : Int32)) ∈ lw_all := lw_g (lw_at lw_m3 116 rfl) rfl
theorem q775 : (Jvm.Cond.instanceMethod ({ cls := "GhostAssize$State", name := "those", desc := "(I)I" } : Jvm.MethodName)) ∈ lw_all := lw_g (lw_at lw_m3 175 rfl) rfl
theorem q776 : (Jvm.Cond.selects "GhostAssize$State" ({ cls := "GhostAssize$State", name := "those", desc := "(I)I" } : Jvm.MethodName) ({ cls := "GhostAssize$State", name := "those", desc := "(I)I" } : Jvm.MethodName)) ∈ lw_all := lw_g (lw_at lw_m3 176 rfl) rfl
theorem q777 : (Jvm.Cond.code ({ cls := "GhostAssize$State", name := "those", desc := "(I)I" } : Jvm.MethodName) prog_11_method_12_code (4 : Nat) (Option.some Jvm.ClassFile.FieldType.int)) ∈ lw_all := lw_g (lw_at lw_m3 177 rfl) rfl
theorem q904 : (Jvm.Cond.instanceMethod ({ cls := "GhostAssize$State", name := "nails", desc := "(II)V" } : Jvm.MethodName)) ∈ lw_all := lw_g (lw_at lw_m4 64 rfl) rfl
theorem q905 : (Jvm.Cond.selects "GhostAssize$State" ({ cls := "GhostAssize$State", name := "nails", desc := "(II)V" } : Jvm.MethodName) ({ cls := "GhostAssize$State", name := "nails", desc := "(II)V" } : Jvm.MethodName)) ∈ lw_all := lw_g (lw_at lw_m4 65 rfl) rfl
theorem q906 : (Jvm.Cond.code ({ cls := "GhostAssize$State", name := "nails", desc := "(II)V" } : Jvm.MethodName) prog_11_method_9_code (3 : Nat) (Option.none : Option Jvm.ClassFile.FieldType)) ∈ lw_all := lw_g (lw_at lw_m4 66 rfl) rfl
theorem q1235 : (Jvm.Cond.instanceMethod ({ cls := "GhostAssize$State", name := "writes", desc := "(III)V" } : Jvm.MethodName)) ∈ lw_all := lw_g (lw_at lw_m5 155 rfl) rfl
theorem q1236 : (Jvm.Cond.selects "GhostAssize$State" ({ cls := "GhostAssize$State", name := "writes", desc := "(III)V" } : Jvm.MethodName) ({ cls := "GhostAssize$State", name := "writes", desc := "(III)V" } : Jvm.MethodName)) ∈ lw_all := lw_g (lw_at lw_m5 156 rfl) rfl
theorem q1237 : (Jvm.Cond.code ({ cls := "GhostAssize$State", name := "writes", desc := "(III)V" } : Jvm.MethodName) prog_11_method_11_code (5 : Nat) (Option.none : Option Jvm.ClassFile.FieldType)) ∈ lw_all := lw_g (lw_at lw_m5 157 rfl) rfl
theorem q1415 : (Jvm.Cond.instanceMethod ({ cls := "GhostAssize$State", name := "isKept", desc := "(I)Z" } : Jvm.MethodName)) ∈ lw_all := lw_g (lw_at lw_m6 95 rfl) rfl
theorem q1416 : (Jvm.Cond.selects "GhostAssize$State" ({ cls := "GhostAssize$State", name := "isKept", desc := "(I)Z" } : Jvm.MethodName) ({ cls := "GhostAssize$State", name := "isKept", desc := "(I)Z" } : Jvm.MethodName)) ∈ lw_all := lw_g (lw_at lw_m6 96 rfl) rfl
theorem q1417 : (Jvm.Cond.code ({ cls := "GhostAssize$State", name := "isKept", desc := "(I)Z" } : Jvm.MethodName) prog_11_method_13_code (2 : Nat) (Option.some Jvm.ClassFile.FieldType.boolean)) ∈ lw_all := lw_g (lw_at lw_m6 97 rfl) rfl
theorem q1418 : (Jvm.Cond.methodLink "GhostAssize$State" (127 : Nat) ({ cls := "java/lang/Math", name := "min", desc := "(II)I" } : Jvm.MethodName)) ∈ lw_all := lw_g (lw_at lw_m6 98 rfl) rfl
theorem q1420 : (Jvm.Cond.instanceMethod ({ cls := "GhostAssize$State", name := "row", desc := "(II)I" } : Jvm.MethodName)) ∈ lw_all := lw_g (lw_at lw_m6 100 rfl) rfl
theorem q1421 : (Jvm.Cond.selects "GhostAssize$State" ({ cls := "GhostAssize$State", name := "row", desc := "(II)I" } : Jvm.MethodName) ({ cls := "GhostAssize$State", name := "row", desc := "(II)I" } : Jvm.MethodName)) ∈ lw_all := lw_g (lw_at lw_m6 101 rfl) rfl
theorem q1422 : (Jvm.Cond.code ({ cls := "GhostAssize$State", name := "row", desc := "(II)I" } : Jvm.MethodName) prog_11_method_14_code (3 : Nat) (Option.some Jvm.ClassFile.FieldType.int)) ∈ lw_all := lw_g (lw_at lw_m6 102 rfl) rfl
theorem q1423 : (Jvm.Cond.methodLink "GhostAssize$State" (130 : Nat) ({ cls := "GhostAssize$State", name := "isKept", desc := "(I)Z" } : Jvm.MethodName)) ∈ lw_all := lw_g (lw_at lw_m6 103 rfl) rfl
theorem q2106 : (Jvm.Cond.castable "GhostAssize$State" "java/lang/Object") ∈ lw_tbl := lw_at lw_m9 66 rfl
theorem in_X3 : ∀ w ∈ wsX30, w ∈ lw_all := lw_in wsX30 [290, 292, 294, 296, 298, 300, 302, 304, 306, 308, 310, 312, 314, 316, 318] (by decide +kernel) (by decide +kernel)

/-! GhostAssize$Prop -/
set_option maxRecDepth 100000
def RX4 : String := "GhostAssize$Prop"
def TX4 : u_T := fun k => match k with
  | 0 => ("GhostAssize$Prop", "deed", "I", false)
  | 1 => ("GhostAssize$Prop", "jerk", "I", false)
  | 2 => ("GhostAssize$Prop", "worn", "I", false)
  | _ => ("GhostAssize$Prop", "slot", "I", false)
def tyX4 : Nat → FieldType := fun k => match k with
  | 0 => .int
  | 1 => .int
  | 2 => .int
  | _ => .int
abbrev wsX40 : List Cond := u_ws RX4 TX4 4
theorem nmX4 : ∀ a, a < 4 → ∀ b, b < 4 → a ≠ b → (TX4 a).2.1 ≠ (TX4 b).2.1 := by decide +kernel
theorem tyX4_ok : ∀ k, k < 4 → parseFieldDescriptor (TX4 k).2.2.1 = some (tyX4 k) := by decide +kernel
abbrev cX4_init : ByteArray := prog_9_method_1_code
def yX4_init : MethodName := ⟨RX4, "<init>", "()V"⟩
theorem dX4_init_0 : decode cX4_init 0 = .ok (.aload_n 0, 1) := by decide +kernel
theorem dX4_init_1 : decode cX4_init 1 = .ok (.invokespecial 1, 3) := by decide +kernel
theorem dX4_init_4 : decode cX4_init 4 = .ok (.return_, 1) := by decide +kernel
abbrev cX4_be : ByteArray := prog_9_method_2_code
def yX4_be : MethodName := ⟨RX4, "be", "(LGhostAssize$Prop;)V"⟩
def dkwX4_be_1 : List UInt8 := [42, 43, 180, 0, 19, 181, 0, 19, 177]
abbrev dktX4_be_1 : List UInt8 := dkwX4_be_1 ++ []
def dkwX4_be_0 : List UInt8 := [42, 43, 180, 0, 7, 181, 0, 7, 42, 43, 180, 0, 13, 181, 0, 13, 42, 43, 180, 0, 16, 181, 0, 16]
abbrev dktX4_be_0 : List UInt8 := dkwX4_be_0 ++ dktX4_be_1
theorem dksX4_be_0 : cX4_be.data.toList.drop 0 = dktX4_be_0 := by decide +kernel
theorem dksX4_be_1 : cX4_be.data.toList.drop 24 = dktX4_be_1 := dk_seg dksX4_be_0 24 rfl rfl
theorem dX4_be_0 : decode cX4_be 0 = .ok (.aload_n 0, 1) := dk_42 (dk_at dksX4_be_0 0 rfl rfl)
theorem dX4_be_1 : decode cX4_be 1 = .ok (.aload_n 1, 1) := dk_43 (dk_at dksX4_be_0 1 rfl rfl)
theorem dX4_be_2 : decode cX4_be 2 = .ok (.getfield 7, 3) := dk_180 0 7 (dk_at dksX4_be_0 2 rfl rfl)
theorem dX4_be_5 : decode cX4_be 5 = .ok (.putfield 7, 3) := dk_181 0 7 (dk_at dksX4_be_0 5 rfl rfl)
theorem dX4_be_8 : decode cX4_be 8 = .ok (.aload_n 0, 1) := dk_42 (dk_at dksX4_be_0 8 rfl rfl)
theorem dX4_be_9 : decode cX4_be 9 = .ok (.aload_n 1, 1) := dk_43 (dk_at dksX4_be_0 9 rfl rfl)
theorem dX4_be_10 : decode cX4_be 10 = .ok (.getfield 13, 3) := dk_180 0 13 (dk_at dksX4_be_0 10 rfl rfl)
theorem dX4_be_13 : decode cX4_be 13 = .ok (.putfield 13, 3) := dk_181 0 13 (dk_at dksX4_be_0 13 rfl rfl)
theorem dX4_be_16 : decode cX4_be 16 = .ok (.aload_n 0, 1) := dk_42 (dk_at dksX4_be_0 16 rfl rfl)
theorem dX4_be_17 : decode cX4_be 17 = .ok (.aload_n 1, 1) := dk_43 (dk_at dksX4_be_0 17 rfl rfl)
theorem dX4_be_18 : decode cX4_be 18 = .ok (.getfield 16, 3) := dk_180 0 16 (dk_at dksX4_be_0 18 rfl rfl)
theorem dX4_be_21 : decode cX4_be 21 = .ok (.putfield 16, 3) := dk_181 0 16 (dk_at dksX4_be_0 21 rfl rfl)
theorem dX4_be_24 : decode cX4_be 24 = .ok (.aload_n 0, 1) := dk_42 (dk_at dksX4_be_1 0 rfl rfl)
theorem dX4_be_25 : decode cX4_be 25 = .ok (.aload_n 1, 1) := dk_43 (dk_at dksX4_be_1 1 rfl rfl)
theorem dX4_be_26 : decode cX4_be 26 = .ok (.getfield 19, 3) := dk_180 0 19 (dk_at dksX4_be_1 2 rfl rfl)
theorem dX4_be_29 : decode cX4_be 29 = .ok (.putfield 19, 3) := dk_181 0 19 (dk_at dksX4_be_1 5 rfl rfl)
theorem dX4_be_32 : decode cX4_be 32 = .ok (.return_, 1) := dk_177 (dk_at dksX4_be_1 8 rfl rfl)
theorem q124 : (Jvm.Cond.initialized "GhostAssize$Prop") ∈ lw_all := lw_g (lw_at lw_m1 4 rfl) rfl
theorem q190 : (Jvm.Cond.instantiable "GhostAssize$Prop" (4 : Nat)) ∈ lw_all := lw_g (lw_at lw_m1 70 rfl) rfl
theorem q192 : (Jvm.Cond.instanceMethod ({ cls := "GhostAssize$Prop", name := "<init>", desc := "()V" } : Jvm.MethodName)) ∈ lw_all := lw_g (lw_at lw_m1 72 rfl) rfl
theorem q193 : (Jvm.Cond.code ({ cls := "GhostAssize$Prop", name := "<init>", desc := "()V" } : Jvm.MethodName) prog_9_method_1_code (1 : Nat) (Option.none : Option Jvm.ClassFile.FieldType)) ∈ lw_all := lw_g (lw_at lw_m1 73 rfl) rfl
theorem q194 : (Jvm.Cond.methodLink "GhostAssize$Prop" (1 : Nat) ({ cls := "java/lang/Object", name := "<init>", desc := "()V" } : Jvm.MethodName)) ∈ lw_all := lw_g (lw_at lw_m1 74 rfl) rfl
theorem q195 : (Jvm.Cond.fieldLink "GhostAssize$Prop" (7 : Nat) "GhostAssize$Prop" "deed" "I") ∈ lw_all := lw_g (lw_at lw_m1 75 rfl) rfl
theorem q199 : (Jvm.Cond.fieldLink "GhostAssize$Prop" (13 : Nat) "GhostAssize$Prop" "jerk" "I") ∈ lw_all := lw_g (lw_at lw_m1 79 rfl) rfl
theorem q203 : (Jvm.Cond.fieldLink "GhostAssize$Prop" (16 : Nat) "GhostAssize$Prop" "worn" "I") ∈ lw_all := lw_g (lw_at lw_m1 83 rfl) rfl
theorem q207 : (Jvm.Cond.fieldLink "GhostAssize$Prop" (19 : Nat) "GhostAssize$Prop" "slot" "I") ∈ lw_all := lw_g (lw_at lw_m1 87 rfl) rfl
theorem q211 : (Jvm.Cond.lays "GhostAssize$Prop" "GhostAssize$Prop" "deed" "I") ∈ lw_all := lw_g (lw_at lw_m1 91 rfl) rfl
theorem q212 : (Jvm.Cond.soleField "GhostAssize$Prop" "deed") ∈ lw_all := lw_g (lw_at lw_m1 92 rfl) rfl
theorem q213 : (Jvm.Cond.lays "GhostAssize$Prop" "GhostAssize$Prop" "jerk" "I") ∈ lw_all := lw_g (lw_at lw_m1 93 rfl) rfl
theorem q214 : (Jvm.Cond.soleField "GhostAssize$Prop" "jerk") ∈ lw_all := lw_g (lw_at lw_m1 94 rfl) rfl
theorem q215 : (Jvm.Cond.lays "GhostAssize$Prop" "GhostAssize$Prop" "worn" "I") ∈ lw_all := lw_g (lw_at lw_m1 95 rfl) rfl
theorem q216 : (Jvm.Cond.soleField "GhostAssize$Prop" "worn") ∈ lw_all := lw_g (lw_at lw_m1 96 rfl) rfl
theorem q217 : (Jvm.Cond.lays "GhostAssize$Prop" "GhostAssize$Prop" "slot" "I") ∈ lw_all := lw_g (lw_at lw_m1 97 rfl) rfl
theorem q218 : (Jvm.Cond.soleField "GhostAssize$Prop" "slot") ∈ lw_all := lw_g (lw_at lw_m1 98 rfl) rfl
theorem q219 : (Jvm.Cond.superclass "GhostAssize$Prop" "java/lang/Object") ∈ lw_all := lw_g (lw_at lw_m1 99 rfl) rfl
theorem q677 : (Jvm.Cond.instanceMethod ({ cls := "GhostAssize$Prop", name := "be", desc := "(LGhostAssize$Prop;)V" } : Jvm.MethodName)) ∈ lw_all := lw_g (lw_at lw_m3 77 rfl) rfl
theorem q678 : (Jvm.Cond.selects "GhostAssize$Prop" ({ cls := "GhostAssize$Prop", name := "be", desc := "(LGhostAssize$Prop;)V" } : Jvm.MethodName) ({ cls := "GhostAssize$Prop", name := "be", desc := "(LGhostAssize$Prop;)V" } : Jvm.MethodName)) ∈ lw_all := lw_g (lw_at lw_m3 78 rfl) rfl
theorem q679 : (Jvm.Cond.code ({ cls := "GhostAssize$Prop", name := "be", desc := "(LGhostAssize$Prop;)V" } : Jvm.MethodName) prog_9_method_2_code (2 : Nat) (Option.none : Option Jvm.ClassFile.FieldType)) ∈ lw_all := lw_g (lw_at lw_m3 79 rfl) rfl
theorem q2107 : (Jvm.Cond.castable "GhostAssize$Prop" "java/lang/Object") ∈ lw_tbl := lw_at lw_m9 67 rfl
theorem in_X4 : ∀ w ∈ wsX40, w ∈ lw_all := lw_in wsX40 [211, 213, 215, 217] (by decide +kernel) (by decide +kernel)

/-! GhostAssize$One -/
set_option maxRecDepth 100000
def RX5 : String := "GhostAssize$One"
def TX5 : u_T := fun k => match k with
  | 0 => ("GhostAssize$One", "deeds", "I", false)
  | 1 => ("GhostAssize$One", "nerve", "I", false)
  | 2 => ("GhostAssize$One", "knows", "I", false)
  | _ => ("GhostAssize$One", "state", "I", false)
def tyX5 : Nat → FieldType := fun k => match k with
  | 0 => .int
  | 1 => .int
  | 2 => .int
  | _ => .int
abbrev wsX50 : List Cond := u_ws RX5 TX5 4
theorem nmX5 : ∀ a, a < 4 → ∀ b, b < 4 → a ≠ b → (TX5 a).2.1 ≠ (TX5 b).2.1 := by decide +kernel
theorem tyX5_ok : ∀ k, k < 4 → parseFieldDescriptor (TX5 k).2.2.1 = some (tyX5 k) := by decide +kernel
abbrev cX5_init : ByteArray := prog_8_method_1_code
def yX5_init : MethodName := ⟨RX5, "<init>", "()V"⟩
theorem dX5_init_0 : decode cX5_init 0 = .ok (.aload_n 0, 1) := by decide +kernel
theorem dX5_init_1 : decode cX5_init 1 = .ok (.invokespecial 1, 3) := by decide +kernel
theorem dX5_init_4 : decode cX5_init 4 = .ok (.return_, 1) := by decide +kernel
abbrev cX5_be : ByteArray := prog_8_method_2_code
def yX5_be : MethodName := ⟨RX5, "be", "(LGhostAssize$One;)V"⟩
def dkwX5_be_1 : List UInt8 := [42, 43, 180, 0, 19, 181, 0, 19, 177]
abbrev dktX5_be_1 : List UInt8 := dkwX5_be_1 ++ []
def dkwX5_be_0 : List UInt8 := [42, 43, 180, 0, 7, 181, 0, 7, 42, 43, 180, 0, 13, 181, 0, 13, 42, 43, 180, 0, 16, 181, 0, 16]
abbrev dktX5_be_0 : List UInt8 := dkwX5_be_0 ++ dktX5_be_1
theorem dksX5_be_0 : cX5_be.data.toList.drop 0 = dktX5_be_0 := by decide +kernel
theorem dksX5_be_1 : cX5_be.data.toList.drop 24 = dktX5_be_1 := dk_seg dksX5_be_0 24 rfl rfl
theorem dX5_be_0 : decode cX5_be 0 = .ok (.aload_n 0, 1) := dk_42 (dk_at dksX5_be_0 0 rfl rfl)
theorem dX5_be_1 : decode cX5_be 1 = .ok (.aload_n 1, 1) := dk_43 (dk_at dksX5_be_0 1 rfl rfl)
theorem dX5_be_2 : decode cX5_be 2 = .ok (.getfield 7, 3) := dk_180 0 7 (dk_at dksX5_be_0 2 rfl rfl)
theorem dX5_be_5 : decode cX5_be 5 = .ok (.putfield 7, 3) := dk_181 0 7 (dk_at dksX5_be_0 5 rfl rfl)
theorem dX5_be_8 : decode cX5_be 8 = .ok (.aload_n 0, 1) := dk_42 (dk_at dksX5_be_0 8 rfl rfl)
theorem dX5_be_9 : decode cX5_be 9 = .ok (.aload_n 1, 1) := dk_43 (dk_at dksX5_be_0 9 rfl rfl)
theorem dX5_be_10 : decode cX5_be 10 = .ok (.getfield 13, 3) := dk_180 0 13 (dk_at dksX5_be_0 10 rfl rfl)
theorem dX5_be_13 : decode cX5_be 13 = .ok (.putfield 13, 3) := dk_181 0 13 (dk_at dksX5_be_0 13 rfl rfl)
theorem dX5_be_16 : decode cX5_be 16 = .ok (.aload_n 0, 1) := dk_42 (dk_at dksX5_be_0 16 rfl rfl)
theorem dX5_be_17 : decode cX5_be 17 = .ok (.aload_n 1, 1) := dk_43 (dk_at dksX5_be_0 17 rfl rfl)
theorem dX5_be_18 : decode cX5_be 18 = .ok (.getfield 16, 3) := dk_180 0 16 (dk_at dksX5_be_0 18 rfl rfl)
theorem dX5_be_21 : decode cX5_be 21 = .ok (.putfield 16, 3) := dk_181 0 16 (dk_at dksX5_be_0 21 rfl rfl)
theorem dX5_be_24 : decode cX5_be 24 = .ok (.aload_n 0, 1) := dk_42 (dk_at dksX5_be_1 0 rfl rfl)
theorem dX5_be_25 : decode cX5_be 25 = .ok (.aload_n 1, 1) := dk_43 (dk_at dksX5_be_1 1 rfl rfl)
theorem dX5_be_26 : decode cX5_be 26 = .ok (.getfield 19, 3) := dk_180 0 19 (dk_at dksX5_be_1 2 rfl rfl)
theorem dX5_be_29 : decode cX5_be 29 = .ok (.putfield 19, 3) := dk_181 0 19 (dk_at dksX5_be_1 5 rfl rfl)
theorem dX5_be_32 : decode cX5_be 32 = .ok (.return_, 1) := dk_177 (dk_at dksX5_be_1 8 rfl rfl)
theorem q125 : (Jvm.Cond.initialized "GhostAssize$One") ∈ lw_all := lw_g (lw_at lw_m1 5 rfl) rfl
theorem q222 : (Jvm.Cond.instantiable "GhostAssize$One" (4 : Nat)) ∈ lw_all := lw_g (lw_at lw_m1 102 rfl) rfl
theorem q224 : (Jvm.Cond.instanceMethod ({ cls := "GhostAssize$One", name := "<init>", desc := "()V" } : Jvm.MethodName)) ∈ lw_all := lw_g (lw_at lw_m1 104 rfl) rfl
theorem q225 : (Jvm.Cond.code ({ cls := "GhostAssize$One", name := "<init>", desc := "()V" } : Jvm.MethodName) prog_8_method_1_code (1 : Nat) (Option.none : Option Jvm.ClassFile.FieldType)) ∈ lw_all := lw_g (lw_at lw_m1 105 rfl) rfl
theorem q226 : (Jvm.Cond.methodLink "GhostAssize$One" (1 : Nat) ({ cls := "java/lang/Object", name := "<init>", desc := "()V" } : Jvm.MethodName)) ∈ lw_all := lw_g (lw_at lw_m1 106 rfl) rfl
theorem q227 : (Jvm.Cond.fieldLink "GhostAssize$One" (7 : Nat) "GhostAssize$One" "deeds" "I") ∈ lw_all := lw_g (lw_at lw_m1 107 rfl) rfl
theorem q231 : (Jvm.Cond.fieldLink "GhostAssize$One" (13 : Nat) "GhostAssize$One" "nerve" "I") ∈ lw_all := lw_g (lw_at lw_m1 111 rfl) rfl
theorem q236 : (Jvm.Cond.fieldLink "GhostAssize$One" (16 : Nat) "GhostAssize$One" "knows" "I") ∈ lw_all := lw_g (lw_at lw_m1 116 rfl) rfl
theorem q240 : (Jvm.Cond.fieldLink "GhostAssize$One" (19 : Nat) "GhostAssize$One" "state" "I") ∈ lw_all := lw_g (lw_at lw_m1 120 rfl) rfl
theorem q244 : (Jvm.Cond.lays "GhostAssize$One" "GhostAssize$One" "deeds" "I") ∈ lw_all := lw_g (lw_at lw_m1 124 rfl) rfl
theorem q245 : (Jvm.Cond.soleField "GhostAssize$One" "deeds") ∈ lw_all := lw_g (lw_at lw_m1 125 rfl) rfl
theorem q246 : (Jvm.Cond.lays "GhostAssize$One" "GhostAssize$One" "nerve" "I") ∈ lw_all := lw_g (lw_at lw_m1 126 rfl) rfl
theorem q247 : (Jvm.Cond.soleField "GhostAssize$One" "nerve") ∈ lw_all := lw_g (lw_at lw_m1 127 rfl) rfl
theorem q248 : (Jvm.Cond.lays "GhostAssize$One" "GhostAssize$One" "knows" "I") ∈ lw_all := lw_g (lw_at lw_m1 128 rfl) rfl
theorem q249 : (Jvm.Cond.soleField "GhostAssize$One" "knows") ∈ lw_all := lw_g (lw_at lw_m1 129 rfl) rfl
theorem q250 : (Jvm.Cond.lays "GhostAssize$One" "GhostAssize$One" "state" "I") ∈ lw_all := lw_g (lw_at lw_m1 130 rfl) rfl
theorem q251 : (Jvm.Cond.soleField "GhostAssize$One" "state") ∈ lw_all := lw_g (lw_at lw_m1 131 rfl) rfl
theorem q252 : (Jvm.Cond.superclass "GhostAssize$One" "java/lang/Object") ∈ lw_all := lw_g (lw_at lw_m1 132 rfl) rfl
theorem q681 : (Jvm.Cond.instanceMethod ({ cls := "GhostAssize$One", name := "be", desc := "(LGhostAssize$One;)V" } : Jvm.MethodName)) ∈ lw_all := lw_g (lw_at lw_m3 81 rfl) rfl
theorem q682 : (Jvm.Cond.selects "GhostAssize$One" ({ cls := "GhostAssize$One", name := "be", desc := "(LGhostAssize$One;)V" } : Jvm.MethodName) ({ cls := "GhostAssize$One", name := "be", desc := "(LGhostAssize$One;)V" } : Jvm.MethodName)) ∈ lw_all := lw_g (lw_at lw_m3 82 rfl) rfl
theorem q683 : (Jvm.Cond.code ({ cls := "GhostAssize$One", name := "be", desc := "(LGhostAssize$One;)V" } : Jvm.MethodName) prog_8_method_2_code (2 : Nat) (Option.none : Option Jvm.ClassFile.FieldType)) ∈ lw_all := lw_g (lw_at lw_m3 83 rfl) rfl
theorem q2108 : (Jvm.Cond.castable "GhostAssize$One" "java/lang/Object") ∈ lw_tbl := lw_at lw_m9 68 rfl
theorem in_X5 : ∀ w ∈ wsX50, w ∈ lw_all := lw_in wsX50 [244, 246, 248, 250] (by decide +kernel) (by decide +kernel)

/-! GhostAssize$Wrong -/
set_option maxRecDepth 100000
def RX6 : String := "GhostAssize$Wrong"
def TX6 : u_T := fun k => match k with
  | 0 => ("java/lang/Throwable", "cause", "Ljava/lang/Throwable;", false)
  | 1 => ("java/lang/Throwable", "stackTrace", "[Ljava/lang/StackTraceElement;", false)
  | 2 => ("java/lang/Throwable", "suppressedExceptions", "Ljava/util/List;", false)
  | 3 => ("java/lang/Throwable", "detailMessage", "Ljava/lang/String;", false)
  | 4 => ("java/lang/Throwable", "backtrace", "Ljava/lang/Object;", false)
  | 5 => ("java/lang/Throwable", "depth", "I", false)
  | _ => ("GhostAssize$Wrong", "place", "I", false)
def tyX6 : Nat → FieldType := fun k => match k with
  | 0 => .object "java/lang/Throwable"
  | 1 => .array (.object "java/lang/StackTraceElement")
  | 2 => .object "java/util/List"
  | 3 => .object "java/lang/String"
  | 4 => .object "java/lang/Object"
  | 5 => .int
  | _ => .int
abbrev wsX60 : List Cond := u_ws RX6 TX6 7
theorem nmX6 : ∀ a, a < 7 → ∀ b, b < 7 → a ≠ b → (TX6 a).2.1 ≠ (TX6 b).2.1 := by decide +kernel
theorem tyX6_ok : ∀ k, k < 7 → parseFieldDescriptor (TX6 k).2.2.1 = some (tyX6 k) := by decide +kernel
abbrev cX6_init : ByteArray := prog_16_method_1_code
def yX6_init : MethodName := ⟨RX6, "<init>", "()V"⟩
def dkwX6_init_0 : List UInt8 := [42, 1, 1, 3, 3, 183, 0, 1, 177]
abbrev dktX6_init_0 : List UInt8 := dkwX6_init_0 ++ []
theorem dksX6_init_0 : cX6_init.data.toList.drop 0 = dktX6_init_0 := by decide +kernel
theorem dX6_init_0 : decode cX6_init 0 = .ok (.aload_n 0, 1) := dk_42 (dk_at dksX6_init_0 0 rfl rfl)
theorem dX6_init_1 : decode cX6_init 1 = .ok (.aconst_null, 1) := dk_1 (dk_at dksX6_init_0 1 rfl rfl)
theorem dX6_init_2 : decode cX6_init 2 = .ok (.aconst_null, 1) := dk_1 (dk_at dksX6_init_0 2 rfl rfl)
theorem dX6_init_3 : decode cX6_init 3 = .ok (.iconst 0, 1) := dk_3 (dk_at dksX6_init_0 3 rfl rfl)
theorem dX6_init_4 : decode cX6_init 4 = .ok (.iconst 0, 1) := dk_3 (dk_at dksX6_init_0 4 rfl rfl)
theorem dX6_init_5 : decode cX6_init 5 = .ok (.invokespecial 1, 3) := dk_183 0 1 (dk_at dksX6_init_0 5 rfl rfl)
theorem dX6_init_8 : decode cX6_init 8 = .ok (.return_, 1) := dk_177 (dk_at dksX6_init_0 8 rfl rfl)
theorem q129 : (Jvm.Cond.initialized "GhostAssize$Wrong") ∈ lw_all := lw_g (lw_at lw_m1 9 rfl) rfl
theorem q322 : (Jvm.Cond.instantiable "GhostAssize$Wrong" (7 : Nat)) ∈ lw_all := lw_g (lw_at lw_m1 202 rfl) rfl
theorem q323 : (Jvm.Cond.castable "GhostAssize$Wrong" "GhostAssize$Wrong") ∈ lw_tbl := lw_at lw_m1 203 rfl
theorem q330 : (Jvm.Cond.selects "GhostAssize$Wrong" ({ cls := "java/lang/Throwable", name := "fillInStackTrace", desc := "(I)Ljava/lang/Throwable;" } : Jvm.MethodName) ({ cls := "java/lang/Throwable", name := "fillInStackTrace", desc := "(I)Ljava/lang/Throwable;" } : Jvm.MethodName)) ∈ lw_all := lw_g (lw_at lw_m1 210 rfl) rfl
theorem q331 : (Jvm.Cond.selects "GhostAssize$Wrong" ({ cls := "java/lang/Throwable", name := "fillInStackTrace", desc := "()Ljava/lang/Throwable;" } : Jvm.MethodName) ({ cls := "java/lang/Throwable", name := "fillInStackTrace", desc := "()Ljava/lang/Throwable;" } : Jvm.MethodName)) ∈ lw_all := lw_g (lw_at lw_m1 211 rfl) rfl
theorem q332 : (Jvm.Cond.lays "GhostAssize$Wrong" "java/lang/Throwable" "cause" "Ljava/lang/Throwable;") ∈ lw_all := lw_g (lw_at lw_m1 212 rfl) rfl
theorem q334 : (Jvm.Cond.lays "GhostAssize$Wrong" "java/lang/Throwable" "stackTrace" "[Ljava/lang/StackTraceElement;") ∈ lw_all := lw_g (lw_at lw_m1 214 rfl) rfl
theorem q336 : (Jvm.Cond.lays "GhostAssize$Wrong" "java/lang/Throwable" "suppressedExceptions" "Ljava/util/List;") ∈ lw_all := lw_g (lw_at lw_m1 216 rfl) rfl
theorem q338 : (Jvm.Cond.lays "GhostAssize$Wrong" "java/lang/Throwable" "detailMessage" "Ljava/lang/String;") ∈ lw_all := lw_g (lw_at lw_m1 218 rfl) rfl
theorem q340 : (Jvm.Cond.lays "GhostAssize$Wrong" "java/lang/Throwable" "backtrace" "Ljava/lang/Object;") ∈ lw_all := lw_g (lw_at lw_m1 220 rfl) rfl
theorem q367 : (Jvm.Cond.instanceMethod ({ cls := "GhostAssize$Wrong", name := "<init>", desc := "()V" } : Jvm.MethodName)) ∈ lw_all := lw_g (lw_at lw_m2 7 rfl) rfl
theorem q368 : (Jvm.Cond.code ({ cls := "GhostAssize$Wrong", name := "<init>", desc := "()V" } : Jvm.MethodName) prog_16_method_1_code (1 : Nat) (Option.none : Option Jvm.ClassFile.FieldType)) ∈ lw_all := lw_g (lw_at lw_m2 8 rfl) rfl
theorem q369 : (Jvm.Cond.methodLink "GhostAssize$Wrong" (1 : Nat) ({ cls := "java/lang/RuntimeException", name := "<init>", desc := "(Ljava/lang/String;Ljava/lang/Throwable;ZZ)V" } : Jvm.MethodName)) ∈ lw_all := lw_g (lw_at lw_m2 9 rfl) rfl
theorem q385 : (Jvm.Cond.lays "GhostAssize$Wrong" "GhostAssize$Wrong" "place" "I") ∈ lw_all := lw_g (lw_at lw_m2 25 rfl) rfl
theorem q386 : (Jvm.Cond.soleField "GhostAssize$Wrong" "place") ∈ lw_all := lw_g (lw_at lw_m2 26 rfl) rfl
theorem q391 : (Jvm.Cond.lays "GhostAssize$Wrong" "java/lang/Throwable" "depth" "I") ∈ lw_all := lw_g (lw_at lw_m2 31 rfl) rfl
theorem q394 : (Jvm.Cond.superclass "GhostAssize$Wrong" "java/lang/RuntimeException") ∈ lw_all := lw_g (lw_at lw_m2 34 rfl) rfl
theorem q2109 : (Jvm.Cond.castable "GhostAssize$Wrong" "java/lang/Object") ∈ lw_tbl := lw_at lw_m9 69 rfl
theorem in_X6 : ∀ w ∈ wsX60, w ∈ lw_all := lw_in wsX60 [332, 334, 336, 338, 340, 391, 385] (by decide +kernel) (by decide +kernel)

/-! GhostAssize$Ways -/
set_option maxRecDepth 100000
def RX7 : String := "GhostAssize$Ways"
def TX7 : u_T := fun k => match k with
  | 0 => ("GhostAssize$Ways", "here", "[I", true)
  | 1 => ("GhostAssize$Ways", "next", "[I", true)
  | 2 => ("GhostAssize$Ways", "at", "[I", true)
  | 3 => ("GhostAssize$Ways", "all", "I", false)
  | 4 => ("GhostAssize$Ways", "screams", "I", false)
  | _ => ("GhostAssize$Ways", "this$0", "LGhostAssize;", true)
def tyX7 : Nat → FieldType := fun k => match k with
  | 0 => .array .int
  | 1 => .array .int
  | 2 => .array .int
  | 3 => .int
  | 4 => .int
  | _ => .object "GhostAssize"
abbrev wsX70 : List Cond := u_ws RX7 TX7 6
theorem nmX7 : ∀ a, a < 6 → ∀ b, b < 6 → a ≠ b → (TX7 a).2.1 ≠ (TX7 b).2.1 := by decide +kernel
theorem tyX7_ok : ∀ k, k < 6 → parseFieldDescriptor (TX7 k).2.2.1 = some (tyX7 k) := by decide +kernel
abbrev cX7_init : ByteArray := prog_14_method_1_code
def yX7_init : MethodName := ⟨RX7, "<init>", "(LGhostAssize;)V"⟩
def dkwX7_init_1 : List UInt8 := [181, 0, 19, 42, 16, 10, 188, 10, 181, 0, 22, 177]
abbrev dktX7_init_1 : List UInt8 := dkwX7_init_1 ++ []
def dkwX7_init_0 : List UInt8 := [42, 43, 181, 0, 3, 42, 183, 0, 9, 42, 16, 61, 188, 10, 181, 0, 15, 42, 16, 61, 188, 10]
abbrev dktX7_init_0 : List UInt8 := dkwX7_init_0 ++ dktX7_init_1
theorem dksX7_init_0 : cX7_init.data.toList.drop 0 = dktX7_init_0 := by decide +kernel
theorem dksX7_init_1 : cX7_init.data.toList.drop 22 = dktX7_init_1 := dk_seg dksX7_init_0 22 rfl rfl
theorem dX7_init_0 : decode cX7_init 0 = .ok (.aload_n 0, 1) := dk_42 (dk_at dksX7_init_0 0 rfl rfl)
theorem dX7_init_1 : decode cX7_init 1 = .ok (.aload_n 1, 1) := dk_43 (dk_at dksX7_init_0 1 rfl rfl)
theorem dX7_init_2 : decode cX7_init 2 = .ok (.putfield 3, 3) := dk_181 0 3 (dk_at dksX7_init_0 2 rfl rfl)
theorem dX7_init_5 : decode cX7_init 5 = .ok (.aload_n 0, 1) := dk_42 (dk_at dksX7_init_0 5 rfl rfl)
theorem dX7_init_6 : decode cX7_init 6 = .ok (.invokespecial 9, 3) := dk_183 0 9 (dk_at dksX7_init_0 6 rfl rfl)
theorem dX7_init_9 : decode cX7_init 9 = .ok (.aload_n 0, 1) := dk_42 (dk_at dksX7_init_0 9 rfl rfl)
theorem dX7_init_10 : decode cX7_init 10 = .ok (.bipush 61, 2) := dk_16 61 (dk_at dksX7_init_0 10 rfl rfl)
theorem dX7_init_12 : decode cX7_init 12 = .ok (.newarray .int, 2) := dk_188_10 (dk_at dksX7_init_0 12 rfl rfl)
theorem dX7_init_14 : decode cX7_init 14 = .ok (.putfield 15, 3) := dk_181 0 15 (dk_at dksX7_init_0 14 rfl rfl)
theorem dX7_init_17 : decode cX7_init 17 = .ok (.aload_n 0, 1) := dk_42 (dk_at dksX7_init_0 17 rfl rfl)
theorem dX7_init_18 : decode cX7_init 18 = .ok (.bipush 61, 2) := dk_16 61 (dk_at dksX7_init_0 18 rfl rfl)
theorem dX7_init_20 : decode cX7_init 20 = .ok (.newarray .int, 2) := dk_188_10 (dk_at dksX7_init_0 20 rfl rfl)
theorem dX7_init_22 : decode cX7_init 22 = .ok (.putfield 19, 3) := dk_181 0 19 (dk_at dksX7_init_1 0 rfl rfl)
theorem dX7_init_25 : decode cX7_init 25 = .ok (.aload_n 0, 1) := dk_42 (dk_at dksX7_init_1 3 rfl rfl)
theorem dX7_init_26 : decode cX7_init 26 = .ok (.bipush 10, 2) := dk_16 10 (dk_at dksX7_init_1 4 rfl rfl)
theorem dX7_init_28 : decode cX7_init 28 = .ok (.newarray .int, 2) := dk_188_10 (dk_at dksX7_init_1 6 rfl rfl)
theorem dX7_init_30 : decode cX7_init 30 = .ok (.putfield 22, 3) := dk_181 0 22 (dk_at dksX7_init_1 8 rfl rfl)
theorem dX7_init_33 : decode cX7_init 33 = .ok (.return_, 1) := dk_177 (dk_at dksX7_init_1 11 rfl rfl)
abbrev cX7_counts : ByteArray := prog_14_method_2_code
def yX7_counts : MethodName := ⟨RX7, "counts", "(LGhostAssize$One;)V"⟩
def dkwX7_counts_9 : List UInt8 := [42, 89, 180, 0, 25, 42, 180, 0, 22, 29, 46, 96, 181, 0, 25, 132, 3, 1, 167, 255, 103, 177]
abbrev dktX7_counts_9 : List UInt8 := dkwX7_counts_9 ++ []
def dkwX7_counts_8 : List UInt8 := [182, 0, 50, 132, 5, 1, 167, 255, 215, 42, 180, 0, 19, 3, 42, 180, 0, 15, 3, 16, 61, 184, 0, 54]
abbrev dktX7_counts_8 : List UInt8 := dkwX7_counts_8 ++ dktX7_counts_9
def dkwX7_counts_7 : List UInt8 := [21, 5, 46, 158, 0, 22, 42, 43, 29, 21, 5, 21, 4, 153, 0, 7, 6, 167, 0, 4, 4, 28]
abbrev dktX7_counts_7 : List UInt8 := dkwX7_counts_7 ++ dktX7_counts_8
def dkwX7_counts_6 : List UInt8 := [3, 79, 132, 5, 1, 167, 255, 238, 3, 54, 5, 21, 5, 43, 180, 0, 45, 163, 0, 38, 42, 180, 0, 15]
abbrev dktX7_counts_6 : List UInt8 := dkwX7_counts_6 ++ dktX7_counts_7
def dkwX7_counts_5 : List UInt8 := [61, 42, 180, 0, 22, 29, 3, 79, 3, 54, 5, 21, 5, 16, 60, 163, 0, 17, 42, 180, 0, 19, 21, 5]
abbrev dktX7_counts_5 : List UInt8 := dkwX7_counts_5 ++ dktX7_counts_6
def dkwX7_counts_4 : List UInt8 := [46, 2, 159, 0, 7, 4, 167, 0, 4, 3, 54, 4, 28, 21, 4, 153, 0, 7, 6, 167, 0, 4, 4, 108]
abbrev dktX7_counts_4 : List UInt8 := dkwX7_counts_4 ++ dktX7_counts_5
def dkwX7_counts_3 : List UInt8 := [42, 180, 0, 29, 61, 3, 62, 29, 16, 10, 162, 0, 153, 42, 180, 0, 3, 180, 0, 32, 180, 0, 42, 29]
abbrev dktX7_counts_3 : List UInt8 := dkwX7_counts_3 ++ dktX7_counts_4
def dkwX7_counts_2 : List UInt8 := [182, 0, 36, 61, 28, 158, 0, 19, 42, 89, 180, 0, 29, 6, 104, 181, 0, 29, 132, 2, 255, 167, 255, 239]
abbrev dktX7_counts_2 : List UInt8 := dkwX7_counts_2 ++ dktX7_counts_3
def dkwX7_counts_1 : List UInt8 := [180, 0, 15, 3, 4, 79, 42, 3, 181, 0, 25, 42, 4, 181, 0, 29, 42, 180, 0, 3, 180, 0, 32]
abbrev dktX7_counts_1 : List UInt8 := dkwX7_counts_1 ++ dktX7_counts_2
def dkwX7_counts_0 : List UInt8 := [3, 61, 28, 16, 60, 163, 0, 16, 42, 180, 0, 15, 28, 3, 79, 132, 2, 1, 167, 255, 240, 42]
abbrev dktX7_counts_0 : List UInt8 := dkwX7_counts_0 ++ dktX7_counts_1
theorem dksX7_counts_0 : cX7_counts.data.toList.drop 0 = dktX7_counts_0 := by decide +kernel
theorem dksX7_counts_1 : cX7_counts.data.toList.drop 22 = dktX7_counts_1 := dk_seg dksX7_counts_0 22 rfl rfl
theorem dksX7_counts_2 : cX7_counts.data.toList.drop 45 = dktX7_counts_2 := dk_seg dksX7_counts_1 23 rfl rfl
theorem dksX7_counts_3 : cX7_counts.data.toList.drop 69 = dktX7_counts_3 := dk_seg dksX7_counts_2 24 rfl rfl
theorem dksX7_counts_4 : cX7_counts.data.toList.drop 93 = dktX7_counts_4 := dk_seg dksX7_counts_3 24 rfl rfl
theorem dksX7_counts_5 : cX7_counts.data.toList.drop 117 = dktX7_counts_5 := dk_seg dksX7_counts_4 24 rfl rfl
theorem dksX7_counts_6 : cX7_counts.data.toList.drop 141 = dktX7_counts_6 := dk_seg dksX7_counts_5 24 rfl rfl
theorem dksX7_counts_7 : cX7_counts.data.toList.drop 165 = dktX7_counts_7 := dk_seg dksX7_counts_6 24 rfl rfl
theorem dksX7_counts_8 : cX7_counts.data.toList.drop 187 = dktX7_counts_8 := dk_seg dksX7_counts_7 22 rfl rfl
theorem dksX7_counts_9 : cX7_counts.data.toList.drop 211 = dktX7_counts_9 := dk_seg dksX7_counts_8 24 rfl rfl
theorem dX7_counts_0 : decode cX7_counts 0 = .ok (.iconst 0, 1) := dk_3 (dk_at dksX7_counts_0 0 rfl rfl)
theorem dX7_counts_1 : decode cX7_counts 1 = .ok (.istore_n 2, 1) := dk_61 (dk_at dksX7_counts_0 1 rfl rfl)
theorem dX7_counts_2 : decode cX7_counts 2 = .ok (.iload_n 2, 1) := dk_28 (dk_at dksX7_counts_0 2 rfl rfl)
theorem dX7_counts_3 : decode cX7_counts 3 = .ok (.bipush 60, 2) := dk_16 60 (dk_at dksX7_counts_0 3 rfl rfl)
theorem dX7_counts_5 : decode cX7_counts 5 = .ok (.if_icmp .gt 16, 3) := dk_163 0 16 (dk_at dksX7_counts_0 5 rfl rfl)
theorem dX7_counts_8 : decode cX7_counts 8 = .ok (.aload_n 0, 1) := dk_42 (dk_at dksX7_counts_0 8 rfl rfl)
theorem dX7_counts_9 : decode cX7_counts 9 = .ok (.getfield 15, 3) := dk_180 0 15 (dk_at dksX7_counts_0 9 rfl rfl)
theorem dX7_counts_12 : decode cX7_counts 12 = .ok (.iload_n 2, 1) := dk_28 (dk_at dksX7_counts_0 12 rfl rfl)
theorem dX7_counts_13 : decode cX7_counts 13 = .ok (.iconst 0, 1) := dk_3 (dk_at dksX7_counts_0 13 rfl rfl)
theorem dX7_counts_14 : decode cX7_counts 14 = .ok (.iastore, 1) := dk_79 (dk_at dksX7_counts_0 14 rfl rfl)
theorem dX7_counts_15 : decode cX7_counts 15 = .ok (.iinc 2 1, 3) := dk_132 2 1 (dk_at dksX7_counts_0 15 rfl rfl)
theorem dX7_counts_18 : decode cX7_counts 18 = .ok (.goto (-16), 3) := dk_167 255 240 (dk_at dksX7_counts_0 18 rfl rfl)
theorem dX7_counts_21 : decode cX7_counts 21 = .ok (.aload_n 0, 1) := dk_42 (dk_at dksX7_counts_0 21 rfl rfl)
theorem dX7_counts_22 : decode cX7_counts 22 = .ok (.getfield 15, 3) := dk_180 0 15 (dk_at dksX7_counts_1 0 rfl rfl)
theorem dX7_counts_25 : decode cX7_counts 25 = .ok (.iconst 0, 1) := dk_3 (dk_at dksX7_counts_1 3 rfl rfl)
theorem dX7_counts_26 : decode cX7_counts 26 = .ok (.iconst 1, 1) := dk_4 (dk_at dksX7_counts_1 4 rfl rfl)
theorem dX7_counts_27 : decode cX7_counts 27 = .ok (.iastore, 1) := dk_79 (dk_at dksX7_counts_1 5 rfl rfl)
theorem dX7_counts_28 : decode cX7_counts 28 = .ok (.aload_n 0, 1) := dk_42 (dk_at dksX7_counts_1 6 rfl rfl)
theorem dX7_counts_29 : decode cX7_counts 29 = .ok (.iconst 0, 1) := dk_3 (dk_at dksX7_counts_1 7 rfl rfl)
theorem dX7_counts_30 : decode cX7_counts 30 = .ok (.putfield 25, 3) := dk_181 0 25 (dk_at dksX7_counts_1 8 rfl rfl)
theorem dX7_counts_33 : decode cX7_counts 33 = .ok (.aload_n 0, 1) := dk_42 (dk_at dksX7_counts_1 11 rfl rfl)
theorem dX7_counts_34 : decode cX7_counts 34 = .ok (.iconst 1, 1) := dk_4 (dk_at dksX7_counts_1 12 rfl rfl)
theorem dX7_counts_35 : decode cX7_counts 35 = .ok (.putfield 29, 3) := dk_181 0 29 (dk_at dksX7_counts_1 13 rfl rfl)
theorem dX7_counts_38 : decode cX7_counts 38 = .ok (.aload_n 0, 1) := dk_42 (dk_at dksX7_counts_1 16 rfl rfl)
theorem dX7_counts_39 : decode cX7_counts 39 = .ok (.getfield 3, 3) := dk_180 0 3 (dk_at dksX7_counts_1 17 rfl rfl)
theorem dX7_counts_42 : decode cX7_counts 42 = .ok (.getfield 32, 3) := dk_180 0 32 (dk_at dksX7_counts_1 20 rfl rfl)
theorem dX7_counts_45 : decode cX7_counts 45 = .ok (.invokevirtual 36, 3) := dk_182 0 36 (dk_at dksX7_counts_2 0 rfl rfl)
theorem dX7_counts_48 : decode cX7_counts 48 = .ok (.istore_n 2, 1) := dk_61 (dk_at dksX7_counts_2 3 rfl rfl)
theorem dX7_counts_49 : decode cX7_counts 49 = .ok (.iload_n 2, 1) := dk_28 (dk_at dksX7_counts_2 4 rfl rfl)
theorem dX7_counts_50 : decode cX7_counts 50 = .ok (.ifCond .le 19, 3) := dk_158 0 19 (dk_at dksX7_counts_2 5 rfl rfl)
theorem dX7_counts_53 : decode cX7_counts 53 = .ok (.aload_n 0, 1) := dk_42 (dk_at dksX7_counts_2 8 rfl rfl)
theorem dX7_counts_54 : decode cX7_counts 54 = .ok (.dup, 1) := dk_89 (dk_at dksX7_counts_2 9 rfl rfl)
theorem dX7_counts_55 : decode cX7_counts 55 = .ok (.getfield 29, 3) := dk_180 0 29 (dk_at dksX7_counts_2 10 rfl rfl)
theorem dX7_counts_58 : decode cX7_counts 58 = .ok (.iconst 3, 1) := dk_6 (dk_at dksX7_counts_2 13 rfl rfl)
theorem dX7_counts_59 : decode cX7_counts 59 = .ok (.imul, 1) := dk_104 (dk_at dksX7_counts_2 14 rfl rfl)
theorem dX7_counts_60 : decode cX7_counts 60 = .ok (.putfield 29, 3) := dk_181 0 29 (dk_at dksX7_counts_2 15 rfl rfl)
theorem dX7_counts_63 : decode cX7_counts 63 = .ok (.iinc 2 (-1), 3) := dk_132 2 255 (dk_at dksX7_counts_2 18 rfl rfl)
theorem dX7_counts_66 : decode cX7_counts 66 = .ok (.goto (-17), 3) := dk_167 255 239 (dk_at dksX7_counts_2 21 rfl rfl)
theorem dX7_counts_69 : decode cX7_counts 69 = .ok (.aload_n 0, 1) := dk_42 (dk_at dksX7_counts_3 0 rfl rfl)
theorem dX7_counts_70 : decode cX7_counts 70 = .ok (.getfield 29, 3) := dk_180 0 29 (dk_at dksX7_counts_3 1 rfl rfl)
theorem dX7_counts_73 : decode cX7_counts 73 = .ok (.istore_n 2, 1) := dk_61 (dk_at dksX7_counts_3 4 rfl rfl)
theorem dX7_counts_74 : decode cX7_counts 74 = .ok (.iconst 0, 1) := dk_3 (dk_at dksX7_counts_3 5 rfl rfl)
theorem dX7_counts_75 : decode cX7_counts 75 = .ok (.istore_n 3, 1) := dk_62 (dk_at dksX7_counts_3 6 rfl rfl)
theorem dX7_counts_76 : decode cX7_counts 76 = .ok (.iload_n 3, 1) := dk_29 (dk_at dksX7_counts_3 7 rfl rfl)
theorem dX7_counts_77 : decode cX7_counts 77 = .ok (.bipush 10, 2) := dk_16 10 (dk_at dksX7_counts_3 8 rfl rfl)
theorem dX7_counts_79 : decode cX7_counts 79 = .ok (.if_icmp .ge 153, 3) := dk_162 0 153 (dk_at dksX7_counts_3 10 rfl rfl)
theorem dX7_counts_82 : decode cX7_counts 82 = .ok (.aload_n 0, 1) := dk_42 (dk_at dksX7_counts_3 13 rfl rfl)
theorem dX7_counts_83 : decode cX7_counts 83 = .ok (.getfield 3, 3) := dk_180 0 3 (dk_at dksX7_counts_3 14 rfl rfl)
theorem dX7_counts_86 : decode cX7_counts 86 = .ok (.getfield 32, 3) := dk_180 0 32 (dk_at dksX7_counts_3 17 rfl rfl)
theorem dX7_counts_89 : decode cX7_counts 89 = .ok (.getfield 42, 3) := dk_180 0 42 (dk_at dksX7_counts_3 20 rfl rfl)
theorem dX7_counts_92 : decode cX7_counts 92 = .ok (.iload_n 3, 1) := dk_29 (dk_at dksX7_counts_3 23 rfl rfl)
theorem dX7_counts_93 : decode cX7_counts 93 = .ok (.iaload, 1) := dk_46 (dk_at dksX7_counts_4 0 rfl rfl)
theorem dX7_counts_94 : decode cX7_counts 94 = .ok (.iconst (-1), 1) := dk_2 (dk_at dksX7_counts_4 1 rfl rfl)
theorem dX7_counts_95 : decode cX7_counts 95 = .ok (.if_icmp .eq 7, 3) := dk_159 0 7 (dk_at dksX7_counts_4 2 rfl rfl)
theorem dX7_counts_98 : decode cX7_counts 98 = .ok (.iconst 1, 1) := dk_4 (dk_at dksX7_counts_4 5 rfl rfl)
theorem dX7_counts_99 : decode cX7_counts 99 = .ok (.goto 4, 3) := dk_167 0 4 (dk_at dksX7_counts_4 6 rfl rfl)
theorem dX7_counts_102 : decode cX7_counts 102 = .ok (.iconst 0, 1) := dk_3 (dk_at dksX7_counts_4 9 rfl rfl)
theorem dX7_counts_103 : decode cX7_counts 103 = .ok (.istore 4, 2) := dk_54 4 (dk_at dksX7_counts_4 10 rfl rfl)
theorem dX7_counts_105 : decode cX7_counts 105 = .ok (.iload_n 2, 1) := dk_28 (dk_at dksX7_counts_4 12 rfl rfl)
theorem dX7_counts_106 : decode cX7_counts 106 = .ok (.iload 4, 2) := dk_21 4 (dk_at dksX7_counts_4 13 rfl rfl)
theorem dX7_counts_108 : decode cX7_counts 108 = .ok (.ifCond .eq 7, 3) := dk_153 0 7 (dk_at dksX7_counts_4 15 rfl rfl)
theorem dX7_counts_111 : decode cX7_counts 111 = .ok (.iconst 3, 1) := dk_6 (dk_at dksX7_counts_4 18 rfl rfl)
theorem dX7_counts_112 : decode cX7_counts 112 = .ok (.goto 4, 3) := dk_167 0 4 (dk_at dksX7_counts_4 19 rfl rfl)
theorem dX7_counts_115 : decode cX7_counts 115 = .ok (.iconst 1, 1) := dk_4 (dk_at dksX7_counts_4 22 rfl rfl)
theorem dX7_counts_116 : decode cX7_counts 116 = .ok (.idiv, 1) := dk_108 (dk_at dksX7_counts_4 23 rfl rfl)
theorem dX7_counts_117 : decode cX7_counts 117 = .ok (.istore_n 2, 1) := dk_61 (dk_at dksX7_counts_5 0 rfl rfl)
theorem dX7_counts_118 : decode cX7_counts 118 = .ok (.aload_n 0, 1) := dk_42 (dk_at dksX7_counts_5 1 rfl rfl)
theorem dX7_counts_119 : decode cX7_counts 119 = .ok (.getfield 22, 3) := dk_180 0 22 (dk_at dksX7_counts_5 2 rfl rfl)
theorem dX7_counts_122 : decode cX7_counts 122 = .ok (.iload_n 3, 1) := dk_29 (dk_at dksX7_counts_5 5 rfl rfl)
theorem dX7_counts_123 : decode cX7_counts 123 = .ok (.iconst 0, 1) := dk_3 (dk_at dksX7_counts_5 6 rfl rfl)
theorem dX7_counts_124 : decode cX7_counts 124 = .ok (.iastore, 1) := dk_79 (dk_at dksX7_counts_5 7 rfl rfl)
theorem dX7_counts_125 : decode cX7_counts 125 = .ok (.iconst 0, 1) := dk_3 (dk_at dksX7_counts_5 8 rfl rfl)
theorem dX7_counts_126 : decode cX7_counts 126 = .ok (.istore 5, 2) := dk_54 5 (dk_at dksX7_counts_5 9 rfl rfl)
theorem dX7_counts_128 : decode cX7_counts 128 = .ok (.iload 5, 2) := dk_21 5 (dk_at dksX7_counts_5 11 rfl rfl)
theorem dX7_counts_130 : decode cX7_counts 130 = .ok (.bipush 60, 2) := dk_16 60 (dk_at dksX7_counts_5 13 rfl rfl)
theorem dX7_counts_132 : decode cX7_counts 132 = .ok (.if_icmp .gt 17, 3) := dk_163 0 17 (dk_at dksX7_counts_5 15 rfl rfl)
theorem dX7_counts_135 : decode cX7_counts 135 = .ok (.aload_n 0, 1) := dk_42 (dk_at dksX7_counts_5 18 rfl rfl)
theorem dX7_counts_136 : decode cX7_counts 136 = .ok (.getfield 19, 3) := dk_180 0 19 (dk_at dksX7_counts_5 19 rfl rfl)
theorem dX7_counts_139 : decode cX7_counts 139 = .ok (.iload 5, 2) := dk_21 5 (dk_at dksX7_counts_5 22 rfl rfl)
theorem dX7_counts_141 : decode cX7_counts 141 = .ok (.iconst 0, 1) := dk_3 (dk_at dksX7_counts_6 0 rfl rfl)
theorem dX7_counts_142 : decode cX7_counts 142 = .ok (.iastore, 1) := dk_79 (dk_at dksX7_counts_6 1 rfl rfl)
theorem dX7_counts_143 : decode cX7_counts 143 = .ok (.iinc 5 1, 3) := dk_132 5 1 (dk_at dksX7_counts_6 2 rfl rfl)
theorem dX7_counts_146 : decode cX7_counts 146 = .ok (.goto (-18), 3) := dk_167 255 238 (dk_at dksX7_counts_6 5 rfl rfl)
theorem dX7_counts_149 : decode cX7_counts 149 = .ok (.iconst 0, 1) := dk_3 (dk_at dksX7_counts_6 8 rfl rfl)
theorem dX7_counts_150 : decode cX7_counts 150 = .ok (.istore 5, 2) := dk_54 5 (dk_at dksX7_counts_6 9 rfl rfl)
theorem dX7_counts_152 : decode cX7_counts 152 = .ok (.iload 5, 2) := dk_21 5 (dk_at dksX7_counts_6 11 rfl rfl)
theorem dX7_counts_154 : decode cX7_counts 154 = .ok (.aload_n 1, 1) := dk_43 (dk_at dksX7_counts_6 13 rfl rfl)
theorem dX7_counts_155 : decode cX7_counts 155 = .ok (.getfield 45, 3) := dk_180 0 45 (dk_at dksX7_counts_6 14 rfl rfl)
theorem dX7_counts_158 : decode cX7_counts 158 = .ok (.if_icmp .gt 38, 3) := dk_163 0 38 (dk_at dksX7_counts_6 17 rfl rfl)
theorem dX7_counts_161 : decode cX7_counts 161 = .ok (.aload_n 0, 1) := dk_42 (dk_at dksX7_counts_6 20 rfl rfl)
theorem dX7_counts_162 : decode cX7_counts 162 = .ok (.getfield 15, 3) := dk_180 0 15 (dk_at dksX7_counts_6 21 rfl rfl)
theorem dX7_counts_165 : decode cX7_counts 165 = .ok (.iload 5, 2) := dk_21 5 (dk_at dksX7_counts_7 0 rfl rfl)
theorem dX7_counts_167 : decode cX7_counts 167 = .ok (.iaload, 1) := dk_46 (dk_at dksX7_counts_7 2 rfl rfl)
theorem dX7_counts_168 : decode cX7_counts 168 = .ok (.ifCond .le 22, 3) := dk_158 0 22 (dk_at dksX7_counts_7 3 rfl rfl)
theorem dX7_counts_171 : decode cX7_counts 171 = .ok (.aload_n 0, 1) := dk_42 (dk_at dksX7_counts_7 6 rfl rfl)
theorem dX7_counts_172 : decode cX7_counts 172 = .ok (.aload_n 1, 1) := dk_43 (dk_at dksX7_counts_7 7 rfl rfl)
theorem dX7_counts_173 : decode cX7_counts 173 = .ok (.iload_n 3, 1) := dk_29 (dk_at dksX7_counts_7 8 rfl rfl)
theorem dX7_counts_174 : decode cX7_counts 174 = .ok (.iload 5, 2) := dk_21 5 (dk_at dksX7_counts_7 9 rfl rfl)
theorem dX7_counts_176 : decode cX7_counts 176 = .ok (.iload 4, 2) := dk_21 4 (dk_at dksX7_counts_7 11 rfl rfl)
theorem dX7_counts_178 : decode cX7_counts 178 = .ok (.ifCond .eq 7, 3) := dk_153 0 7 (dk_at dksX7_counts_7 13 rfl rfl)
theorem dX7_counts_181 : decode cX7_counts 181 = .ok (.iconst 3, 1) := dk_6 (dk_at dksX7_counts_7 16 rfl rfl)
theorem dX7_counts_182 : decode cX7_counts 182 = .ok (.goto 4, 3) := dk_167 0 4 (dk_at dksX7_counts_7 17 rfl rfl)
theorem dX7_counts_185 : decode cX7_counts 185 = .ok (.iconst 1, 1) := dk_4 (dk_at dksX7_counts_7 20 rfl rfl)
theorem dX7_counts_186 : decode cX7_counts 186 = .ok (.iload_n 2, 1) := dk_28 (dk_at dksX7_counts_7 21 rfl rfl)
theorem dX7_counts_187 : decode cX7_counts 187 = .ok (.invokevirtual 50, 3) := dk_182 0 50 (dk_at dksX7_counts_8 0 rfl rfl)
theorem dX7_counts_190 : decode cX7_counts 190 = .ok (.iinc 5 1, 3) := dk_132 5 1 (dk_at dksX7_counts_8 3 rfl rfl)
theorem dX7_counts_193 : decode cX7_counts 193 = .ok (.goto (-41), 3) := dk_167 255 215 (dk_at dksX7_counts_8 6 rfl rfl)
theorem dX7_counts_196 : decode cX7_counts 196 = .ok (.aload_n 0, 1) := dk_42 (dk_at dksX7_counts_8 9 rfl rfl)
theorem dX7_counts_197 : decode cX7_counts 197 = .ok (.getfield 19, 3) := dk_180 0 19 (dk_at dksX7_counts_8 10 rfl rfl)
theorem dX7_counts_200 : decode cX7_counts 200 = .ok (.iconst 0, 1) := dk_3 (dk_at dksX7_counts_8 13 rfl rfl)
theorem dX7_counts_201 : decode cX7_counts 201 = .ok (.aload_n 0, 1) := dk_42 (dk_at dksX7_counts_8 14 rfl rfl)
theorem dX7_counts_202 : decode cX7_counts 202 = .ok (.getfield 15, 3) := dk_180 0 15 (dk_at dksX7_counts_8 15 rfl rfl)
theorem dX7_counts_205 : decode cX7_counts 205 = .ok (.iconst 0, 1) := dk_3 (dk_at dksX7_counts_8 18 rfl rfl)
theorem dX7_counts_206 : decode cX7_counts 206 = .ok (.bipush 61, 2) := dk_16 61 (dk_at dksX7_counts_8 19 rfl rfl)
theorem dX7_counts_208 : decode cX7_counts 208 = .ok (.invokestatic 54, 3) := dk_184 0 54 (dk_at dksX7_counts_8 21 rfl rfl)
theorem dX7_counts_211 : decode cX7_counts 211 = .ok (.aload_n 0, 1) := dk_42 (dk_at dksX7_counts_9 0 rfl rfl)
theorem dX7_counts_212 : decode cX7_counts 212 = .ok (.dup, 1) := dk_89 (dk_at dksX7_counts_9 1 rfl rfl)
theorem dX7_counts_213 : decode cX7_counts 213 = .ok (.getfield 25, 3) := dk_180 0 25 (dk_at dksX7_counts_9 2 rfl rfl)
theorem dX7_counts_216 : decode cX7_counts 216 = .ok (.aload_n 0, 1) := dk_42 (dk_at dksX7_counts_9 5 rfl rfl)
theorem dX7_counts_217 : decode cX7_counts 217 = .ok (.getfield 22, 3) := dk_180 0 22 (dk_at dksX7_counts_9 6 rfl rfl)
theorem dX7_counts_220 : decode cX7_counts 220 = .ok (.iload_n 3, 1) := dk_29 (dk_at dksX7_counts_9 9 rfl rfl)
theorem dX7_counts_221 : decode cX7_counts 221 = .ok (.iaload, 1) := dk_46 (dk_at dksX7_counts_9 10 rfl rfl)
theorem dX7_counts_222 : decode cX7_counts 222 = .ok (.iadd, 1) := dk_96 (dk_at dksX7_counts_9 11 rfl rfl)
theorem dX7_counts_223 : decode cX7_counts 223 = .ok (.putfield 25, 3) := dk_181 0 25 (dk_at dksX7_counts_9 12 rfl rfl)
theorem dX7_counts_226 : decode cX7_counts 226 = .ok (.iinc 3 1, 3) := dk_132 3 1 (dk_at dksX7_counts_9 15 rfl rfl)
theorem dX7_counts_229 : decode cX7_counts 229 = .ok (.goto (-153), 3) := dk_167 255 103 (dk_at dksX7_counts_9 18 rfl rfl)
theorem dX7_counts_232 : decode cX7_counts 232 = .ok (.return_, 1) := dk_177 (dk_at dksX7_counts_9 21 rfl rfl)
abbrev cX7_goes : ByteArray := prog_14_method_3_code
def yX7_goes : MethodName := ⟨RX7, "goes", "(LGhostAssize$One;IIII)V"⟩
def dkwX7_goes_3 : List UInt8 := [42, 180, 0, 15, 29, 46, 96, 79, 132, 7, 1, 167, 255, 194, 177]
abbrev dktX7_goes_3 : List UInt8 := dkwX7_goes_3 ++ []
def dkwX7_goes_2 : List UInt8 := [180, 0, 15, 29, 46, 21, 5, 104, 96, 79, 167, 0, 22, 42, 180, 0, 19, 21, 6, 21, 7, 96, 92, 46]
abbrev dktX7_goes_2 : List UInt8 := dkwX7_goes_2 ++ dktX7_goes_3
def dkwX7_goes_1 : List UInt8 := [162, 0, 61, 21, 6, 21, 7, 96, 43, 180, 0, 45, 164, 0, 24, 42, 180, 0, 22, 28, 92, 46, 42]
abbrev dktX7_goes_1 : List UInt8 := dkwX7_goes_1 ++ dktX7_goes_2
def dkwX7_goes_0 : List UInt8 := [42, 180, 0, 3, 180, 0, 32, 43, 28, 29, 3, 182, 0, 60, 54, 6, 3, 54, 7, 21, 7, 21, 4]
abbrev dktX7_goes_0 : List UInt8 := dkwX7_goes_0 ++ dktX7_goes_1
theorem dksX7_goes_0 : cX7_goes.data.toList.drop 0 = dktX7_goes_0 := by decide +kernel
theorem dksX7_goes_1 : cX7_goes.data.toList.drop 23 = dktX7_goes_1 := dk_seg dksX7_goes_0 23 rfl rfl
theorem dksX7_goes_2 : cX7_goes.data.toList.drop 46 = dktX7_goes_2 := dk_seg dksX7_goes_1 23 rfl rfl
theorem dksX7_goes_3 : cX7_goes.data.toList.drop 70 = dktX7_goes_3 := dk_seg dksX7_goes_2 24 rfl rfl
theorem dX7_goes_0 : decode cX7_goes 0 = .ok (.aload_n 0, 1) := dk_42 (dk_at dksX7_goes_0 0 rfl rfl)
theorem dX7_goes_1 : decode cX7_goes 1 = .ok (.getfield 3, 3) := dk_180 0 3 (dk_at dksX7_goes_0 1 rfl rfl)
theorem dX7_goes_4 : decode cX7_goes 4 = .ok (.getfield 32, 3) := dk_180 0 32 (dk_at dksX7_goes_0 4 rfl rfl)
theorem dX7_goes_7 : decode cX7_goes 7 = .ok (.aload_n 1, 1) := dk_43 (dk_at dksX7_goes_0 7 rfl rfl)
theorem dX7_goes_8 : decode cX7_goes 8 = .ok (.iload_n 2, 1) := dk_28 (dk_at dksX7_goes_0 8 rfl rfl)
theorem dX7_goes_9 : decode cX7_goes 9 = .ok (.iload_n 3, 1) := dk_29 (dk_at dksX7_goes_0 9 rfl rfl)
theorem dX7_goes_10 : decode cX7_goes 10 = .ok (.iconst 0, 1) := dk_3 (dk_at dksX7_goes_0 10 rfl rfl)
theorem dX7_goes_11 : decode cX7_goes 11 = .ok (.invokevirtual 60, 3) := dk_182 0 60 (dk_at dksX7_goes_0 11 rfl rfl)
theorem dX7_goes_14 : decode cX7_goes 14 = .ok (.istore 6, 2) := dk_54 6 (dk_at dksX7_goes_0 14 rfl rfl)
theorem dX7_goes_16 : decode cX7_goes 16 = .ok (.iconst 0, 1) := dk_3 (dk_at dksX7_goes_0 16 rfl rfl)
theorem dX7_goes_17 : decode cX7_goes 17 = .ok (.istore 7, 2) := dk_54 7 (dk_at dksX7_goes_0 17 rfl rfl)
theorem dX7_goes_19 : decode cX7_goes 19 = .ok (.iload 7, 2) := dk_21 7 (dk_at dksX7_goes_0 19 rfl rfl)
theorem dX7_goes_21 : decode cX7_goes 21 = .ok (.iload 4, 2) := dk_21 4 (dk_at dksX7_goes_0 21 rfl rfl)
theorem dX7_goes_23 : decode cX7_goes 23 = .ok (.if_icmp .ge 61, 3) := dk_162 0 61 (dk_at dksX7_goes_1 0 rfl rfl)
theorem dX7_goes_26 : decode cX7_goes 26 = .ok (.iload 6, 2) := dk_21 6 (dk_at dksX7_goes_1 3 rfl rfl)
theorem dX7_goes_28 : decode cX7_goes 28 = .ok (.iload 7, 2) := dk_21 7 (dk_at dksX7_goes_1 5 rfl rfl)
theorem dX7_goes_30 : decode cX7_goes 30 = .ok (.iadd, 1) := dk_96 (dk_at dksX7_goes_1 7 rfl rfl)
theorem dX7_goes_31 : decode cX7_goes 31 = .ok (.aload_n 1, 1) := dk_43 (dk_at dksX7_goes_1 8 rfl rfl)
theorem dX7_goes_32 : decode cX7_goes 32 = .ok (.getfield 45, 3) := dk_180 0 45 (dk_at dksX7_goes_1 9 rfl rfl)
theorem dX7_goes_35 : decode cX7_goes 35 = .ok (.if_icmp .le 24, 3) := dk_164 0 24 (dk_at dksX7_goes_1 12 rfl rfl)
theorem dX7_goes_38 : decode cX7_goes 38 = .ok (.aload_n 0, 1) := dk_42 (dk_at dksX7_goes_1 15 rfl rfl)
theorem dX7_goes_39 : decode cX7_goes 39 = .ok (.getfield 22, 3) := dk_180 0 22 (dk_at dksX7_goes_1 16 rfl rfl)
theorem dX7_goes_42 : decode cX7_goes 42 = .ok (.iload_n 2, 1) := dk_28 (dk_at dksX7_goes_1 19 rfl rfl)
theorem dX7_goes_43 : decode cX7_goes 43 = .ok (.dup2, 1) := dk_92 (dk_at dksX7_goes_1 20 rfl rfl)
theorem dX7_goes_44 : decode cX7_goes 44 = .ok (.iaload, 1) := dk_46 (dk_at dksX7_goes_1 21 rfl rfl)
theorem dX7_goes_45 : decode cX7_goes 45 = .ok (.aload_n 0, 1) := dk_42 (dk_at dksX7_goes_1 22 rfl rfl)
theorem dX7_goes_46 : decode cX7_goes 46 = .ok (.getfield 15, 3) := dk_180 0 15 (dk_at dksX7_goes_2 0 rfl rfl)
theorem dX7_goes_49 : decode cX7_goes 49 = .ok (.iload_n 3, 1) := dk_29 (dk_at dksX7_goes_2 3 rfl rfl)
theorem dX7_goes_50 : decode cX7_goes 50 = .ok (.iaload, 1) := dk_46 (dk_at dksX7_goes_2 4 rfl rfl)
theorem dX7_goes_51 : decode cX7_goes 51 = .ok (.iload 5, 2) := dk_21 5 (dk_at dksX7_goes_2 5 rfl rfl)
theorem dX7_goes_53 : decode cX7_goes 53 = .ok (.imul, 1) := dk_104 (dk_at dksX7_goes_2 7 rfl rfl)
theorem dX7_goes_54 : decode cX7_goes 54 = .ok (.iadd, 1) := dk_96 (dk_at dksX7_goes_2 8 rfl rfl)
theorem dX7_goes_55 : decode cX7_goes 55 = .ok (.iastore, 1) := dk_79 (dk_at dksX7_goes_2 9 rfl rfl)
theorem dX7_goes_56 : decode cX7_goes 56 = .ok (.goto 22, 3) := dk_167 0 22 (dk_at dksX7_goes_2 10 rfl rfl)
theorem dX7_goes_59 : decode cX7_goes 59 = .ok (.aload_n 0, 1) := dk_42 (dk_at dksX7_goes_2 13 rfl rfl)
theorem dX7_goes_60 : decode cX7_goes 60 = .ok (.getfield 19, 3) := dk_180 0 19 (dk_at dksX7_goes_2 14 rfl rfl)
theorem dX7_goes_63 : decode cX7_goes 63 = .ok (.iload 6, 2) := dk_21 6 (dk_at dksX7_goes_2 17 rfl rfl)
theorem dX7_goes_65 : decode cX7_goes 65 = .ok (.iload 7, 2) := dk_21 7 (dk_at dksX7_goes_2 19 rfl rfl)
theorem dX7_goes_67 : decode cX7_goes 67 = .ok (.iadd, 1) := dk_96 (dk_at dksX7_goes_2 21 rfl rfl)
theorem dX7_goes_68 : decode cX7_goes 68 = .ok (.dup2, 1) := dk_92 (dk_at dksX7_goes_2 22 rfl rfl)
theorem dX7_goes_69 : decode cX7_goes 69 = .ok (.iaload, 1) := dk_46 (dk_at dksX7_goes_2 23 rfl rfl)
theorem dX7_goes_70 : decode cX7_goes 70 = .ok (.aload_n 0, 1) := dk_42 (dk_at dksX7_goes_3 0 rfl rfl)
theorem dX7_goes_71 : decode cX7_goes 71 = .ok (.getfield 15, 3) := dk_180 0 15 (dk_at dksX7_goes_3 1 rfl rfl)
theorem dX7_goes_74 : decode cX7_goes 74 = .ok (.iload_n 3, 1) := dk_29 (dk_at dksX7_goes_3 4 rfl rfl)
theorem dX7_goes_75 : decode cX7_goes 75 = .ok (.iaload, 1) := dk_46 (dk_at dksX7_goes_3 5 rfl rfl)
theorem dX7_goes_76 : decode cX7_goes 76 = .ok (.iadd, 1) := dk_96 (dk_at dksX7_goes_3 6 rfl rfl)
theorem dX7_goes_77 : decode cX7_goes 77 = .ok (.iastore, 1) := dk_79 (dk_at dksX7_goes_3 7 rfl rfl)
theorem dX7_goes_78 : decode cX7_goes 78 = .ok (.iinc 7 1, 3) := dk_132 7 1 (dk_at dksX7_goes_3 8 rfl rfl)
theorem dX7_goes_81 : decode cX7_goes 81 = .ok (.goto (-62), 3) := dk_167 255 194 (dk_at dksX7_goes_3 11 rfl rfl)
theorem dX7_goes_84 : decode cX7_goes 84 = .ok (.return_, 1) := dk_177 (dk_at dksX7_goes_3 14 rfl rfl)
abbrev cX7_odds : ByteArray := prog_14_method_4_code
def yX7_odds : MethodName := ⟨RX7, "odds", "()I"⟩
def dkwX7_odds_0 : List UInt8 := [20, 0, 64, 42, 180, 0, 25, 133, 105, 42, 180, 0, 29, 133, 109, 136, 172]
abbrev dktX7_odds_0 : List UInt8 := dkwX7_odds_0 ++ []
theorem dksX7_odds_0 : cX7_odds.data.toList.drop 0 = dktX7_odds_0 := by decide +kernel
theorem dX7_odds_0 : decode cX7_odds 0 = .ok (.ldc2_w 64, 3) := dk_20 0 64 (dk_at dksX7_odds_0 0 rfl rfl)
theorem dX7_odds_3 : decode cX7_odds 3 = .ok (.aload_n 0, 1) := dk_42 (dk_at dksX7_odds_0 3 rfl rfl)
theorem dX7_odds_4 : decode cX7_odds 4 = .ok (.getfield 25, 3) := dk_180 0 25 (dk_at dksX7_odds_0 4 rfl rfl)
theorem dX7_odds_7 : decode cX7_odds 7 = .ok (.i2l, 1) := dk_133 (dk_at dksX7_odds_0 7 rfl rfl)
theorem dX7_odds_8 : decode cX7_odds 8 = .ok (.lmul, 1) := dk_105 (dk_at dksX7_odds_0 8 rfl rfl)
theorem dX7_odds_9 : decode cX7_odds 9 = .ok (.aload_n 0, 1) := dk_42 (dk_at dksX7_odds_0 9 rfl rfl)
theorem dX7_odds_10 : decode cX7_odds 10 = .ok (.getfield 29, 3) := dk_180 0 29 (dk_at dksX7_odds_0 10 rfl rfl)
theorem dX7_odds_13 : decode cX7_odds 13 = .ok (.i2l, 1) := dk_133 (dk_at dksX7_odds_0 13 rfl rfl)
theorem dX7_odds_14 : decode cX7_odds 14 = .ok (.ldiv, 1) := dk_109 (dk_at dksX7_odds_0 14 rfl rfl)
theorem dX7_odds_15 : decode cX7_odds 15 = .ok (.l2i, 1) := dk_136 (dk_at dksX7_odds_0 15 rfl rfl)
theorem dX7_odds_16 : decode cX7_odds 16 = .ok (.ireturn, 1) := dk_172 (dk_at dksX7_odds_0 16 rfl rfl)
theorem q130 : (Jvm.Cond.initialized "GhostAssize$Ways") ∈ lw_all := lw_g (lw_at lw_m1 10 rfl) rfl
theorem q232 : (Jvm.Cond.fieldLinkNest "GhostAssize$Ways" (45 : Nat) "GhostAssize$One" "nerve" "I" "GhostAssize") ∈ lw_tbl := lw_at lw_m1 112 rfl
theorem q262 : (Jvm.Cond.fieldLinkNest "GhostAssize$Ways" (42 : Nat) "GhostAssize$State" "slots" "[I" "GhostAssize") ∈ lw_tbl := lw_at lw_m1 142 rfl
theorem q432 : (Jvm.Cond.instantiable "GhostAssize$Ways" (6 : Nat)) ∈ lw_all := lw_g (lw_at lw_m2 72 rfl) rfl
theorem q434 : (Jvm.Cond.instanceMethod ({ cls := "GhostAssize$Ways", name := "<init>", desc := "(LGhostAssize;)V" } : Jvm.MethodName)) ∈ lw_all := lw_g (lw_at lw_m2 74 rfl) rfl
theorem q435 : (Jvm.Cond.code ({ cls := "GhostAssize$Ways", name := "<init>", desc := "(LGhostAssize;)V" } : Jvm.MethodName) prog_14_method_1_code (2 : Nat) (Option.none : Option Jvm.ClassFile.FieldType)) ∈ lw_all := lw_g (lw_at lw_m2 75 rfl) rfl
theorem q436 : (Jvm.Cond.methodLink "GhostAssize$Ways" (9 : Nat) ({ cls := "java/lang/Object", name := "<init>", desc := "()V" } : Jvm.MethodName)) ∈ lw_all := lw_g (lw_at lw_m2 76 rfl) rfl
theorem q437 : (Jvm.Cond.fieldLink "GhostAssize$Ways" (15 : Nat) "GhostAssize$Ways" "here" "[I") ∈ lw_all := lw_g (lw_at lw_m2 77 rfl) rfl
theorem q438 : (Jvm.Cond.fieldLink "GhostAssize$Ways" (19 : Nat) "GhostAssize$Ways" "next" "[I") ∈ lw_all := lw_g (lw_at lw_m2 78 rfl) rfl
theorem q439 : (Jvm.Cond.fieldLink "GhostAssize$Ways" (22 : Nat) "GhostAssize$Ways" "at" "[I") ∈ lw_all := lw_g (lw_at lw_m2 79 rfl) rfl
theorem q441 : (Jvm.Cond.fieldLink "GhostAssize$Ways" (29 : Nat) "GhostAssize$Ways" "all" "I") ∈ lw_all := lw_g (lw_at lw_m2 81 rfl) rfl
theorem q442 : (Jvm.Cond.fieldLink "GhostAssize$Ways" (25 : Nat) "GhostAssize$Ways" "screams" "I") ∈ lw_all := lw_g (lw_at lw_m2 82 rfl) rfl
theorem q444 : (Jvm.Cond.fieldLink "GhostAssize$Ways" (3 : Nat) "GhostAssize$Ways" "this$0" "LGhostAssize;") ∈ lw_all := lw_g (lw_at lw_m2 84 rfl) rfl
theorem q445 : (Jvm.Cond.laysFinal "GhostAssize$Ways" "GhostAssize$Ways" "here" "[I") ∈ lw_all := lw_g (lw_at lw_m2 85 rfl) rfl
theorem q446 : (Jvm.Cond.soleField "GhostAssize$Ways" "here") ∈ lw_all := lw_g (lw_at lw_m2 86 rfl) rfl
theorem q447 : (Jvm.Cond.laysFinal "GhostAssize$Ways" "GhostAssize$Ways" "next" "[I") ∈ lw_all := lw_g (lw_at lw_m2 87 rfl) rfl
theorem q448 : (Jvm.Cond.soleField "GhostAssize$Ways" "next") ∈ lw_all := lw_g (lw_at lw_m2 88 rfl) rfl
theorem q449 : (Jvm.Cond.laysFinal "GhostAssize$Ways" "GhostAssize$Ways" "at" "[I") ∈ lw_all := lw_g (lw_at lw_m2 89 rfl) rfl
theorem q450 : (Jvm.Cond.soleField "GhostAssize$Ways" "at") ∈ lw_all := lw_g (lw_at lw_m2 90 rfl) rfl
theorem q451 : (Jvm.Cond.lays "GhostAssize$Ways" "GhostAssize$Ways" "all" "I") ∈ lw_all := lw_g (lw_at lw_m2 91 rfl) rfl
theorem q452 : (Jvm.Cond.soleField "GhostAssize$Ways" "all") ∈ lw_all := lw_g (lw_at lw_m2 92 rfl) rfl
theorem q453 : (Jvm.Cond.lays "GhostAssize$Ways" "GhostAssize$Ways" "screams" "I") ∈ lw_all := lw_g (lw_at lw_m2 93 rfl) rfl
theorem q454 : (Jvm.Cond.soleField "GhostAssize$Ways" "screams") ∈ lw_all := lw_g (lw_at lw_m2 94 rfl) rfl
theorem q455 : (Jvm.Cond.laysFinal "GhostAssize$Ways" "GhostAssize$Ways" "this$0" "LGhostAssize;") ∈ lw_all := lw_g (lw_at lw_m2 95 rfl) rfl
theorem q456 : (Jvm.Cond.soleField "GhostAssize$Ways" "this$0") ∈ lw_all := lw_g (lw_at lw_m2 96 rfl) rfl
theorem q457 : (Jvm.Cond.superclass "GhostAssize$Ways" "java/lang/Object") ∈ lw_all := lw_g (lw_at lw_m2 97 rfl) rfl
theorem q462 : (Jvm.Cond.fieldLinkNest "GhostAssize$Ways" (32 : Nat) "GhostAssize" "now" "LGhostAssize$State;" "GhostAssize") ∈ lw_tbl := lw_at lw_m2 102 rfl
theorem q548 : (Jvm.Cond.instanceMethod ({ cls := "GhostAssize$Ways", name := "counts", desc := "(LGhostAssize$One;)V" } : Jvm.MethodName)) ∈ lw_all := lw_g (lw_at lw_m2 188 rfl) rfl
theorem q549 : (Jvm.Cond.selects "GhostAssize$Ways" ({ cls := "GhostAssize$Ways", name := "counts", desc := "(LGhostAssize$One;)V" } : Jvm.MethodName) ({ cls := "GhostAssize$Ways", name := "counts", desc := "(LGhostAssize$One;)V" } : Jvm.MethodName)) ∈ lw_all := lw_g (lw_at lw_m2 189 rfl) rfl
theorem q550 : (Jvm.Cond.code ({ cls := "GhostAssize$Ways", name := "counts", desc := "(LGhostAssize$One;)V" } : Jvm.MethodName) prog_14_method_2_code (6 : Nat) (Option.none : Option Jvm.ClassFile.FieldType)) ∈ lw_all := lw_g (lw_at lw_m2 190 rfl) rfl
theorem q551 : (Jvm.Cond.methodLink "GhostAssize$Ways" (36 : Nat) ({ cls := "GhostAssize$State", name := "nailed", desc := "()I" } : Jvm.MethodName)) ∈ lw_all := lw_g (lw_at lw_m2 191 rfl) rfl
theorem q555 : (Jvm.Cond.methodLink "GhostAssize$Ways" (50 : Nat) ({ cls := "GhostAssize$Ways", name := "goes", desc := "(LGhostAssize$One;IIII)V" } : Jvm.MethodName)) ∈ lw_all := lw_g (lw_at lw_m2 195 rfl) rfl
theorem q556 : (Jvm.Cond.privateMethod ({ cls := "GhostAssize$Ways", name := "goes", desc := "(LGhostAssize$One;IIII)V" } : Jvm.MethodName)) ∈ lw_tbl := lw_at lw_m2 196 rfl
theorem q557 : (Jvm.Cond.instanceMethod ({ cls := "GhostAssize$Ways", name := "goes", desc := "(LGhostAssize$One;IIII)V" } : Jvm.MethodName)) ∈ lw_all := lw_g (lw_at lw_m2 197 rfl) rfl
theorem q558 : (Jvm.Cond.code ({ cls := "GhostAssize$Ways", name := "goes", desc := "(LGhostAssize$One;IIII)V" } : Jvm.MethodName) prog_14_method_3_code (8 : Nat) (Option.none : Option Jvm.ClassFile.FieldType)) ∈ lw_all := lw_g (lw_at lw_m2 198 rfl) rfl
theorem q559 : (Jvm.Cond.methodLink "GhostAssize$Ways" (60 : Nat) ({ cls := "GhostAssize$State", name := "behind", desc := "(LGhostAssize$One;III)I" } : Jvm.MethodName)) ∈ lw_all := lw_g (lw_at lw_m2 199 rfl) rfl
theorem q624 : (Jvm.Cond.methodLink "GhostAssize$Ways" (54 : Nat) ({ cls := "java/lang/System", name := "arraycopy", desc := "(Ljava/lang/Object;ILjava/lang/Object;II)V" } : Jvm.MethodName)) ∈ lw_all := lw_g (lw_at lw_m3 24 rfl) rfl
theorem q628 : (Jvm.Cond.instanceMethod ({ cls := "GhostAssize$Ways", name := "odds", desc := "()I" } : Jvm.MethodName)) ∈ lw_all := lw_g (lw_at lw_m3 28 rfl) rfl
theorem q629 : (Jvm.Cond.selects "GhostAssize$Ways" ({ cls := "GhostAssize$Ways", name := "odds", desc := "()I" } : Jvm.MethodName) ({ cls := "GhostAssize$Ways", name := "odds", desc := "()I" } : Jvm.MethodName)) ∈ lw_all := lw_g (lw_at lw_m3 29 rfl) rfl
theorem q630 : (Jvm.Cond.code ({ cls := "GhostAssize$Ways", name := "odds", desc := "()I" } : Jvm.MethodName) prog_14_method_4_code (1 : Nat) (Option.some Jvm.ClassFile.FieldType.int)) ∈ lw_all := lw_g (lw_at lw_m3 30 rfl) rfl
theorem q631 : (Jvm.Cond.constantLong "GhostAssize$Ways" (64 : Nat) (10000 : Int64)) ∈ lw_all := lw_g (lw_at lw_m3 31 rfl) rfl
theorem q2110 : (Jvm.Cond.castable "GhostAssize$Ways" "java/lang/Object") ∈ lw_tbl := lw_at lw_m9 70 rfl
theorem in_X7 : ∀ w ∈ wsX70, w ∈ lw_all := lw_in wsX70 [445, 447, 449, 451, 453, 455] (by decide +kernel) (by decide +kernel)

/-! GhostAssize$Chain -/
set_option maxRecDepth 100000
def RX9 : String := "GhostAssize$Chain"
def TX9 : u_T := fun k => match k with
  | 0 => ("GhostAssize$Chain", "one", "LGhostAssize$Cond;", true)
  | 1 => ("GhostAssize$Chain", "all", "Z", true)
  | _ => ("GhostAssize$Chain", "next", "LGhostAssize$Chain;", false)
def tyX9 : Nat → FieldType := fun k => match k with
  | 0 => .object "GhostAssize$Cond"
  | 1 => .boolean
  | _ => .object "GhostAssize$Chain"
abbrev wsX90 : List Cond := u_ws RX9 TX9 3
theorem nmX9 : ∀ a, a < 3 → ∀ b, b < 3 → a ≠ b → (TX9 a).2.1 ≠ (TX9 b).2.1 := by decide +kernel
theorem tyX9_ok : ∀ k, k < 3 → parseFieldDescriptor (TX9 k).2.2.1 = some (tyX9 k) := by decide +kernel
abbrev cX9_holds : ByteArray := prog_2_method_2_code
def yX9_holds : MethodName := ⟨RX9, "holds", "([I)Z"⟩
def dkwX9_holds_2 : List UInt8 := [172]
abbrev dktX9_holds_2 : List UInt8 := dkwX9_holds_2 ++ []
def dkwX9_holds_1 : List UInt8 := [180, 0, 13, 154, 0, 7, 4, 167, 0, 4, 3, 172, 44, 180, 0, 23, 77, 167, 255, 217, 42, 180, 0, 13]
abbrev dktX9_holds_1 : List UInt8 := dkwX9_holds_1 ++ dktX9_holds_2
def dkwX9_holds_0 : List UInt8 := [42, 77, 44, 198, 0, 41, 44, 180, 0, 7, 43, 185, 0, 17, 2, 0, 42, 180, 0, 13, 159, 0, 16, 42]
abbrev dktX9_holds_0 : List UInt8 := dkwX9_holds_0 ++ dktX9_holds_1
theorem dksX9_holds_0 : cX9_holds.data.toList.drop 0 = dktX9_holds_0 := by decide +kernel
theorem dksX9_holds_1 : cX9_holds.data.toList.drop 24 = dktX9_holds_1 := dk_seg dksX9_holds_0 24 rfl rfl
theorem dksX9_holds_2 : cX9_holds.data.toList.drop 48 = dktX9_holds_2 := dk_seg dksX9_holds_1 24 rfl rfl
theorem dX9_holds_0 : decode cX9_holds 0 = .ok (.aload_n 0, 1) := dk_42 (dk_at dksX9_holds_0 0 rfl rfl)
theorem dX9_holds_1 : decode cX9_holds 1 = .ok (.astore_n 2, 1) := dk_77 (dk_at dksX9_holds_0 1 rfl rfl)
theorem dX9_holds_2 : decode cX9_holds 2 = .ok (.aload_n 2, 1) := dk_44 (dk_at dksX9_holds_0 2 rfl rfl)
theorem dX9_holds_3 : decode cX9_holds 3 = .ok (.ifnull 41, 3) := dk_198 0 41 (dk_at dksX9_holds_0 3 rfl rfl)
theorem dX9_holds_6 : decode cX9_holds 6 = .ok (.aload_n 2, 1) := dk_44 (dk_at dksX9_holds_0 6 rfl rfl)
theorem dX9_holds_7 : decode cX9_holds 7 = .ok (.getfield 7, 3) := dk_180 0 7 (dk_at dksX9_holds_0 7 rfl rfl)
theorem dX9_holds_10 : decode cX9_holds 10 = .ok (.aload_n 1, 1) := dk_43 (dk_at dksX9_holds_0 10 rfl rfl)
theorem dX9_holds_11 : decode cX9_holds 11 = .ok (.invokeinterface 17 2, 5) := by decide +kernel
theorem dX9_holds_16 : decode cX9_holds 16 = .ok (.aload_n 0, 1) := dk_42 (dk_at dksX9_holds_0 16 rfl rfl)
theorem dX9_holds_17 : decode cX9_holds 17 = .ok (.getfield 13, 3) := dk_180 0 13 (dk_at dksX9_holds_0 17 rfl rfl)
theorem dX9_holds_20 : decode cX9_holds 20 = .ok (.if_icmp .eq 16, 3) := dk_159 0 16 (dk_at dksX9_holds_0 20 rfl rfl)
theorem dX9_holds_23 : decode cX9_holds 23 = .ok (.aload_n 0, 1) := dk_42 (dk_at dksX9_holds_0 23 rfl rfl)
theorem dX9_holds_24 : decode cX9_holds 24 = .ok (.getfield 13, 3) := dk_180 0 13 (dk_at dksX9_holds_1 0 rfl rfl)
theorem dX9_holds_27 : decode cX9_holds 27 = .ok (.ifCond .ne 7, 3) := dk_154 0 7 (dk_at dksX9_holds_1 3 rfl rfl)
theorem dX9_holds_30 : decode cX9_holds 30 = .ok (.iconst 1, 1) := dk_4 (dk_at dksX9_holds_1 6 rfl rfl)
theorem dX9_holds_31 : decode cX9_holds 31 = .ok (.goto 4, 3) := dk_167 0 4 (dk_at dksX9_holds_1 7 rfl rfl)
theorem dX9_holds_34 : decode cX9_holds 34 = .ok (.iconst 0, 1) := dk_3 (dk_at dksX9_holds_1 10 rfl rfl)
theorem dX9_holds_35 : decode cX9_holds 35 = .ok (.ireturn, 1) := dk_172 (dk_at dksX9_holds_1 11 rfl rfl)
theorem dX9_holds_36 : decode cX9_holds 36 = .ok (.aload_n 2, 1) := dk_44 (dk_at dksX9_holds_1 12 rfl rfl)
theorem dX9_holds_37 : decode cX9_holds 37 = .ok (.getfield 23, 3) := dk_180 0 23 (dk_at dksX9_holds_1 13 rfl rfl)
theorem dX9_holds_40 : decode cX9_holds 40 = .ok (.astore_n 2, 1) := dk_77 (dk_at dksX9_holds_1 16 rfl rfl)
theorem dX9_holds_41 : decode cX9_holds 41 = .ok (.goto (-39), 3) := dk_167 255 217 (dk_at dksX9_holds_1 17 rfl rfl)
theorem dX9_holds_44 : decode cX9_holds 44 = .ok (.aload_n 0, 1) := dk_42 (dk_at dksX9_holds_1 20 rfl rfl)
theorem dX9_holds_45 : decode cX9_holds 45 = .ok (.getfield 13, 3) := dk_180 0 13 (dk_at dksX9_holds_1 21 rfl rfl)
theorem dX9_holds_48 : decode cX9_holds 48 = .ok (.ireturn, 1) := dk_172 (dk_at dksX9_holds_2 0 rfl rfl)
abbrev cX9_init : ByteArray := prog_2_method_1_code
def yX9_init : MethodName := ⟨RX9, "<init>", "(LGhostAssize$Cond;Z)V"⟩
def dkwX9_init_0 : List UInt8 := [42, 183, 0, 1, 42, 43, 181, 0, 7, 42, 28, 181, 0, 13, 177]
abbrev dktX9_init_0 : List UInt8 := dkwX9_init_0 ++ []
theorem dksX9_init_0 : cX9_init.data.toList.drop 0 = dktX9_init_0 := by decide +kernel
theorem dX9_init_0 : decode cX9_init 0 = .ok (.aload_n 0, 1) := dk_42 (dk_at dksX9_init_0 0 rfl rfl)
theorem dX9_init_1 : decode cX9_init 1 = .ok (.invokespecial 1, 3) := dk_183 0 1 (dk_at dksX9_init_0 1 rfl rfl)
theorem dX9_init_4 : decode cX9_init 4 = .ok (.aload_n 0, 1) := dk_42 (dk_at dksX9_init_0 4 rfl rfl)
theorem dX9_init_5 : decode cX9_init 5 = .ok (.aload_n 1, 1) := dk_43 (dk_at dksX9_init_0 5 rfl rfl)
theorem dX9_init_6 : decode cX9_init 6 = .ok (.putfield 7, 3) := dk_181 0 7 (dk_at dksX9_init_0 6 rfl rfl)
theorem dX9_init_9 : decode cX9_init 9 = .ok (.aload_n 0, 1) := dk_42 (dk_at dksX9_init_0 9 rfl rfl)
theorem dX9_init_10 : decode cX9_init 10 = .ok (.iload_n 2, 1) := dk_28 (dk_at dksX9_init_0 10 rfl rfl)
theorem dX9_init_11 : decode cX9_init 11 = .ok (.putfield 13, 3) := dk_181 0 13 (dk_at dksX9_init_0 11 rfl rfl)
theorem dX9_init_14 : decode cX9_init 14 = .ok (.return_, 1) := dk_177 (dk_at dksX9_init_0 14 rfl rfl)
theorem q140 : (Jvm.Cond.initialized "GhostAssize$Chain") ∈ lw_all := lw_g (lw_at lw_m1 20 rfl) rfl
theorem q590 : (Jvm.Cond.castable "GhostAssize$Chain" "GhostAssize$Cond") ∈ lw_tbl := lw_at lw_m2 230 rfl
theorem q591 : (Jvm.Cond.selects "GhostAssize$Chain" ({ cls := "GhostAssize$Cond", name := "holds", desc := "([I)Z" } : Jvm.MethodName) ({ cls := "GhostAssize$Chain", name := "holds", desc := "([I)Z" } : Jvm.MethodName)) ∈ lw_all := lw_g (lw_at lw_m2 231 rfl) rfl
theorem q592 : (Jvm.Cond.unhidden "GhostAssize$Chain" "holds" "([I)Z") ∈ lw_tbl := lw_at lw_m2 232 rfl
theorem q593 : (Jvm.Cond.instanceMethod ({ cls := "GhostAssize$Chain", name := "holds", desc := "([I)Z" } : Jvm.MethodName)) ∈ lw_all := lw_g (lw_at lw_m2 233 rfl) rfl
theorem q594 : (Jvm.Cond.publicMethod ({ cls := "GhostAssize$Chain", name := "holds", desc := "([I)Z" } : Jvm.MethodName)) ∈ lw_tbl := lw_at lw_m2 234 rfl
theorem q595 : (Jvm.Cond.code ({ cls := "GhostAssize$Chain", name := "holds", desc := "([I)Z" } : Jvm.MethodName) prog_2_method_2_code (3 : Nat) (Option.some Jvm.ClassFile.FieldType.boolean)) ∈ lw_all := lw_g (lw_at lw_m2 235 rfl) rfl
theorem q596 : (Jvm.Cond.interfaceEntry "GhostAssize$Chain" (17 : Nat)) ∈ lw_tbl := lw_at lw_m2 236 rfl
theorem q597 : (Jvm.Cond.methodLink "GhostAssize$Chain" (17 : Nat) ({ cls := "GhostAssize$Cond", name := "holds", desc := "([I)Z" } : Jvm.MethodName)) ∈ lw_all := lw_g (lw_at lw_m2 237 rfl) rfl
theorem q979 : (Jvm.Cond.instantiable "GhostAssize$Chain" (3 : Nat)) ∈ lw_all := lw_g (lw_at lw_m4 139 rfl) rfl
theorem q1050 : (Jvm.Cond.instanceMethod ({ cls := "GhostAssize$Chain", name := "<init>", desc := "(LGhostAssize$Cond;Z)V" } : Jvm.MethodName)) ∈ lw_all := lw_g (lw_at lw_m4 210 rfl) rfl
theorem q1051 : (Jvm.Cond.code ({ cls := "GhostAssize$Chain", name := "<init>", desc := "(LGhostAssize$Cond;Z)V" } : Jvm.MethodName) prog_2_method_1_code (3 : Nat) (Option.none : Option Jvm.ClassFile.FieldType)) ∈ lw_all := lw_g (lw_at lw_m4 211 rfl) rfl
theorem q1052 : (Jvm.Cond.methodLink "GhostAssize$Chain" (1 : Nat) ({ cls := "java/lang/Object", name := "<init>", desc := "()V" } : Jvm.MethodName)) ∈ lw_all := lw_g (lw_at lw_m4 212 rfl) rfl
theorem q1053 : (Jvm.Cond.fieldLink "GhostAssize$Chain" (7 : Nat) "GhostAssize$Chain" "one" "LGhostAssize$Cond;") ∈ lw_all := lw_g (lw_at lw_m4 213 rfl) rfl
theorem q1054 : (Jvm.Cond.fieldLink "GhostAssize$Chain" (13 : Nat) "GhostAssize$Chain" "all" "Z") ∈ lw_all := lw_g (lw_at lw_m4 214 rfl) rfl
theorem q1055 : (Jvm.Cond.fieldLink "GhostAssize$Chain" (23 : Nat) "GhostAssize$Chain" "next" "LGhostAssize$Chain;") ∈ lw_all := lw_g (lw_at lw_m4 215 rfl) rfl
theorem q1057 : (Jvm.Cond.laysFinal "GhostAssize$Chain" "GhostAssize$Chain" "one" "LGhostAssize$Cond;") ∈ lw_all := lw_g (lw_at lw_m4 217 rfl) rfl
theorem q1058 : (Jvm.Cond.soleField "GhostAssize$Chain" "one") ∈ lw_all := lw_g (lw_at lw_m4 218 rfl) rfl
theorem q1059 : (Jvm.Cond.laysFinal "GhostAssize$Chain" "GhostAssize$Chain" "all" "Z") ∈ lw_all := lw_g (lw_at lw_m4 219 rfl) rfl
theorem q1060 : (Jvm.Cond.soleField "GhostAssize$Chain" "all") ∈ lw_all := lw_g (lw_at lw_m4 220 rfl) rfl
theorem q1061 : (Jvm.Cond.lays "GhostAssize$Chain" "GhostAssize$Chain" "next" "LGhostAssize$Chain;") ∈ lw_all := lw_g (lw_at lw_m4 221 rfl) rfl
theorem q1062 : (Jvm.Cond.soleField "GhostAssize$Chain" "next") ∈ lw_all := lw_g (lw_at lw_m4 222 rfl) rfl
theorem q1063 : (Jvm.Cond.superclass "GhostAssize$Chain" "java/lang/Object") ∈ lw_all := lw_g (lw_at lw_m4 223 rfl) rfl
theorem q2114 : (Jvm.Cond.castable "GhostAssize$Chain" "java/lang/Object") ∈ lw_tbl := lw_at lw_m9 74 rfl
theorem in_X9 : ∀ w ∈ wsX90, w ∈ lw_all := lw_in wsX90 [1057, 1059, 1061] (by decide +kernel) (by decide +kernel)

/-! GhostAssize$Tag -/
set_option maxRecDepth 100000
def RX10 : String := "GhostAssize$Tag"
def TX10 : u_T := fun k => match k with
  | _ => ("GhostAssize$Tag", "fact", "I", true)
def tyX10 : Nat → FieldType := fun k => match k with
  | _ => .int
abbrev wsX100 : List Cond := u_ws RX10 TX10 1
theorem nmX10 : ∀ a, a < 1 → ∀ b, b < 1 → a ≠ b → (TX10 a).2.1 ≠ (TX10 b).2.1 := by decide +kernel
theorem tyX10_ok : ∀ k, k < 1 → parseFieldDescriptor (TX10 k).2.2.1 = some (tyX10 k) := by decide +kernel
abbrev cX10_holds : ByteArray := prog_13_method_2_code
def yX10_holds : MethodName := ⟨RX10, "holds", "([I)Z"⟩
def dkwX10_holds_0 : List UInt8 := [43, 42, 180, 0, 7, 46, 153, 0, 7, 4, 167, 0, 4, 3, 172]
abbrev dktX10_holds_0 : List UInt8 := dkwX10_holds_0 ++ []
theorem dksX10_holds_0 : cX10_holds.data.toList.drop 0 = dktX10_holds_0 := by decide +kernel
theorem dX10_holds_0 : decode cX10_holds 0 = .ok (.aload_n 1, 1) := dk_43 (dk_at dksX10_holds_0 0 rfl rfl)
theorem dX10_holds_1 : decode cX10_holds 1 = .ok (.aload_n 0, 1) := dk_42 (dk_at dksX10_holds_0 1 rfl rfl)
theorem dX10_holds_2 : decode cX10_holds 2 = .ok (.getfield 7, 3) := dk_180 0 7 (dk_at dksX10_holds_0 2 rfl rfl)
theorem dX10_holds_5 : decode cX10_holds 5 = .ok (.iaload, 1) := dk_46 (dk_at dksX10_holds_0 5 rfl rfl)
theorem dX10_holds_6 : decode cX10_holds 6 = .ok (.ifCond .eq 7, 3) := dk_153 0 7 (dk_at dksX10_holds_0 6 rfl rfl)
theorem dX10_holds_9 : decode cX10_holds 9 = .ok (.iconst 1, 1) := dk_4 (dk_at dksX10_holds_0 9 rfl rfl)
theorem dX10_holds_10 : decode cX10_holds 10 = .ok (.goto 4, 3) := dk_167 0 4 (dk_at dksX10_holds_0 10 rfl rfl)
theorem dX10_holds_13 : decode cX10_holds 13 = .ok (.iconst 0, 1) := dk_3 (dk_at dksX10_holds_0 13 rfl rfl)
theorem dX10_holds_14 : decode cX10_holds 14 = .ok (.ireturn, 1) := dk_172 (dk_at dksX10_holds_0 14 rfl rfl)
abbrev cX10_init : ByteArray := prog_13_method_1_code
def yX10_init : MethodName := ⟨RX10, "<init>", "(I)V"⟩
def dkwX10_init_0 : List UInt8 := [42, 183, 0, 1, 42, 27, 181, 0, 7, 177]
abbrev dktX10_init_0 : List UInt8 := dkwX10_init_0 ++ []
theorem dksX10_init_0 : cX10_init.data.toList.drop 0 = dktX10_init_0 := by decide +kernel
theorem dX10_init_0 : decode cX10_init 0 = .ok (.aload_n 0, 1) := dk_42 (dk_at dksX10_init_0 0 rfl rfl)
theorem dX10_init_1 : decode cX10_init 1 = .ok (.invokespecial 1, 3) := dk_183 0 1 (dk_at dksX10_init_0 1 rfl rfl)
theorem dX10_init_4 : decode cX10_init 4 = .ok (.aload_n 0, 1) := dk_42 (dk_at dksX10_init_0 4 rfl rfl)
theorem dX10_init_5 : decode cX10_init 5 = .ok (.iload_n 1, 1) := dk_27 (dk_at dksX10_init_0 5 rfl rfl)
theorem dX10_init_6 : decode cX10_init 6 = .ok (.putfield 7, 3) := dk_181 0 7 (dk_at dksX10_init_0 6 rfl rfl)
theorem dX10_init_9 : decode cX10_init 9 = .ok (.return_, 1) := dk_177 (dk_at dksX10_init_0 9 rfl rfl)
theorem q141 : (Jvm.Cond.initialized "GhostAssize$Tag") ∈ lw_all := lw_g (lw_at lw_m1 21 rfl) rfl
theorem q616 : (Jvm.Cond.castable "GhostAssize$Tag" "GhostAssize$Cond") ∈ lw_tbl := lw_at lw_m3 16 rfl
theorem q617 : (Jvm.Cond.selects "GhostAssize$Tag" ({ cls := "GhostAssize$Cond", name := "holds", desc := "([I)Z" } : Jvm.MethodName) ({ cls := "GhostAssize$Tag", name := "holds", desc := "([I)Z" } : Jvm.MethodName)) ∈ lw_all := lw_g (lw_at lw_m3 17 rfl) rfl
theorem q618 : (Jvm.Cond.unhidden "GhostAssize$Tag" "holds" "([I)Z") ∈ lw_tbl := lw_at lw_m3 18 rfl
theorem q619 : (Jvm.Cond.instanceMethod ({ cls := "GhostAssize$Tag", name := "holds", desc := "([I)Z" } : Jvm.MethodName)) ∈ lw_all := lw_g (lw_at lw_m3 19 rfl) rfl
theorem q620 : (Jvm.Cond.publicMethod ({ cls := "GhostAssize$Tag", name := "holds", desc := "([I)Z" } : Jvm.MethodName)) ∈ lw_tbl := lw_at lw_m3 20 rfl
theorem q621 : (Jvm.Cond.code ({ cls := "GhostAssize$Tag", name := "holds", desc := "([I)Z" } : Jvm.MethodName) prog_13_method_2_code (2 : Nat) (Option.some Jvm.ClassFile.FieldType.boolean)) ∈ lw_all := lw_g (lw_at lw_m3 21 rfl) rfl
theorem q990 : (Jvm.Cond.instantiable "GhostAssize$Tag" (1 : Nat)) ∈ lw_all := lw_g (lw_at lw_m4 150 rfl) rfl
theorem q992 : (Jvm.Cond.instanceMethod ({ cls := "GhostAssize$Tag", name := "<init>", desc := "(I)V" } : Jvm.MethodName)) ∈ lw_all := lw_g (lw_at lw_m4 152 rfl) rfl
theorem q993 : (Jvm.Cond.code ({ cls := "GhostAssize$Tag", name := "<init>", desc := "(I)V" } : Jvm.MethodName) prog_13_method_1_code (2 : Nat) (Option.none : Option Jvm.ClassFile.FieldType)) ∈ lw_all := lw_g (lw_at lw_m4 153 rfl) rfl
theorem q994 : (Jvm.Cond.methodLink "GhostAssize$Tag" (1 : Nat) ({ cls := "java/lang/Object", name := "<init>", desc := "()V" } : Jvm.MethodName)) ∈ lw_all := lw_g (lw_at lw_m4 154 rfl) rfl
theorem q995 : (Jvm.Cond.fieldLink "GhostAssize$Tag" (7 : Nat) "GhostAssize$Tag" "fact" "I") ∈ lw_all := lw_g (lw_at lw_m4 155 rfl) rfl
theorem q996 : (Jvm.Cond.laysFinal "GhostAssize$Tag" "GhostAssize$Tag" "fact" "I") ∈ lw_all := lw_g (lw_at lw_m4 156 rfl) rfl
theorem q997 : (Jvm.Cond.soleField "GhostAssize$Tag" "fact") ∈ lw_all := lw_g (lw_at lw_m4 157 rfl) rfl
theorem q998 : (Jvm.Cond.superclass "GhostAssize$Tag" "java/lang/Object") ∈ lw_all := lw_g (lw_at lw_m4 158 rfl) rfl
theorem q2115 : (Jvm.Cond.castable "GhostAssize$Tag" "java/lang/Object") ∈ lw_tbl := lw_at lw_m9 75 rfl
theorem in_X10 : ∀ w ∈ wsX100, w ∈ lw_all := lw_in wsX100 [996] (by decide +kernel) (by decide +kernel)

/-! GhostAssize$Sum -/
set_option maxRecDepth 100000
def RX11 : String := "GhostAssize$Sum"
def TX11 : u_T := fun k => match k with
  | 0 => ("GhostAssize$Sum", "times", "[I", true)
  | _ => ("GhostAssize$Sum", "number", "I", false)
def tyX11 : Nat → FieldType := fun k => match k with
  | 0 => .array .int
  | _ => .int
abbrev wsX110 : List Cond := u_ws RX11 TX11 2
theorem nmX11 : ∀ a, a < 2 → ∀ b, b < 2 → a ≠ b → (TX11 a).2.1 ≠ (TX11 b).2.1 := by decide +kernel
theorem tyX11_ok : ∀ k, k < 2 → parseFieldDescriptor (TX11 k).2.2.1 = some (tyX11 k) := by decide +kernel
abbrev cX11_of : ByteArray := prog_12_method_2_code
def yX11_of : MethodName := ⟨RX11, "of", "([I)I"⟩
def dkwX11_of_1 : List UInt8 := [96, 61, 132, 3, 1, 167, 255, 234, 28, 172]
abbrev dktX11_of_1 : List UInt8 := dkwX11_of_1 ++ []
def dkwX11_of_0 : List UInt8 := [42, 180, 0, 15, 61, 3, 62, 29, 16, 6, 162, 0, 22, 28, 42, 180, 0, 9, 29, 46, 43, 29, 46, 104]
abbrev dktX11_of_0 : List UInt8 := dkwX11_of_0 ++ dktX11_of_1
theorem dksX11_of_0 : cX11_of.data.toList.drop 0 = dktX11_of_0 := by decide +kernel
theorem dksX11_of_1 : cX11_of.data.toList.drop 24 = dktX11_of_1 := dk_seg dksX11_of_0 24 rfl rfl
theorem dX11_of_0 : decode cX11_of 0 = .ok (.aload_n 0, 1) := dk_42 (dk_at dksX11_of_0 0 rfl rfl)
theorem dX11_of_1 : decode cX11_of 1 = .ok (.getfield 15, 3) := dk_180 0 15 (dk_at dksX11_of_0 1 rfl rfl)
theorem dX11_of_4 : decode cX11_of 4 = .ok (.istore_n 2, 1) := dk_61 (dk_at dksX11_of_0 4 rfl rfl)
theorem dX11_of_5 : decode cX11_of 5 = .ok (.iconst 0, 1) := dk_3 (dk_at dksX11_of_0 5 rfl rfl)
theorem dX11_of_6 : decode cX11_of 6 = .ok (.istore_n 3, 1) := dk_62 (dk_at dksX11_of_0 6 rfl rfl)
theorem dX11_of_7 : decode cX11_of 7 = .ok (.iload_n 3, 1) := dk_29 (dk_at dksX11_of_0 7 rfl rfl)
theorem dX11_of_8 : decode cX11_of 8 = .ok (.bipush 6, 2) := dk_16 6 (dk_at dksX11_of_0 8 rfl rfl)
theorem dX11_of_10 : decode cX11_of 10 = .ok (.if_icmp .ge 22, 3) := dk_162 0 22 (dk_at dksX11_of_0 10 rfl rfl)
theorem dX11_of_13 : decode cX11_of 13 = .ok (.iload_n 2, 1) := dk_28 (dk_at dksX11_of_0 13 rfl rfl)
theorem dX11_of_14 : decode cX11_of 14 = .ok (.aload_n 0, 1) := dk_42 (dk_at dksX11_of_0 14 rfl rfl)
theorem dX11_of_15 : decode cX11_of 15 = .ok (.getfield 9, 3) := dk_180 0 9 (dk_at dksX11_of_0 15 rfl rfl)
theorem dX11_of_18 : decode cX11_of 18 = .ok (.iload_n 3, 1) := dk_29 (dk_at dksX11_of_0 18 rfl rfl)
theorem dX11_of_19 : decode cX11_of 19 = .ok (.iaload, 1) := dk_46 (dk_at dksX11_of_0 19 rfl rfl)
theorem dX11_of_20 : decode cX11_of 20 = .ok (.aload_n 1, 1) := dk_43 (dk_at dksX11_of_0 20 rfl rfl)
theorem dX11_of_21 : decode cX11_of 21 = .ok (.iload_n 3, 1) := dk_29 (dk_at dksX11_of_0 21 rfl rfl)
theorem dX11_of_22 : decode cX11_of 22 = .ok (.iaload, 1) := dk_46 (dk_at dksX11_of_0 22 rfl rfl)
theorem dX11_of_23 : decode cX11_of 23 = .ok (.imul, 1) := dk_104 (dk_at dksX11_of_0 23 rfl rfl)
theorem dX11_of_24 : decode cX11_of 24 = .ok (.iadd, 1) := dk_96 (dk_at dksX11_of_1 0 rfl rfl)
theorem dX11_of_25 : decode cX11_of 25 = .ok (.istore_n 2, 1) := dk_61 (dk_at dksX11_of_1 1 rfl rfl)
theorem dX11_of_26 : decode cX11_of 26 = .ok (.iinc 3 1, 3) := dk_132 3 1 (dk_at dksX11_of_1 2 rfl rfl)
theorem dX11_of_29 : decode cX11_of 29 = .ok (.goto (-22), 3) := dk_167 255 234 (dk_at dksX11_of_1 5 rfl rfl)
theorem dX11_of_32 : decode cX11_of 32 = .ok (.iload_n 2, 1) := dk_28 (dk_at dksX11_of_1 8 rfl rfl)
theorem dX11_of_33 : decode cX11_of 33 = .ok (.ireturn, 1) := dk_172 (dk_at dksX11_of_1 9 rfl rfl)
abbrev cX11_init : ByteArray := prog_12_method_1_code
def yX11_init : MethodName := ⟨RX11, "<init>", "()V"⟩
def dkwX11_init_0 : List UInt8 := [42, 183, 0, 3, 42, 16, 6, 188, 10, 181, 0, 9, 177]
abbrev dktX11_init_0 : List UInt8 := dkwX11_init_0 ++ []
theorem dksX11_init_0 : cX11_init.data.toList.drop 0 = dktX11_init_0 := by decide +kernel
theorem dX11_init_0 : decode cX11_init 0 = .ok (.aload_n 0, 1) := dk_42 (dk_at dksX11_init_0 0 rfl rfl)
theorem dX11_init_1 : decode cX11_init 1 = .ok (.invokespecial 3, 3) := dk_183 0 3 (dk_at dksX11_init_0 1 rfl rfl)
theorem dX11_init_4 : decode cX11_init 4 = .ok (.aload_n 0, 1) := dk_42 (dk_at dksX11_init_0 4 rfl rfl)
theorem dX11_init_5 : decode cX11_init 5 = .ok (.bipush 6, 2) := dk_16 6 (dk_at dksX11_init_0 5 rfl rfl)
theorem dX11_init_7 : decode cX11_init 7 = .ok (.newarray .int, 2) := dk_188_10 (dk_at dksX11_init_0 7 rfl rfl)
theorem dX11_init_9 : decode cX11_init 9 = .ok (.putfield 9, 3) := dk_181 0 9 (dk_at dksX11_init_0 9 rfl rfl)
theorem dX11_init_12 : decode cX11_init 12 = .ok (.return_, 1) := dk_177 (dk_at dksX11_init_0 12 rfl rfl)
theorem q142 : (Jvm.Cond.initialized "GhostAssize$Sum") ∈ lw_all := lw_g (lw_at lw_m1 22 rfl) rfl
theorem q605 : (Jvm.Cond.instanceMethod ({ cls := "GhostAssize$Sum", name := "of", desc := "([I)I" } : Jvm.MethodName)) ∈ lw_all := lw_g (lw_at lw_m3 5 rfl) rfl
theorem q606 : (Jvm.Cond.selects "GhostAssize$Sum" ({ cls := "GhostAssize$Sum", name := "of", desc := "([I)I" } : Jvm.MethodName) ({ cls := "GhostAssize$Sum", name := "of", desc := "([I)I" } : Jvm.MethodName)) ∈ lw_all := lw_g (lw_at lw_m3 6 rfl) rfl
theorem q607 : (Jvm.Cond.code ({ cls := "GhostAssize$Sum", name := "of", desc := "([I)I" } : Jvm.MethodName) prog_12_method_2_code (4 : Nat) (Option.some Jvm.ClassFile.FieldType.int)) ∈ lw_all := lw_g (lw_at lw_m3 7 rfl) rfl
theorem q1004 : (Jvm.Cond.instantiable "GhostAssize$Sum" (2 : Nat)) ∈ lw_all := lw_g (lw_at lw_m4 164 rfl) rfl
theorem q1006 : (Jvm.Cond.instanceMethod ({ cls := "GhostAssize$Sum", name := "<init>", desc := "()V" } : Jvm.MethodName)) ∈ lw_all := lw_g (lw_at lw_m4 166 rfl) rfl
theorem q1007 : (Jvm.Cond.code ({ cls := "GhostAssize$Sum", name := "<init>", desc := "()V" } : Jvm.MethodName) prog_12_method_1_code (1 : Nat) (Option.none : Option Jvm.ClassFile.FieldType)) ∈ lw_all := lw_g (lw_at lw_m4 167 rfl) rfl
theorem q1008 : (Jvm.Cond.methodLink "GhostAssize$Sum" (3 : Nat) ({ cls := "java/lang/Object", name := "<init>", desc := "()V" } : Jvm.MethodName)) ∈ lw_all := lw_g (lw_at lw_m4 168 rfl) rfl
theorem q1009 : (Jvm.Cond.fieldLink "GhostAssize$Sum" (9 : Nat) "GhostAssize$Sum" "times" "[I") ∈ lw_all := lw_g (lw_at lw_m4 169 rfl) rfl
theorem q1011 : (Jvm.Cond.fieldLink "GhostAssize$Sum" (15 : Nat) "GhostAssize$Sum" "number" "I") ∈ lw_all := lw_g (lw_at lw_m4 171 rfl) rfl
theorem q1013 : (Jvm.Cond.laysFinal "GhostAssize$Sum" "GhostAssize$Sum" "times" "[I") ∈ lw_all := lw_g (lw_at lw_m4 173 rfl) rfl
theorem q1014 : (Jvm.Cond.soleField "GhostAssize$Sum" "times") ∈ lw_all := lw_g (lw_at lw_m4 174 rfl) rfl
theorem q1015 : (Jvm.Cond.lays "GhostAssize$Sum" "GhostAssize$Sum" "number" "I") ∈ lw_all := lw_g (lw_at lw_m4 175 rfl) rfl
theorem q1016 : (Jvm.Cond.soleField "GhostAssize$Sum" "number") ∈ lw_all := lw_g (lw_at lw_m4 176 rfl) rfl
theorem q1017 : (Jvm.Cond.superclass "GhostAssize$Sum" "java/lang/Object") ∈ lw_all := lw_g (lw_at lw_m4 177 rfl) rfl
theorem q2116 : (Jvm.Cond.castable "GhostAssize$Sum" "java/lang/Object") ∈ lw_tbl := lw_at lw_m9 76 rfl
theorem in_X11 : ∀ w ∈ wsX110, w ∈ lw_all := lw_in wsX110 [1013, 1015] (by decide +kernel) (by decide +kernel)

/-! GhostAssize$Less -/
set_option maxRecDepth 100000
def RX12 : String := "GhostAssize$Less"
def TX12 : u_T := fun k => match k with
  | 0 => ("GhostAssize$Less", "low", "LGhostAssize$Sum;", true)
  | _ => ("GhostAssize$Less", "high", "LGhostAssize$Sum;", true)
def tyX12 : Nat → FieldType := fun k => match k with
  | 0 => .object "GhostAssize$Sum"
  | _ => .object "GhostAssize$Sum"
abbrev wsX120 : List Cond := u_ws RX12 TX12 2
theorem nmX12 : ∀ a, a < 2 → ∀ b, b < 2 → a ≠ b → (TX12 a).2.1 ≠ (TX12 b).2.1 := by decide +kernel
theorem tyX12_ok : ∀ k, k < 2 → parseFieldDescriptor (TX12 k).2.2.1 = some (tyX12 k) := by decide +kernel
abbrev cX12_holds : ByteArray := prog_5_method_2_code
def yX12_holds : MethodName := ⟨RX12, "holds", "([I)Z"⟩
def dkwX12_holds_1 : List UInt8 := [172]
abbrev dktX12_holds_1 : List UInt8 := dkwX12_holds_1 ++ []
def dkwX12_holds_0 : List UInt8 := [42, 180, 0, 7, 43, 182, 0, 16, 42, 180, 0, 13, 43, 182, 0, 16, 162, 0, 7, 4, 167, 0, 4, 3]
abbrev dktX12_holds_0 : List UInt8 := dkwX12_holds_0 ++ dktX12_holds_1
theorem dksX12_holds_0 : cX12_holds.data.toList.drop 0 = dktX12_holds_0 := by decide +kernel
theorem dksX12_holds_1 : cX12_holds.data.toList.drop 24 = dktX12_holds_1 := dk_seg dksX12_holds_0 24 rfl rfl
theorem dX12_holds_0 : decode cX12_holds 0 = .ok (.aload_n 0, 1) := dk_42 (dk_at dksX12_holds_0 0 rfl rfl)
theorem dX12_holds_1 : decode cX12_holds 1 = .ok (.getfield 7, 3) := dk_180 0 7 (dk_at dksX12_holds_0 1 rfl rfl)
theorem dX12_holds_4 : decode cX12_holds 4 = .ok (.aload_n 1, 1) := dk_43 (dk_at dksX12_holds_0 4 rfl rfl)
theorem dX12_holds_5 : decode cX12_holds 5 = .ok (.invokevirtual 16, 3) := dk_182 0 16 (dk_at dksX12_holds_0 5 rfl rfl)
theorem dX12_holds_8 : decode cX12_holds 8 = .ok (.aload_n 0, 1) := dk_42 (dk_at dksX12_holds_0 8 rfl rfl)
theorem dX12_holds_9 : decode cX12_holds 9 = .ok (.getfield 13, 3) := dk_180 0 13 (dk_at dksX12_holds_0 9 rfl rfl)
theorem dX12_holds_12 : decode cX12_holds 12 = .ok (.aload_n 1, 1) := dk_43 (dk_at dksX12_holds_0 12 rfl rfl)
theorem dX12_holds_13 : decode cX12_holds 13 = .ok (.invokevirtual 16, 3) := dk_182 0 16 (dk_at dksX12_holds_0 13 rfl rfl)
theorem dX12_holds_16 : decode cX12_holds 16 = .ok (.if_icmp .ge 7, 3) := dk_162 0 7 (dk_at dksX12_holds_0 16 rfl rfl)
theorem dX12_holds_19 : decode cX12_holds 19 = .ok (.iconst 1, 1) := dk_4 (dk_at dksX12_holds_0 19 rfl rfl)
theorem dX12_holds_20 : decode cX12_holds 20 = .ok (.goto 4, 3) := dk_167 0 4 (dk_at dksX12_holds_0 20 rfl rfl)
theorem dX12_holds_23 : decode cX12_holds 23 = .ok (.iconst 0, 1) := dk_3 (dk_at dksX12_holds_0 23 rfl rfl)
theorem dX12_holds_24 : decode cX12_holds 24 = .ok (.ireturn, 1) := dk_172 (dk_at dksX12_holds_1 0 rfl rfl)
abbrev cX12_init : ByteArray := prog_5_method_1_code
def yX12_init : MethodName := ⟨RX12, "<init>", "(LGhostAssize$Sum;LGhostAssize$Sum;)V"⟩
def dkwX12_init_0 : List UInt8 := [42, 183, 0, 1, 42, 43, 181, 0, 7, 42, 44, 181, 0, 13, 177]
abbrev dktX12_init_0 : List UInt8 := dkwX12_init_0 ++ []
theorem dksX12_init_0 : cX12_init.data.toList.drop 0 = dktX12_init_0 := by decide +kernel
theorem dX12_init_0 : decode cX12_init 0 = .ok (.aload_n 0, 1) := dk_42 (dk_at dksX12_init_0 0 rfl rfl)
theorem dX12_init_1 : decode cX12_init 1 = .ok (.invokespecial 1, 3) := dk_183 0 1 (dk_at dksX12_init_0 1 rfl rfl)
theorem dX12_init_4 : decode cX12_init 4 = .ok (.aload_n 0, 1) := dk_42 (dk_at dksX12_init_0 4 rfl rfl)
theorem dX12_init_5 : decode cX12_init 5 = .ok (.aload_n 1, 1) := dk_43 (dk_at dksX12_init_0 5 rfl rfl)
theorem dX12_init_6 : decode cX12_init 6 = .ok (.putfield 7, 3) := dk_181 0 7 (dk_at dksX12_init_0 6 rfl rfl)
theorem dX12_init_9 : decode cX12_init 9 = .ok (.aload_n 0, 1) := dk_42 (dk_at dksX12_init_0 9 rfl rfl)
theorem dX12_init_10 : decode cX12_init 10 = .ok (.aload_n 2, 1) := dk_44 (dk_at dksX12_init_0 10 rfl rfl)
theorem dX12_init_11 : decode cX12_init 11 = .ok (.putfield 13, 3) := dk_181 0 13 (dk_at dksX12_init_0 11 rfl rfl)
theorem dX12_init_14 : decode cX12_init 14 = .ok (.return_, 1) := dk_177 (dk_at dksX12_init_0 14 rfl rfl)
theorem q143 : (Jvm.Cond.initialized "GhostAssize$Less") ∈ lw_all := lw_g (lw_at lw_m1 23 rfl) rfl
theorem q598 : (Jvm.Cond.castable "GhostAssize$Less" "GhostAssize$Cond") ∈ lw_tbl := lw_at lw_m2 238 rfl
theorem q599 : (Jvm.Cond.selects "GhostAssize$Less" ({ cls := "GhostAssize$Cond", name := "holds", desc := "([I)Z" } : Jvm.MethodName) ({ cls := "GhostAssize$Less", name := "holds", desc := "([I)Z" } : Jvm.MethodName)) ∈ lw_all := lw_g (lw_at lw_m2 239 rfl) rfl
theorem q600 : (Jvm.Cond.unhidden "GhostAssize$Less" "holds" "([I)Z") ∈ lw_tbl := lw_at lw_m3 0 rfl
theorem q601 : (Jvm.Cond.instanceMethod ({ cls := "GhostAssize$Less", name := "holds", desc := "([I)Z" } : Jvm.MethodName)) ∈ lw_all := lw_g (lw_at lw_m3 1 rfl) rfl
theorem q602 : (Jvm.Cond.publicMethod ({ cls := "GhostAssize$Less", name := "holds", desc := "([I)Z" } : Jvm.MethodName)) ∈ lw_tbl := lw_at lw_m3 2 rfl
theorem q603 : (Jvm.Cond.code ({ cls := "GhostAssize$Less", name := "holds", desc := "([I)Z" } : Jvm.MethodName) prog_5_method_2_code (2 : Nat) (Option.some Jvm.ClassFile.FieldType.boolean)) ∈ lw_all := lw_g (lw_at lw_m3 3 rfl) rfl
theorem q604 : (Jvm.Cond.methodLink "GhostAssize$Less" (16 : Nat) ({ cls := "GhostAssize$Sum", name := "of", desc := "([I)I" } : Jvm.MethodName)) ∈ lw_all := lw_g (lw_at lw_m3 4 rfl) rfl
theorem q1027 : (Jvm.Cond.instantiable "GhostAssize$Less" (2 : Nat)) ∈ lw_all := lw_g (lw_at lw_m4 187 rfl) rfl
theorem q1029 : (Jvm.Cond.instanceMethod ({ cls := "GhostAssize$Less", name := "<init>", desc := "(LGhostAssize$Sum;LGhostAssize$Sum;)V" } : Jvm.MethodName)) ∈ lw_all := lw_g (lw_at lw_m4 189 rfl) rfl
theorem q1030 : (Jvm.Cond.code ({ cls := "GhostAssize$Less", name := "<init>", desc := "(LGhostAssize$Sum;LGhostAssize$Sum;)V" } : Jvm.MethodName) prog_5_method_1_code (3 : Nat) (Option.none : Option Jvm.ClassFile.FieldType)) ∈ lw_all := lw_g (lw_at lw_m4 190 rfl) rfl
theorem q1031 : (Jvm.Cond.methodLink "GhostAssize$Less" (1 : Nat) ({ cls := "java/lang/Object", name := "<init>", desc := "()V" } : Jvm.MethodName)) ∈ lw_all := lw_g (lw_at lw_m4 191 rfl) rfl
theorem q1032 : (Jvm.Cond.fieldLink "GhostAssize$Less" (7 : Nat) "GhostAssize$Less" "low" "LGhostAssize$Sum;") ∈ lw_all := lw_g (lw_at lw_m4 192 rfl) rfl
theorem q1033 : (Jvm.Cond.fieldLink "GhostAssize$Less" (13 : Nat) "GhostAssize$Less" "high" "LGhostAssize$Sum;") ∈ lw_all := lw_g (lw_at lw_m4 193 rfl) rfl
theorem q1034 : (Jvm.Cond.laysFinal "GhostAssize$Less" "GhostAssize$Less" "low" "LGhostAssize$Sum;") ∈ lw_all := lw_g (lw_at lw_m4 194 rfl) rfl
theorem q1035 : (Jvm.Cond.soleField "GhostAssize$Less" "low") ∈ lw_all := lw_g (lw_at lw_m4 195 rfl) rfl
theorem q1036 : (Jvm.Cond.laysFinal "GhostAssize$Less" "GhostAssize$Less" "high" "LGhostAssize$Sum;") ∈ lw_all := lw_g (lw_at lw_m4 196 rfl) rfl
theorem q1037 : (Jvm.Cond.soleField "GhostAssize$Less" "high") ∈ lw_all := lw_g (lw_at lw_m4 197 rfl) rfl
theorem q1038 : (Jvm.Cond.superclass "GhostAssize$Less" "java/lang/Object") ∈ lw_all := lw_g (lw_at lw_m4 198 rfl) rfl
theorem q2117 : (Jvm.Cond.castable "GhostAssize$Less" "java/lang/Object") ∈ lw_tbl := lw_at lw_m9 77 rfl
theorem in_X12 : ∀ w ∈ wsX120, w ∈ lw_all := lw_in wsX120 [1034, 1036] (by decide +kernel) (by decide +kernel)

/-! GhostAssize$Not -/
set_option maxRecDepth 100000
def RX13 : String := "GhostAssize$Not"
def TX13 : u_T := fun k => match k with
  | _ => ("GhostAssize$Not", "of", "LGhostAssize$Cond;", true)
def tyX13 : Nat → FieldType := fun k => match k with
  | _ => .object "GhostAssize$Cond"
abbrev wsX130 : List Cond := u_ws RX13 TX13 1
theorem nmX13 : ∀ a, a < 1 → ∀ b, b < 1 → a ≠ b → (TX13 a).2.1 ≠ (TX13 b).2.1 := by decide +kernel
theorem tyX13_ok : ∀ k, k < 1 → parseFieldDescriptor (TX13 k).2.2.1 = some (tyX13 k) := by decide +kernel
abbrev cX13_holds : ByteArray := prog_7_method_2_code
def yX13_holds : MethodName := ⟨RX13, "holds", "([I)Z"⟩
def dkwX13_holds_0 : List UInt8 := [42, 180, 0, 7, 43, 185, 0, 13, 2, 0, 154, 0, 7, 4, 167, 0, 4, 3, 172]
abbrev dktX13_holds_0 : List UInt8 := dkwX13_holds_0 ++ []
theorem dksX13_holds_0 : cX13_holds.data.toList.drop 0 = dktX13_holds_0 := by decide +kernel
theorem dX13_holds_0 : decode cX13_holds 0 = .ok (.aload_n 0, 1) := dk_42 (dk_at dksX13_holds_0 0 rfl rfl)
theorem dX13_holds_1 : decode cX13_holds 1 = .ok (.getfield 7, 3) := dk_180 0 7 (dk_at dksX13_holds_0 1 rfl rfl)
theorem dX13_holds_4 : decode cX13_holds 4 = .ok (.aload_n 1, 1) := dk_43 (dk_at dksX13_holds_0 4 rfl rfl)
theorem dX13_holds_5 : decode cX13_holds 5 = .ok (.invokeinterface 13 2, 5) := by decide +kernel
theorem dX13_holds_10 : decode cX13_holds 10 = .ok (.ifCond .ne 7, 3) := dk_154 0 7 (dk_at dksX13_holds_0 10 rfl rfl)
theorem dX13_holds_13 : decode cX13_holds 13 = .ok (.iconst 1, 1) := dk_4 (dk_at dksX13_holds_0 13 rfl rfl)
theorem dX13_holds_14 : decode cX13_holds 14 = .ok (.goto 4, 3) := dk_167 0 4 (dk_at dksX13_holds_0 14 rfl rfl)
theorem dX13_holds_17 : decode cX13_holds 17 = .ok (.iconst 0, 1) := dk_3 (dk_at dksX13_holds_0 17 rfl rfl)
theorem dX13_holds_18 : decode cX13_holds 18 = .ok (.ireturn, 1) := dk_172 (dk_at dksX13_holds_0 18 rfl rfl)
abbrev cX13_init : ByteArray := prog_7_method_1_code
def yX13_init : MethodName := ⟨RX13, "<init>", "(LGhostAssize$Cond;)V"⟩
def dkwX13_init_0 : List UInt8 := [42, 183, 0, 1, 42, 43, 181, 0, 7, 177]
abbrev dktX13_init_0 : List UInt8 := dkwX13_init_0 ++ []
theorem dksX13_init_0 : cX13_init.data.toList.drop 0 = dktX13_init_0 := by decide +kernel
theorem dX13_init_0 : decode cX13_init 0 = .ok (.aload_n 0, 1) := dk_42 (dk_at dksX13_init_0 0 rfl rfl)
theorem dX13_init_1 : decode cX13_init 1 = .ok (.invokespecial 1, 3) := dk_183 0 1 (dk_at dksX13_init_0 1 rfl rfl)
theorem dX13_init_4 : decode cX13_init 4 = .ok (.aload_n 0, 1) := dk_42 (dk_at dksX13_init_0 4 rfl rfl)
theorem dX13_init_5 : decode cX13_init 5 = .ok (.aload_n 1, 1) := dk_43 (dk_at dksX13_init_0 5 rfl rfl)
theorem dX13_init_6 : decode cX13_init 6 = .ok (.putfield 7, 3) := dk_181 0 7 (dk_at dksX13_init_0 6 rfl rfl)
theorem dX13_init_9 : decode cX13_init 9 = .ok (.return_, 1) := dk_177 (dk_at dksX13_init_0 9 rfl rfl)
theorem q144 : (Jvm.Cond.initialized "GhostAssize$Not") ∈ lw_all := lw_g (lw_at lw_m1 24 rfl) rfl
theorem q608 : (Jvm.Cond.castable "GhostAssize$Not" "GhostAssize$Cond") ∈ lw_tbl := lw_at lw_m3 8 rfl
theorem q609 : (Jvm.Cond.selects "GhostAssize$Not" ({ cls := "GhostAssize$Cond", name := "holds", desc := "([I)Z" } : Jvm.MethodName) ({ cls := "GhostAssize$Not", name := "holds", desc := "([I)Z" } : Jvm.MethodName)) ∈ lw_all := lw_g (lw_at lw_m3 9 rfl) rfl
theorem q610 : (Jvm.Cond.unhidden "GhostAssize$Not" "holds" "([I)Z") ∈ lw_tbl := lw_at lw_m3 10 rfl
theorem q611 : (Jvm.Cond.instanceMethod ({ cls := "GhostAssize$Not", name := "holds", desc := "([I)Z" } : Jvm.MethodName)) ∈ lw_all := lw_g (lw_at lw_m3 11 rfl) rfl
theorem q612 : (Jvm.Cond.publicMethod ({ cls := "GhostAssize$Not", name := "holds", desc := "([I)Z" } : Jvm.MethodName)) ∈ lw_tbl := lw_at lw_m3 12 rfl
theorem q613 : (Jvm.Cond.code ({ cls := "GhostAssize$Not", name := "holds", desc := "([I)Z" } : Jvm.MethodName) prog_7_method_2_code (2 : Nat) (Option.some Jvm.ClassFile.FieldType.boolean)) ∈ lw_all := lw_g (lw_at lw_m3 13 rfl) rfl
theorem q614 : (Jvm.Cond.interfaceEntry "GhostAssize$Not" (13 : Nat)) ∈ lw_tbl := lw_at lw_m3 14 rfl
theorem q615 : (Jvm.Cond.methodLink "GhostAssize$Not" (13 : Nat) ({ cls := "GhostAssize$Cond", name := "holds", desc := "([I)Z" } : Jvm.MethodName)) ∈ lw_all := lw_g (lw_at lw_m3 15 rfl) rfl
theorem q1040 : (Jvm.Cond.instantiable "GhostAssize$Not" (1 : Nat)) ∈ lw_all := lw_g (lw_at lw_m4 200 rfl) rfl
theorem q1042 : (Jvm.Cond.instanceMethod ({ cls := "GhostAssize$Not", name := "<init>", desc := "(LGhostAssize$Cond;)V" } : Jvm.MethodName)) ∈ lw_all := lw_g (lw_at lw_m4 202 rfl) rfl
theorem q1043 : (Jvm.Cond.code ({ cls := "GhostAssize$Not", name := "<init>", desc := "(LGhostAssize$Cond;)V" } : Jvm.MethodName) prog_7_method_1_code (2 : Nat) (Option.none : Option Jvm.ClassFile.FieldType)) ∈ lw_all := lw_g (lw_at lw_m4 203 rfl) rfl
theorem q1044 : (Jvm.Cond.methodLink "GhostAssize$Not" (1 : Nat) ({ cls := "java/lang/Object", name := "<init>", desc := "()V" } : Jvm.MethodName)) ∈ lw_all := lw_g (lw_at lw_m4 204 rfl) rfl
theorem q1045 : (Jvm.Cond.fieldLink "GhostAssize$Not" (7 : Nat) "GhostAssize$Not" "of" "LGhostAssize$Cond;") ∈ lw_all := lw_g (lw_at lw_m4 205 rfl) rfl
theorem q1046 : (Jvm.Cond.laysFinal "GhostAssize$Not" "GhostAssize$Not" "of" "LGhostAssize$Cond;") ∈ lw_all := lw_g (lw_at lw_m4 206 rfl) rfl
theorem q1047 : (Jvm.Cond.soleField "GhostAssize$Not" "of") ∈ lw_all := lw_g (lw_at lw_m4 207 rfl) rfl
theorem q1048 : (Jvm.Cond.superclass "GhostAssize$Not" "java/lang/Object") ∈ lw_all := lw_g (lw_at lw_m4 208 rfl) rfl
theorem q2118 : (Jvm.Cond.castable "GhostAssize$Not" "java/lang/Object") ∈ lw_tbl := lw_at lw_m9 78 rfl
theorem in_X13 : ∀ w ∈ wsX130, w ∈ lw_all := lw_in wsX130 [1046] (by decide +kernel) (by decide +kernel)

/-! GhostAssize$Line -/
set_option maxRecDepth 100000
def RX14 : String := "GhostAssize$Line"
abbrev cX14_adds : ByteArray := prog_6_method_2_code
def yX14_adds : MethodName := ⟨RX14, "adds", "([I)I"⟩
def dkwX14_adds_1 : List UInt8 := [167, 0, 4, 3, 172]
abbrev dktX14_adds_1 : List UInt8 := dkwX14_adds_1 ++ []
def dkwX14_adds_0 : List UInt8 := [42, 180, 0, 13, 198, 0, 16, 42, 180, 0, 13, 43, 185, 0, 17, 2, 0, 153, 0, 10, 42, 180, 0, 7]
abbrev dktX14_adds_0 : List UInt8 := dkwX14_adds_0 ++ dktX14_adds_1
theorem dksX14_adds_0 : cX14_adds.data.toList.drop 0 = dktX14_adds_0 := by decide +kernel
theorem dksX14_adds_1 : cX14_adds.data.toList.drop 24 = dktX14_adds_1 := dk_seg dksX14_adds_0 24 rfl rfl
theorem dX14_adds_0 : decode cX14_adds 0 = .ok (.aload_n 0, 1) := dk_42 (dk_at dksX14_adds_0 0 rfl rfl)
theorem dX14_adds_1 : decode cX14_adds 1 = .ok (.getfield 13, 3) := dk_180 0 13 (dk_at dksX14_adds_0 1 rfl rfl)
theorem dX14_adds_4 : decode cX14_adds 4 = .ok (.ifnull 16, 3) := dk_198 0 16 (dk_at dksX14_adds_0 4 rfl rfl)
theorem dX14_adds_7 : decode cX14_adds 7 = .ok (.aload_n 0, 1) := dk_42 (dk_at dksX14_adds_0 7 rfl rfl)
theorem dX14_adds_8 : decode cX14_adds 8 = .ok (.getfield 13, 3) := dk_180 0 13 (dk_at dksX14_adds_0 8 rfl rfl)
theorem dX14_adds_11 : decode cX14_adds 11 = .ok (.aload_n 1, 1) := dk_43 (dk_at dksX14_adds_0 11 rfl rfl)
theorem dX14_adds_12 : decode cX14_adds 12 = .ok (.invokeinterface 17 2, 5) := by decide +kernel
theorem dX14_adds_17 : decode cX14_adds 17 = .ok (.ifCond .eq 10, 3) := dk_153 0 10 (dk_at dksX14_adds_0 17 rfl rfl)
theorem dX14_adds_20 : decode cX14_adds 20 = .ok (.aload_n 0, 1) := dk_42 (dk_at dksX14_adds_0 20 rfl rfl)
theorem dX14_adds_21 : decode cX14_adds 21 = .ok (.getfield 7, 3) := dk_180 0 7 (dk_at dksX14_adds_0 21 rfl rfl)
theorem dX14_adds_24 : decode cX14_adds 24 = .ok (.goto 4, 3) := dk_167 0 4 (dk_at dksX14_adds_1 0 rfl rfl)
theorem dX14_adds_27 : decode cX14_adds 27 = .ok (.iconst 0, 1) := dk_3 (dk_at dksX14_adds_1 3 rfl rfl)
theorem dX14_adds_28 : decode cX14_adds 28 = .ok (.ireturn, 1) := dk_172 (dk_at dksX14_adds_1 4 rfl rfl)
abbrev cX14_frights : ByteArray := prog_6_method_3_code
def yX14_frights : MethodName := ⟨RX14, "frights", "([I)I"⟩
theorem dX14_frights_0 : decode cX14_frights 0 = .ok (.iconst 0, 1) := by decide +kernel
theorem dX14_frights_1 : decode cX14_frights 1 = .ok (.ireturn, 1) := by decide +kernel
abbrev cX14_wears : ByteArray := prog_6_method_4_code
def yX14_wears : MethodName := ⟨RX14, "wears", "([I)I"⟩
theorem dX14_wears_0 : decode cX14_wears 0 = .ok (.iconst 0, 1) := by decide +kernel
theorem dX14_wears_1 : decode cX14_wears 1 = .ok (.ireturn, 1) := by decide +kernel
abbrev cX14_init : ByteArray := prog_6_method_1_code
def yX14_init : MethodName := ⟨RX14, "<init>", "(ILGhostAssize$Cond;)V"⟩
def dkwX14_init_0 : List UInt8 := [42, 183, 0, 1, 42, 27, 181, 0, 7, 42, 44, 181, 0, 13, 177]
abbrev dktX14_init_0 : List UInt8 := dkwX14_init_0 ++ []
theorem dksX14_init_0 : cX14_init.data.toList.drop 0 = dktX14_init_0 := by decide +kernel
theorem dX14_init_0 : decode cX14_init 0 = .ok (.aload_n 0, 1) := dk_42 (dk_at dksX14_init_0 0 rfl rfl)
theorem dX14_init_1 : decode cX14_init 1 = .ok (.invokespecial 1, 3) := dk_183 0 1 (dk_at dksX14_init_0 1 rfl rfl)
theorem dX14_init_4 : decode cX14_init 4 = .ok (.aload_n 0, 1) := dk_42 (dk_at dksX14_init_0 4 rfl rfl)
theorem dX14_init_5 : decode cX14_init 5 = .ok (.iload_n 1, 1) := dk_27 (dk_at dksX14_init_0 5 rfl rfl)
theorem dX14_init_6 : decode cX14_init 6 = .ok (.putfield 7, 3) := dk_181 0 7 (dk_at dksX14_init_0 6 rfl rfl)
theorem dX14_init_9 : decode cX14_init 9 = .ok (.aload_n 0, 1) := dk_42 (dk_at dksX14_init_0 9 rfl rfl)
theorem dX14_init_10 : decode cX14_init 10 = .ok (.aload_n 2, 1) := dk_44 (dk_at dksX14_init_0 10 rfl rfl)
theorem dX14_init_11 : decode cX14_init 11 = .ok (.putfield 13, 3) := dk_181 0 13 (dk_at dksX14_init_0 11 rfl rfl)
theorem dX14_init_14 : decode cX14_init 14 = .ok (.return_, 1) := dk_177 (dk_at dksX14_init_0 14 rfl rfl)
theorem q145 : (Jvm.Cond.initialized "GhostAssize$Line") ∈ lw_all := lw_g (lw_at lw_m1 25 rfl) rfl
theorem q575 : (Jvm.Cond.instanceMethod ({ cls := "GhostAssize$Line", name := "frights", desc := "([I)I" } : Jvm.MethodName)) ∈ lw_all := lw_g (lw_at lw_m2 215 rfl) rfl
theorem q576 : (Jvm.Cond.sameMethod "GhostAssize$Line" "GhostAssize$Line" "frights" "([I)I") ∈ lw_all := lw_g (lw_at lw_m2 216 rfl) rfl
theorem q582 : (Jvm.Cond.declares ({ cls := "GhostAssize$Line", name := "adds", desc := "([I)I" } : Jvm.MethodName)) ∈ lw_tbl := lw_at lw_m2 222 rfl
theorem q584 : (Jvm.Cond.instanceMethod ({ cls := "GhostAssize$Line", name := "adds", desc := "([I)I" } : Jvm.MethodName)) ∈ lw_all := lw_g (lw_at lw_m2 224 rfl) rfl
theorem q585 : (Jvm.Cond.code ({ cls := "GhostAssize$Line", name := "adds", desc := "([I)I" } : Jvm.MethodName) prog_6_method_2_code (2 : Nat) (Option.some Jvm.ClassFile.FieldType.int)) ∈ lw_all := lw_g (lw_at lw_m2 225 rfl) rfl
theorem q586 : (Jvm.Cond.interfaceEntry "GhostAssize$Line" (17 : Nat)) ∈ lw_tbl := lw_at lw_m2 226 rfl
theorem q587 : (Jvm.Cond.methodLink "GhostAssize$Line" (17 : Nat) ({ cls := "GhostAssize$Cond", name := "holds", desc := "([I)Z" } : Jvm.MethodName)) ∈ lw_all := lw_g (lw_at lw_m2 227 rfl) rfl
theorem q623 : (Jvm.Cond.code ({ cls := "GhostAssize$Line", name := "frights", desc := "([I)I" } : Jvm.MethodName) prog_6_method_3_code (2 : Nat) (Option.some Jvm.ClassFile.FieldType.int)) ∈ lw_all := lw_g (lw_at lw_m3 23 rfl) rfl
theorem q702 : (Jvm.Cond.instanceMethod ({ cls := "GhostAssize$Line", name := "wears", desc := "([I)I" } : Jvm.MethodName)) ∈ lw_all := lw_g (lw_at lw_m3 102 rfl) rfl
theorem q703 : (Jvm.Cond.sameMethod "GhostAssize$Line" "GhostAssize$Line" "wears" "([I)I") ∈ lw_all := lw_g (lw_at lw_m3 103 rfl) rfl
theorem q711 : (Jvm.Cond.code ({ cls := "GhostAssize$Line", name := "wears", desc := "([I)I" } : Jvm.MethodName) prog_6_method_4_code (2 : Nat) (Option.some Jvm.ClassFile.FieldType.int)) ∈ lw_all := lw_g (lw_at lw_m3 111 rfl) rfl
theorem q1072 : (Jvm.Cond.instanceMethod ({ cls := "GhostAssize$Line", name := "<init>", desc := "(ILGhostAssize$Cond;)V" } : Jvm.MethodName)) ∈ lw_all := lw_g (lw_at lw_m4 232 rfl) rfl
theorem q1073 : (Jvm.Cond.code ({ cls := "GhostAssize$Line", name := "<init>", desc := "(ILGhostAssize$Cond;)V" } : Jvm.MethodName) prog_6_method_1_code (3 : Nat) (Option.none : Option Jvm.ClassFile.FieldType)) ∈ lw_all := lw_g (lw_at lw_m4 233 rfl) rfl
theorem q1074 : (Jvm.Cond.methodLink "GhostAssize$Line" (1 : Nat) ({ cls := "java/lang/Object", name := "<init>", desc := "()V" } : Jvm.MethodName)) ∈ lw_all := lw_g (lw_at lw_m4 234 rfl) rfl
theorem q1075 : (Jvm.Cond.fieldLink "GhostAssize$Line" (7 : Nat) "GhostAssize$Line" "n" "I") ∈ lw_all := lw_g (lw_at lw_m4 235 rfl) rfl
theorem q1076 : (Jvm.Cond.fieldLink "GhostAssize$Line" (13 : Nat) "GhostAssize$Line" "cond" "LGhostAssize$Cond;") ∈ lw_all := lw_g (lw_at lw_m4 236 rfl) rfl
theorem q1078 : (Jvm.Cond.soleField "GhostAssize$Line" "n") ∈ lw_all := lw_g (lw_at lw_m4 238 rfl) rfl
theorem q1080 : (Jvm.Cond.soleField "GhostAssize$Line" "cond") ∈ lw_all := lw_g (lw_at lw_m5 0 rfl) rfl

/-! GhostAssize$Wears -/
set_option maxRecDepth 100000
def RX15 : String := "GhostAssize$Wears"
def TX15 : u_T := fun k => match k with
  | 0 => ("GhostAssize$Line", "n", "I", true)
  | _ => ("GhostAssize$Line", "cond", "LGhostAssize$Cond;", true)
def tyX15 : Nat → FieldType := fun k => match k with
  | 0 => .int
  | _ => .object "GhostAssize$Cond"
abbrev wsX150 : List Cond := u_ws RX15 TX15 2
theorem nmX15 : ∀ a, a < 2 → ∀ b, b < 2 → a ≠ b → (TX15 a).2.1 ≠ (TX15 b).2.1 := by decide +kernel
theorem tyX15_ok : ∀ k, k < 2 → parseFieldDescriptor (TX15 k).2.2.1 = some (tyX15 k) := by decide +kernel
abbrev cX15_wears : ByteArray := prog_15_method_2_code
def yX15_wears : MethodName := ⟨RX15, "wears", "([I)I"⟩
def dkwX15_wears_0 : List UInt8 := [42, 43, 182, 0, 7, 172]
abbrev dktX15_wears_0 : List UInt8 := dkwX15_wears_0 ++ []
theorem dksX15_wears_0 : cX15_wears.data.toList.drop 0 = dktX15_wears_0 := by decide +kernel
theorem dX15_wears_0 : decode cX15_wears 0 = .ok (.aload_n 0, 1) := dk_42 (dk_at dksX15_wears_0 0 rfl rfl)
theorem dX15_wears_1 : decode cX15_wears 1 = .ok (.aload_n 1, 1) := dk_43 (dk_at dksX15_wears_0 1 rfl rfl)
theorem dX15_wears_2 : decode cX15_wears 2 = .ok (.invokevirtual 7, 3) := dk_182 0 7 (dk_at dksX15_wears_0 2 rfl rfl)
theorem dX15_wears_5 : decode cX15_wears 5 = .ok (.ireturn, 1) := dk_172 (dk_at dksX15_wears_0 5 rfl rfl)
abbrev cX15_init : ByteArray := prog_15_method_1_code
def yX15_init : MethodName := ⟨RX15, "<init>", "(ILGhostAssize$Cond;)V"⟩
def dkwX15_init_0 : List UInt8 := [42, 27, 44, 183, 0, 1, 177]
abbrev dktX15_init_0 : List UInt8 := dkwX15_init_0 ++ []
theorem dksX15_init_0 : cX15_init.data.toList.drop 0 = dktX15_init_0 := by decide +kernel
theorem dX15_init_0 : decode cX15_init 0 = .ok (.aload_n 0, 1) := dk_42 (dk_at dksX15_init_0 0 rfl rfl)
theorem dX15_init_1 : decode cX15_init 1 = .ok (.iload_n 1, 1) := dk_27 (dk_at dksX15_init_0 1 rfl rfl)
theorem dX15_init_2 : decode cX15_init 2 = .ok (.aload_n 2, 1) := dk_44 (dk_at dksX15_init_0 2 rfl rfl)
theorem dX15_init_3 : decode cX15_init 3 = .ok (.invokespecial 1, 3) := dk_183 0 1 (dk_at dksX15_init_0 3 rfl rfl)
theorem dX15_init_6 : decode cX15_init 6 = .ok (.return_, 1) := dk_177 (dk_at dksX15_init_0 6 rfl rfl)
theorem q146 : (Jvm.Cond.initialized "GhostAssize$Wears") ∈ lw_all := lw_g (lw_at lw_m1 26 rfl) rfl
theorem q622 : (Jvm.Cond.selects "GhostAssize$Wears" ({ cls := "GhostAssize$Line", name := "frights", desc := "([I)I" } : Jvm.MethodName) ({ cls := "GhostAssize$Line", name := "frights", desc := "([I)I" } : Jvm.MethodName)) ∈ lw_all := lw_g (lw_at lw_m3 22 rfl) rfl
theorem q705 : (Jvm.Cond.selects "GhostAssize$Wears" ({ cls := "GhostAssize$Line", name := "wears", desc := "([I)I" } : Jvm.MethodName) ({ cls := "GhostAssize$Wears", name := "wears", desc := "([I)I" } : Jvm.MethodName)) ∈ lw_all := lw_g (lw_at lw_m3 105 rfl) rfl
theorem q706 : (Jvm.Cond.instanceMethod ({ cls := "GhostAssize$Wears", name := "wears", desc := "([I)I" } : Jvm.MethodName)) ∈ lw_all := lw_g (lw_at lw_m3 106 rfl) rfl
theorem q707 : (Jvm.Cond.code ({ cls := "GhostAssize$Wears", name := "wears", desc := "([I)I" } : Jvm.MethodName) prog_15_method_2_code (2 : Nat) (Option.some Jvm.ClassFile.FieldType.int)) ∈ lw_all := lw_g (lw_at lw_m3 107 rfl) rfl
theorem q708 : (Jvm.Cond.methodLink "GhostAssize$Wears" (7 : Nat) ({ cls := "GhostAssize$Wears", name := "adds", desc := "([I)I" } : Jvm.MethodName)) ∈ lw_all := lw_g (lw_at lw_m3 108 rfl) rfl
theorem q709 : (Jvm.Cond.sameMethod "GhostAssize$Wears" "GhostAssize$Line" "adds" "([I)I") ∈ lw_all := lw_g (lw_at lw_m3 109 rfl) rfl
theorem q710 : (Jvm.Cond.selects "GhostAssize$Wears" ({ cls := "GhostAssize$Wears", name := "adds", desc := "([I)I" } : Jvm.MethodName) ({ cls := "GhostAssize$Line", name := "adds", desc := "([I)I" } : Jvm.MethodName)) ∈ lw_all := lw_g (lw_at lw_m3 110 rfl) rfl
theorem q1067 : (Jvm.Cond.instantiable "GhostAssize$Wears" (2 : Nat)) ∈ lw_all := lw_g (lw_at lw_m4 227 rfl) rfl
theorem q1069 : (Jvm.Cond.instanceMethod ({ cls := "GhostAssize$Wears", name := "<init>", desc := "(ILGhostAssize$Cond;)V" } : Jvm.MethodName)) ∈ lw_all := lw_g (lw_at lw_m4 229 rfl) rfl
theorem q1070 : (Jvm.Cond.code ({ cls := "GhostAssize$Wears", name := "<init>", desc := "(ILGhostAssize$Cond;)V" } : Jvm.MethodName) prog_15_method_1_code (3 : Nat) (Option.none : Option Jvm.ClassFile.FieldType)) ∈ lw_all := lw_g (lw_at lw_m4 230 rfl) rfl
theorem q1071 : (Jvm.Cond.methodLink "GhostAssize$Wears" (1 : Nat) ({ cls := "GhostAssize$Line", name := "<init>", desc := "(ILGhostAssize$Cond;)V" } : Jvm.MethodName)) ∈ lw_all := lw_g (lw_at lw_m4 231 rfl) rfl
theorem q1077 : (Jvm.Cond.laysFinal "GhostAssize$Wears" "GhostAssize$Line" "n" "I") ∈ lw_all := lw_g (lw_at lw_m4 237 rfl) rfl
theorem q1079 : (Jvm.Cond.laysFinal "GhostAssize$Wears" "GhostAssize$Line" "cond" "LGhostAssize$Cond;") ∈ lw_all := lw_g (lw_at lw_m4 239 rfl) rfl
theorem q1081 : (Jvm.Cond.superclass "GhostAssize$Wears" "GhostAssize$Line") ∈ lw_all := lw_g (lw_at lw_m5 1 rfl) rfl
theorem q2119 : (Jvm.Cond.castable "GhostAssize$Wears" "java/lang/Object") ∈ lw_tbl := lw_at lw_m9 79 rfl
theorem q2127 : (Jvm.Cond.castable "GhostAssize$Wears" "GhostAssize$Line") ∈ lw_tbl := lw_at lw_m9 87 rfl
theorem in_X15 : ∀ w ∈ wsX150, w ∈ lw_all := lw_in wsX150 [1077, 1079] (by decide +kernel) (by decide +kernel)

/-! GhostAssize$Frights -/
set_option maxRecDepth 100000
def RX16 : String := "GhostAssize$Frights"
def TX16 : u_T := fun k => match k with
  | 0 => ("GhostAssize$Line", "n", "I", true)
  | 1 => ("GhostAssize$Line", "cond", "LGhostAssize$Cond;", true)
  | _ => ("GhostAssize$Frights", "sign", "I", true)
def tyX16 : Nat → FieldType := fun k => match k with
  | 0 => .int
  | 1 => .object "GhostAssize$Cond"
  | _ => .int
abbrev wsX160 : List Cond := u_ws RX16 TX16 3
theorem nmX16 : ∀ a, a < 3 → ∀ b, b < 3 → a ≠ b → (TX16 a).2.1 ≠ (TX16 b).2.1 := by decide +kernel
theorem tyX16_ok : ∀ k, k < 3 → parseFieldDescriptor (TX16 k).2.2.1 = some (tyX16 k) := by decide +kernel
abbrev cX16_frights : ByteArray := prog_4_method_2_code
def yX16_frights : MethodName := ⟨RX16, "frights", "([I)I"⟩
def dkwX16_frights_0 : List UInt8 := [42, 180, 0, 7, 42, 43, 182, 0, 13, 104, 172]
abbrev dktX16_frights_0 : List UInt8 := dkwX16_frights_0 ++ []
theorem dksX16_frights_0 : cX16_frights.data.toList.drop 0 = dktX16_frights_0 := by decide +kernel
theorem dX16_frights_0 : decode cX16_frights 0 = .ok (.aload_n 0, 1) := dk_42 (dk_at dksX16_frights_0 0 rfl rfl)
theorem dX16_frights_1 : decode cX16_frights 1 = .ok (.getfield 7, 3) := dk_180 0 7 (dk_at dksX16_frights_0 1 rfl rfl)
theorem dX16_frights_4 : decode cX16_frights 4 = .ok (.aload_n 0, 1) := dk_42 (dk_at dksX16_frights_0 4 rfl rfl)
theorem dX16_frights_5 : decode cX16_frights 5 = .ok (.aload_n 1, 1) := dk_43 (dk_at dksX16_frights_0 5 rfl rfl)
theorem dX16_frights_6 : decode cX16_frights 6 = .ok (.invokevirtual 13, 3) := dk_182 0 13 (dk_at dksX16_frights_0 6 rfl rfl)
theorem dX16_frights_9 : decode cX16_frights 9 = .ok (.imul, 1) := dk_104 (dk_at dksX16_frights_0 9 rfl rfl)
theorem dX16_frights_10 : decode cX16_frights 10 = .ok (.ireturn, 1) := dk_172 (dk_at dksX16_frights_0 10 rfl rfl)
abbrev cX16_init : ByteArray := prog_4_method_1_code
def yX16_init : MethodName := ⟨RX16, "<init>", "(ILGhostAssize$Cond;Z)V"⟩
def dkwX16_init_0 : List UInt8 := [42, 27, 44, 183, 0, 1, 42, 29, 153, 0, 7, 4, 167, 0, 4, 2, 181, 0, 7, 177]
abbrev dktX16_init_0 : List UInt8 := dkwX16_init_0 ++ []
theorem dksX16_init_0 : cX16_init.data.toList.drop 0 = dktX16_init_0 := by decide +kernel
theorem dX16_init_0 : decode cX16_init 0 = .ok (.aload_n 0, 1) := dk_42 (dk_at dksX16_init_0 0 rfl rfl)
theorem dX16_init_1 : decode cX16_init 1 = .ok (.iload_n 1, 1) := dk_27 (dk_at dksX16_init_0 1 rfl rfl)
theorem dX16_init_2 : decode cX16_init 2 = .ok (.aload_n 2, 1) := dk_44 (dk_at dksX16_init_0 2 rfl rfl)
theorem dX16_init_3 : decode cX16_init 3 = .ok (.invokespecial 1, 3) := dk_183 0 1 (dk_at dksX16_init_0 3 rfl rfl)
theorem dX16_init_6 : decode cX16_init 6 = .ok (.aload_n 0, 1) := dk_42 (dk_at dksX16_init_0 6 rfl rfl)
theorem dX16_init_7 : decode cX16_init 7 = .ok (.iload_n 3, 1) := dk_29 (dk_at dksX16_init_0 7 rfl rfl)
theorem dX16_init_8 : decode cX16_init 8 = .ok (.ifCond .eq 7, 3) := dk_153 0 7 (dk_at dksX16_init_0 8 rfl rfl)
theorem dX16_init_11 : decode cX16_init 11 = .ok (.iconst 1, 1) := dk_4 (dk_at dksX16_init_0 11 rfl rfl)
theorem dX16_init_12 : decode cX16_init 12 = .ok (.goto 4, 3) := dk_167 0 4 (dk_at dksX16_init_0 12 rfl rfl)
theorem dX16_init_15 : decode cX16_init 15 = .ok (.iconst (-1), 1) := dk_2 (dk_at dksX16_init_0 15 rfl rfl)
theorem dX16_init_16 : decode cX16_init 16 = .ok (.putfield 7, 3) := dk_181 0 7 (dk_at dksX16_init_0 16 rfl rfl)
theorem dX16_init_19 : decode cX16_init 19 = .ok (.return_, 1) := dk_177 (dk_at dksX16_init_0 19 rfl rfl)
theorem q147 : (Jvm.Cond.initialized "GhostAssize$Frights") ∈ lw_all := lw_g (lw_at lw_m1 27 rfl) rfl
theorem q577 : (Jvm.Cond.selects "GhostAssize$Frights" ({ cls := "GhostAssize$Line", name := "frights", desc := "([I)I" } : Jvm.MethodName) ({ cls := "GhostAssize$Frights", name := "frights", desc := "([I)I" } : Jvm.MethodName)) ∈ lw_all := lw_g (lw_at lw_m2 217 rfl) rfl
theorem q578 : (Jvm.Cond.instanceMethod ({ cls := "GhostAssize$Frights", name := "frights", desc := "([I)I" } : Jvm.MethodName)) ∈ lw_all := lw_g (lw_at lw_m2 218 rfl) rfl
theorem q579 : (Jvm.Cond.code ({ cls := "GhostAssize$Frights", name := "frights", desc := "([I)I" } : Jvm.MethodName) prog_4_method_2_code (2 : Nat) (Option.some Jvm.ClassFile.FieldType.int)) ∈ lw_all := lw_g (lw_at lw_m2 219 rfl) rfl
theorem q580 : (Jvm.Cond.methodLink "GhostAssize$Frights" (13 : Nat) ({ cls := "GhostAssize$Frights", name := "adds", desc := "([I)I" } : Jvm.MethodName)) ∈ lw_all := lw_g (lw_at lw_m2 220 rfl) rfl
theorem q581 : (Jvm.Cond.sameMethod "GhostAssize$Frights" "GhostAssize$Line" "adds" "([I)I") ∈ lw_all := lw_g (lw_at lw_m2 221 rfl) rfl
theorem q583 : (Jvm.Cond.selects "GhostAssize$Frights" ({ cls := "GhostAssize$Frights", name := "adds", desc := "([I)I" } : Jvm.MethodName) ({ cls := "GhostAssize$Line", name := "adds", desc := "([I)I" } : Jvm.MethodName)) ∈ lw_all := lw_g (lw_at lw_m2 223 rfl) rfl
theorem q704 : (Jvm.Cond.selects "GhostAssize$Frights" ({ cls := "GhostAssize$Line", name := "wears", desc := "([I)I" } : Jvm.MethodName) ({ cls := "GhostAssize$Line", name := "wears", desc := "([I)I" } : Jvm.MethodName)) ∈ lw_all := lw_g (lw_at lw_m3 104 rfl) rfl
theorem q1083 : (Jvm.Cond.instantiable "GhostAssize$Frights" (3 : Nat)) ∈ lw_all := lw_g (lw_at lw_m5 3 rfl) rfl
theorem q1085 : (Jvm.Cond.instanceMethod ({ cls := "GhostAssize$Frights", name := "<init>", desc := "(ILGhostAssize$Cond;Z)V" } : Jvm.MethodName)) ∈ lw_all := lw_g (lw_at lw_m5 5 rfl) rfl
theorem q1086 : (Jvm.Cond.code ({ cls := "GhostAssize$Frights", name := "<init>", desc := "(ILGhostAssize$Cond;Z)V" } : Jvm.MethodName) prog_4_method_1_code (4 : Nat) (Option.none : Option Jvm.ClassFile.FieldType)) ∈ lw_all := lw_g (lw_at lw_m5 6 rfl) rfl
theorem q1087 : (Jvm.Cond.methodLink "GhostAssize$Frights" (1 : Nat) ({ cls := "GhostAssize$Line", name := "<init>", desc := "(ILGhostAssize$Cond;)V" } : Jvm.MethodName)) ∈ lw_all := lw_g (lw_at lw_m5 7 rfl) rfl
theorem q1088 : (Jvm.Cond.fieldLink "GhostAssize$Frights" (7 : Nat) "GhostAssize$Frights" "sign" "I") ∈ lw_all := lw_g (lw_at lw_m5 8 rfl) rfl
theorem q1089 : (Jvm.Cond.laysFinal "GhostAssize$Frights" "GhostAssize$Frights" "sign" "I") ∈ lw_all := lw_g (lw_at lw_m5 9 rfl) rfl
theorem q1090 : (Jvm.Cond.soleField "GhostAssize$Frights" "sign") ∈ lw_all := lw_g (lw_at lw_m5 10 rfl) rfl
theorem q1091 : (Jvm.Cond.laysFinal "GhostAssize$Frights" "GhostAssize$Line" "n" "I") ∈ lw_all := lw_g (lw_at lw_m5 11 rfl) rfl
theorem q1092 : (Jvm.Cond.laysFinal "GhostAssize$Frights" "GhostAssize$Line" "cond" "LGhostAssize$Cond;") ∈ lw_all := lw_g (lw_at lw_m5 12 rfl) rfl
theorem q1093 : (Jvm.Cond.superclass "GhostAssize$Frights" "GhostAssize$Line") ∈ lw_all := lw_g (lw_at lw_m5 13 rfl) rfl
theorem q2120 : (Jvm.Cond.castable "GhostAssize$Frights" "java/lang/Object") ∈ lw_tbl := lw_at lw_m9 80 rfl
theorem q2128 : (Jvm.Cond.castable "GhostAssize$Frights" "GhostAssize$Line") ∈ lw_tbl := lw_at lw_m9 88 rfl
theorem in_X16 : ∀ w ∈ wsX160, w ∈ lw_all := lw_in wsX160 [1091, 1092, 1089] (by decide +kernel) (by decide +kernel)
