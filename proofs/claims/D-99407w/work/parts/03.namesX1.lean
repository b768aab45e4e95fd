/-! GhostAssize -/
set_option maxRecDepth 100000
def RX1 : String := "GhostAssize"
def TX1 : u_T := fun k => match k with
  | 0 => ("GhostAssize", "reader", "LGhostAssize$Reader;", true)
  | 1 => ("GhostAssize", "now", "LGhostAssize$State;", true)
  | 2 => ("GhostAssize", "image", "LGhostAssize$State;", true)
  | 3 => ("GhostAssize", "put", "LGhostAssize$State;", true)
  | 4 => ("GhostAssize", "acts", "[LGhostAssize$State;", true)
  | 5 => ("GhostAssize", "ways", "LGhostAssize$Ways;", true)
  | 6 => ("GhostAssize", "stranger", "LGhostAssize$One;", true)
  | 7 => ("GhostAssize", "tenses", "[I", true)
  | 8 => ("GhostAssize", "wore", "[I", true)
  | 9 => ("GhostAssize", "felt", "[I", true)
  | 10 => ("GhostAssize", "fits", "[Z", true)
  | 11 => ("GhostAssize", "wrongAt", "I", false)
  | 12 => ("GhostAssize", "actMany", "I", false)
  | 13 => ("GhostAssize", "actAt", "I", false)
  | 14 => ("GhostAssize", "screamAt", "I", false)
  | 15 => ("GhostAssize", "tenseAt", "I", false)
  | 16 => ("GhostAssize", "cameTo", "I", false)
  | 17 => ("GhostAssize", "eased", "I", false)
  | _ => ("GhostAssize", "kept", "Z", false)
def tyX1 : Nat → FieldType := fun k => match k with
  | 0 => .object "GhostAssize$Reader"
  | 1 => .object "GhostAssize$State"
  | 2 => .object "GhostAssize$State"
  | 3 => .object "GhostAssize$State"
  | 4 => .array (.object "GhostAssize$State")
  | 5 => .object "GhostAssize$Ways"
  | 6 => .object "GhostAssize$One"
  | 7 => .array .int
  | 8 => .array .int
  | 9 => .array .int
  | 10 => .array .boolean
  | 11 => .int
  | 12 => .int
  | 13 => .int
  | 14 => .int
  | 15 => .int
  | 16 => .int
  | 17 => .int
  | _ => .boolean
abbrev wsX10 : List Cond := u_ws RX1 TX1 19
set_option maxRecDepth 100000 in
theorem nmX1 : ∀ a, a < 19 → ∀ b, b < 19 → a ≠ b → (TX1 a).2.1 ≠ (TX1 b).2.1 := by decide +kernel
set_option maxRecDepth 100000 in
theorem tyX1_ok : ∀ k, k < 19 → parseFieldDescriptor (TX1 k).2.2.1 = some (tyX1 k) := by decide +kernel
abbrev cX1_init : ByteArray := prog_1_method_1_code
def yX1_init : MethodName := ⟨RX1, "<init>", "()V"⟩
def dkwX1_init_6 : List UInt8 := [89, 183, 0, 18, 83, 132, 1, 1, 167, 255, 234, 177]
abbrev dktX1_init_6 : List UInt8 := dkwX1_init_6 ++ []
def dkwX1_init_5 : List UInt8 := [181, 0, 63, 42, 2, 181, 0, 67, 3, 60, 27, 16, 12, 162, 0, 22, 42, 180, 0, 29, 27, 187, 0, 16]
abbrev dktX1_init_5 : List UInt8 := dkwX1_init_5 ++ dktX1_init_6
def dkwX1_init_4 : List UInt8 := [181, 0, 53, 42, 17, 2, 128, 188, 10, 181, 0, 56, 42, 16, 64, 188, 4, 181, 0, 59, 42, 2]
abbrev dktX1_init_4 : List UInt8 := dkwX1_init_4 ++ dktX1_init_5
def dkwX1_init_3 : List UInt8 := [42, 187, 0, 42, 89, 183, 0, 44, 181, 0, 45, 42, 5, 188, 10, 181, 0, 49, 42, 16, 8, 188, 10]
abbrev dktX1_init_3 : List UInt8 := dkwX1_init_3 ++ dktX1_init_4
def dkwX1_init_2 : List UInt8 := [181, 0, 26, 42, 16, 12, 189, 0, 16, 181, 0, 29, 42, 187, 0, 33, 89, 42, 183, 0, 35, 181, 0, 38]
abbrev dktX1_init_2 : List UInt8 := dkwX1_init_2 ++ dktX1_init_3
def dkwX1_init_1 : List UInt8 := [181, 0, 19, 42, 187, 0, 16, 89, 183, 0, 18, 181, 0, 23, 42, 187, 0, 16, 89, 183, 0, 18]
abbrev dktX1_init_1 : List UInt8 := dkwX1_init_1 ++ dktX1_init_2
def dkwX1_init_0 : List UInt8 := [42, 183, 0, 1, 42, 187, 0, 7, 89, 183, 0, 9, 181, 0, 10, 42, 187, 0, 16, 89, 183, 0, 18]
abbrev dktX1_init_0 : List UInt8 := dkwX1_init_0 ++ dktX1_init_1
theorem dksX1_init_0 : cX1_init.data.toList.drop 0 = dktX1_init_0 := by decide +kernel
theorem dksX1_init_1 : cX1_init.data.toList.drop 23 = dktX1_init_1 := dk_seg dksX1_init_0 23 rfl rfl
theorem dksX1_init_2 : cX1_init.data.toList.drop 45 = dktX1_init_2 := dk_seg dksX1_init_1 22 rfl rfl
theorem dksX1_init_3 : cX1_init.data.toList.drop 69 = dktX1_init_3 := dk_seg dksX1_init_2 24 rfl rfl
theorem dksX1_init_4 : cX1_init.data.toList.drop 92 = dktX1_init_4 := dk_seg dksX1_init_3 23 rfl rfl
theorem dksX1_init_5 : cX1_init.data.toList.drop 114 = dktX1_init_5 := dk_seg dksX1_init_4 22 rfl rfl
theorem dksX1_init_6 : cX1_init.data.toList.drop 138 = dktX1_init_6 := dk_seg dksX1_init_5 24 rfl rfl
theorem dX1_init_0 : decode cX1_init 0 = .ok (.aload_n 0, 1) := dk_42 (dk_at dksX1_init_0 0 rfl rfl)
theorem dX1_init_1 : decode cX1_init 1 = .ok (.invokespecial 1, 3) := dk_183 0 1 (dk_at dksX1_init_0 1 rfl rfl)
theorem dX1_init_4 : decode cX1_init 4 = .ok (.aload_n 0, 1) := dk_42 (dk_at dksX1_init_0 4 rfl rfl)
theorem dX1_init_5 : decode cX1_init 5 = .ok (.new 7, 3) := dk_187 0 7 (dk_at dksX1_init_0 5 rfl rfl)
theorem dX1_init_8 : decode cX1_init 8 = .ok (.dup, 1) := dk_89 (dk_at dksX1_init_0 8 rfl rfl)
theorem dX1_init_9 : decode cX1_init 9 = .ok (.invokespecial 9, 3) := dk_183 0 9 (dk_at dksX1_init_0 9 rfl rfl)
theorem dX1_init_12 : decode cX1_init 12 = .ok (.putfield 10, 3) := dk_181 0 10 (dk_at dksX1_init_0 12 rfl rfl)
theorem dX1_init_15 : decode cX1_init 15 = .ok (.aload_n 0, 1) := dk_42 (dk_at dksX1_init_0 15 rfl rfl)
theorem dX1_init_16 : decode cX1_init 16 = .ok (.new 16, 3) := dk_187 0 16 (dk_at dksX1_init_0 16 rfl rfl)
theorem dX1_init_19 : decode cX1_init 19 = .ok (.dup, 1) := dk_89 (dk_at dksX1_init_0 19 rfl rfl)
theorem dX1_init_20 : decode cX1_init 20 = .ok (.invokespecial 18, 3) := dk_183 0 18 (dk_at dksX1_init_0 20 rfl rfl)
theorem dX1_init_23 : decode cX1_init 23 = .ok (.putfield 19, 3) := dk_181 0 19 (dk_at dksX1_init_1 0 rfl rfl)
theorem dX1_init_26 : decode cX1_init 26 = .ok (.aload_n 0, 1) := dk_42 (dk_at dksX1_init_1 3 rfl rfl)
theorem dX1_init_27 : decode cX1_init 27 = .ok (.new 16, 3) := dk_187 0 16 (dk_at dksX1_init_1 4 rfl rfl)
theorem dX1_init_30 : decode cX1_init 30 = .ok (.dup, 1) := dk_89 (dk_at dksX1_init_1 7 rfl rfl)
theorem dX1_init_31 : decode cX1_init 31 = .ok (.invokespecial 18, 3) := dk_183 0 18 (dk_at dksX1_init_1 8 rfl rfl)
theorem dX1_init_34 : decode cX1_init 34 = .ok (.putfield 23, 3) := dk_181 0 23 (dk_at dksX1_init_1 11 rfl rfl)
theorem dX1_init_37 : decode cX1_init 37 = .ok (.aload_n 0, 1) := dk_42 (dk_at dksX1_init_1 14 rfl rfl)
theorem dX1_init_38 : decode cX1_init 38 = .ok (.new 16, 3) := dk_187 0 16 (dk_at dksX1_init_1 15 rfl rfl)
theorem dX1_init_41 : decode cX1_init 41 = .ok (.dup, 1) := dk_89 (dk_at dksX1_init_1 18 rfl rfl)
theorem dX1_init_42 : decode cX1_init 42 = .ok (.invokespecial 18, 3) := dk_183 0 18 (dk_at dksX1_init_1 19 rfl rfl)
theorem dX1_init_45 : decode cX1_init 45 = .ok (.putfield 26, 3) := dk_181 0 26 (dk_at dksX1_init_2 0 rfl rfl)
theorem dX1_init_48 : decode cX1_init 48 = .ok (.aload_n 0, 1) := dk_42 (dk_at dksX1_init_2 3 rfl rfl)
theorem dX1_init_49 : decode cX1_init 49 = .ok (.bipush 12, 2) := dk_16 12 (dk_at dksX1_init_2 4 rfl rfl)
theorem dX1_init_51 : decode cX1_init 51 = .ok (.anewarray 16, 3) := dk_189 0 16 (dk_at dksX1_init_2 6 rfl rfl)
theorem dX1_init_54 : decode cX1_init 54 = .ok (.putfield 29, 3) := dk_181 0 29 (dk_at dksX1_init_2 9 rfl rfl)
theorem dX1_init_57 : decode cX1_init 57 = .ok (.aload_n 0, 1) := dk_42 (dk_at dksX1_init_2 12 rfl rfl)
theorem dX1_init_58 : decode cX1_init 58 = .ok (.new 33, 3) := dk_187 0 33 (dk_at dksX1_init_2 13 rfl rfl)
theorem dX1_init_61 : decode cX1_init 61 = .ok (.dup, 1) := dk_89 (dk_at dksX1_init_2 16 rfl rfl)
theorem dX1_init_62 : decode cX1_init 62 = .ok (.aload_n 0, 1) := dk_42 (dk_at dksX1_init_2 17 rfl rfl)
theorem dX1_init_63 : decode cX1_init 63 = .ok (.invokespecial 35, 3) := dk_183 0 35 (dk_at dksX1_init_2 18 rfl rfl)
theorem dX1_init_66 : decode cX1_init 66 = .ok (.putfield 38, 3) := dk_181 0 38 (dk_at dksX1_init_2 21 rfl rfl)
theorem dX1_init_69 : decode cX1_init 69 = .ok (.aload_n 0, 1) := dk_42 (dk_at dksX1_init_3 0 rfl rfl)
theorem dX1_init_70 : decode cX1_init 70 = .ok (.new 42, 3) := dk_187 0 42 (dk_at dksX1_init_3 1 rfl rfl)
theorem dX1_init_73 : decode cX1_init 73 = .ok (.dup, 1) := dk_89 (dk_at dksX1_init_3 4 rfl rfl)
theorem dX1_init_74 : decode cX1_init 74 = .ok (.invokespecial 44, 3) := dk_183 0 44 (dk_at dksX1_init_3 5 rfl rfl)
theorem dX1_init_77 : decode cX1_init 77 = .ok (.putfield 45, 3) := dk_181 0 45 (dk_at dksX1_init_3 8 rfl rfl)
theorem dX1_init_80 : decode cX1_init 80 = .ok (.aload_n 0, 1) := dk_42 (dk_at dksX1_init_3 11 rfl rfl)
theorem dX1_init_81 : decode cX1_init 81 = .ok (.iconst 2, 1) := dk_5 (dk_at dksX1_init_3 12 rfl rfl)
theorem dX1_init_82 : decode cX1_init 82 = .ok (.newarray .int, 2) := dk_188_10 (dk_at dksX1_init_3 13 rfl rfl)
theorem dX1_init_84 : decode cX1_init 84 = .ok (.putfield 49, 3) := dk_181 0 49 (dk_at dksX1_init_3 15 rfl rfl)
theorem dX1_init_87 : decode cX1_init 87 = .ok (.aload_n 0, 1) := dk_42 (dk_at dksX1_init_3 18 rfl rfl)
theorem dX1_init_88 : decode cX1_init 88 = .ok (.bipush 8, 2) := dk_16 8 (dk_at dksX1_init_3 19 rfl rfl)
theorem dX1_init_90 : decode cX1_init 90 = .ok (.newarray .int, 2) := dk_188_10 (dk_at dksX1_init_3 21 rfl rfl)
theorem dX1_init_92 : decode cX1_init 92 = .ok (.putfield 53, 3) := dk_181 0 53 (dk_at dksX1_init_4 0 rfl rfl)
theorem dX1_init_95 : decode cX1_init 95 = .ok (.aload_n 0, 1) := dk_42 (dk_at dksX1_init_4 3 rfl rfl)
theorem dX1_init_96 : decode cX1_init 96 = .ok (.sipush 640, 3) := dk_17 2 128 (dk_at dksX1_init_4 4 rfl rfl)
theorem dX1_init_99 : decode cX1_init 99 = .ok (.newarray .int, 2) := dk_188_10 (dk_at dksX1_init_4 7 rfl rfl)
theorem dX1_init_101 : decode cX1_init 101 = .ok (.putfield 56, 3) := dk_181 0 56 (dk_at dksX1_init_4 9 rfl rfl)
theorem dX1_init_104 : decode cX1_init 104 = .ok (.aload_n 0, 1) := dk_42 (dk_at dksX1_init_4 12 rfl rfl)
theorem dX1_init_105 : decode cX1_init 105 = .ok (.bipush 64, 2) := dk_16 64 (dk_at dksX1_init_4 13 rfl rfl)
theorem dX1_init_107 : decode cX1_init 107 = .ok (.newarray .boolean, 2) := dk_188_4 (dk_at dksX1_init_4 15 rfl rfl)
theorem dX1_init_109 : decode cX1_init 109 = .ok (.putfield 59, 3) := dk_181 0 59 (dk_at dksX1_init_4 17 rfl rfl)
theorem dX1_init_112 : decode cX1_init 112 = .ok (.aload_n 0, 1) := dk_42 (dk_at dksX1_init_4 20 rfl rfl)
theorem dX1_init_113 : decode cX1_init 113 = .ok (.iconst (-1), 1) := dk_2 (dk_at dksX1_init_4 21 rfl rfl)
theorem dX1_init_114 : decode cX1_init 114 = .ok (.putfield 63, 3) := dk_181 0 63 (dk_at dksX1_init_5 0 rfl rfl)
theorem dX1_init_117 : decode cX1_init 117 = .ok (.aload_n 0, 1) := dk_42 (dk_at dksX1_init_5 3 rfl rfl)
theorem dX1_init_118 : decode cX1_init 118 = .ok (.iconst (-1), 1) := dk_2 (dk_at dksX1_init_5 4 rfl rfl)
theorem dX1_init_119 : decode cX1_init 119 = .ok (.putfield 67, 3) := dk_181 0 67 (dk_at dksX1_init_5 5 rfl rfl)
theorem dX1_init_122 : decode cX1_init 122 = .ok (.iconst 0, 1) := dk_3 (dk_at dksX1_init_5 8 rfl rfl)
theorem dX1_init_123 : decode cX1_init 123 = .ok (.istore_n 1, 1) := dk_60 (dk_at dksX1_init_5 9 rfl rfl)
theorem dX1_init_124 : decode cX1_init 124 = .ok (.iload_n 1, 1) := dk_27 (dk_at dksX1_init_5 10 rfl rfl)
theorem dX1_init_125 : decode cX1_init 125 = .ok (.bipush 12, 2) := dk_16 12 (dk_at dksX1_init_5 11 rfl rfl)
theorem dX1_init_127 : decode cX1_init 127 = .ok (.if_icmp .ge 22, 3) := dk_162 0 22 (dk_at dksX1_init_5 13 rfl rfl)
theorem dX1_init_130 : decode cX1_init 130 = .ok (.aload_n 0, 1) := dk_42 (dk_at dksX1_init_5 16 rfl rfl)
theorem dX1_init_131 : decode cX1_init 131 = .ok (.getfield 29, 3) := dk_180 0 29 (dk_at dksX1_init_5 17 rfl rfl)
theorem dX1_init_134 : decode cX1_init 134 = .ok (.iload_n 1, 1) := dk_27 (dk_at dksX1_init_5 20 rfl rfl)
theorem dX1_init_135 : decode cX1_init 135 = .ok (.new 16, 3) := dk_187 0 16 (dk_at dksX1_init_5 21 rfl rfl)
theorem dX1_init_138 : decode cX1_init 138 = .ok (.dup, 1) := dk_89 (dk_at dksX1_init_6 0 rfl rfl)
theorem dX1_init_139 : decode cX1_init 139 = .ok (.invokespecial 18, 3) := dk_183 0 18 (dk_at dksX1_init_6 1 rfl rfl)
theorem dX1_init_142 : decode cX1_init 142 = .ok (.aastore, 1) := dk_83 (dk_at dksX1_init_6 4 rfl rfl)
theorem dX1_init_143 : decode cX1_init 143 = .ok (.iinc 1 1, 3) := dk_132 1 1 (dk_at dksX1_init_6 5 rfl rfl)
theorem dX1_init_146 : decode cX1_init 146 = .ok (.goto (-22), 3) := dk_167 255 234 (dk_at dksX1_init_6 8 rfl rfl)
theorem dX1_init_149 : decode cX1_init 149 = .ok (.return_, 1) := dk_177 (dk_at dksX1_init_6 11 rfl rfl)
abbrev cX1_feed : ByteArray := prog_1_method_12_code
def yX1_feed : MethodName := ⟨RX1, "feed", "(IIIII)I"⟩
def dkwX1_feed_2 : List UInt8 := [180, 0, 10, 180, 0, 111, 172]
abbrev dktX1_feed_2 : List UInt8 := dkwX1_feed_2 ++ []
def dkwX1_feed_1 : List UInt8 := [28, 182, 0, 114, 42, 29, 182, 0, 114, 42, 21, 4, 182, 0, 114, 42, 21, 5, 182, 0, 114, 42]
abbrev dktX1_feed_1 : List UInt8 := dkwX1_feed_1 ++ dktX1_feed_2
def dkwX1_feed_0 : List UInt8 := [42, 180, 0, 10, 180, 0, 111, 16, 20, 96, 17, 1, 144, 164, 0, 5, 2, 172, 42, 27, 182, 0, 114, 42]
abbrev dktX1_feed_0 : List UInt8 := dkwX1_feed_0 ++ dktX1_feed_1
theorem dksX1_feed_0 : cX1_feed.data.toList.drop 0 = dktX1_feed_0 := by decide +kernel
theorem dksX1_feed_1 : cX1_feed.data.toList.drop 24 = dktX1_feed_1 := dk_seg dksX1_feed_0 24 rfl rfl
theorem dksX1_feed_2 : cX1_feed.data.toList.drop 46 = dktX1_feed_2 := dk_seg dksX1_feed_1 22 rfl rfl
theorem dX1_feed_0 : decode cX1_feed 0 = .ok (.aload_n 0, 1) := dk_42 (dk_at dksX1_feed_0 0 rfl rfl)
theorem dX1_feed_1 : decode cX1_feed 1 = .ok (.getfield 10, 3) := dk_180 0 10 (dk_at dksX1_feed_0 1 rfl rfl)
theorem dX1_feed_4 : decode cX1_feed 4 = .ok (.getfield 111, 3) := dk_180 0 111 (dk_at dksX1_feed_0 4 rfl rfl)
theorem dX1_feed_7 : decode cX1_feed 7 = .ok (.bipush 20, 2) := dk_16 20 (dk_at dksX1_feed_0 7 rfl rfl)
theorem dX1_feed_9 : decode cX1_feed 9 = .ok (.iadd, 1) := dk_96 (dk_at dksX1_feed_0 9 rfl rfl)
theorem dX1_feed_10 : decode cX1_feed 10 = .ok (.sipush 400, 3) := dk_17 1 144 (dk_at dksX1_feed_0 10 rfl rfl)
theorem dX1_feed_13 : decode cX1_feed 13 = .ok (.if_icmp .le 5, 3) := dk_164 0 5 (dk_at dksX1_feed_0 13 rfl rfl)
theorem dX1_feed_16 : decode cX1_feed 16 = .ok (.iconst (-1), 1) := dk_2 (dk_at dksX1_feed_0 16 rfl rfl)
theorem dX1_feed_17 : decode cX1_feed 17 = .ok (.ireturn, 1) := dk_172 (dk_at dksX1_feed_0 17 rfl rfl)
theorem dX1_feed_18 : decode cX1_feed 18 = .ok (.aload_n 0, 1) := dk_42 (dk_at dksX1_feed_0 18 rfl rfl)
theorem dX1_feed_19 : decode cX1_feed 19 = .ok (.iload_n 1, 1) := dk_27 (dk_at dksX1_feed_0 19 rfl rfl)
theorem dX1_feed_20 : decode cX1_feed 20 = .ok (.invokevirtual 114, 3) := dk_182 0 114 (dk_at dksX1_feed_0 20 rfl rfl)
theorem dX1_feed_23 : decode cX1_feed 23 = .ok (.aload_n 0, 1) := dk_42 (dk_at dksX1_feed_0 23 rfl rfl)
theorem dX1_feed_24 : decode cX1_feed 24 = .ok (.iload_n 2, 1) := dk_28 (dk_at dksX1_feed_1 0 rfl rfl)
theorem dX1_feed_25 : decode cX1_feed 25 = .ok (.invokevirtual 114, 3) := dk_182 0 114 (dk_at dksX1_feed_1 1 rfl rfl)
theorem dX1_feed_28 : decode cX1_feed 28 = .ok (.aload_n 0, 1) := dk_42 (dk_at dksX1_feed_1 4 rfl rfl)
theorem dX1_feed_29 : decode cX1_feed 29 = .ok (.iload_n 3, 1) := dk_29 (dk_at dksX1_feed_1 5 rfl rfl)
theorem dX1_feed_30 : decode cX1_feed 30 = .ok (.invokevirtual 114, 3) := dk_182 0 114 (dk_at dksX1_feed_1 6 rfl rfl)
theorem dX1_feed_33 : decode cX1_feed 33 = .ok (.aload_n 0, 1) := dk_42 (dk_at dksX1_feed_1 9 rfl rfl)
theorem dX1_feed_34 : decode cX1_feed 34 = .ok (.iload 4, 2) := dk_21 4 (dk_at dksX1_feed_1 10 rfl rfl)
theorem dX1_feed_36 : decode cX1_feed 36 = .ok (.invokevirtual 114, 3) := dk_182 0 114 (dk_at dksX1_feed_1 12 rfl rfl)
theorem dX1_feed_39 : decode cX1_feed 39 = .ok (.aload_n 0, 1) := dk_42 (dk_at dksX1_feed_1 15 rfl rfl)
theorem dX1_feed_40 : decode cX1_feed 40 = .ok (.iload 5, 2) := dk_21 5 (dk_at dksX1_feed_1 16 rfl rfl)
theorem dX1_feed_42 : decode cX1_feed 42 = .ok (.invokevirtual 114, 3) := dk_182 0 114 (dk_at dksX1_feed_1 18 rfl rfl)
theorem dX1_feed_45 : decode cX1_feed 45 = .ok (.aload_n 0, 1) := dk_42 (dk_at dksX1_feed_1 21 rfl rfl)
theorem dX1_feed_46 : decode cX1_feed 46 = .ok (.getfield 10, 3) := dk_180 0 10 (dk_at dksX1_feed_2 0 rfl rfl)
theorem dX1_feed_49 : decode cX1_feed 49 = .ok (.getfield 111, 3) := dk_180 0 111 (dk_at dksX1_feed_2 3 rfl rfl)
theorem dX1_feed_52 : decode cX1_feed 52 = .ok (.ireturn, 1) := dk_172 (dk_at dksX1_feed_2 6 rfl rfl)
abbrev cX1_four : ByteArray := prog_1_method_11_code
def yX1_four : MethodName := ⟨RX1, "four", "(I)V"⟩
def dkwX1_four_1 : List UInt8 := [145, 84, 42, 180, 0, 10, 89, 180, 0, 111, 4, 96, 181, 0, 111, 132, 2, 248, 167, 255, 217, 177]
abbrev dktX1_four_1 : List UInt8 := dkwX1_four_1 ++ []
def dkwX1_four_0 : List UInt8 := [16, 24, 61, 28, 155, 0, 41, 42, 180, 0, 10, 180, 0, 107, 42, 180, 0, 10, 180, 0, 111, 27, 28, 122]
abbrev dktX1_four_0 : List UInt8 := dkwX1_four_0 ++ dktX1_four_1
theorem dksX1_four_0 : cX1_four.data.toList.drop 0 = dktX1_four_0 := by decide +kernel
theorem dksX1_four_1 : cX1_four.data.toList.drop 24 = dktX1_four_1 := dk_seg dksX1_four_0 24 rfl rfl
theorem dX1_four_0 : decode cX1_four 0 = .ok (.bipush 24, 2) := dk_16 24 (dk_at dksX1_four_0 0 rfl rfl)
theorem dX1_four_2 : decode cX1_four 2 = .ok (.istore_n 2, 1) := dk_61 (dk_at dksX1_four_0 2 rfl rfl)
theorem dX1_four_3 : decode cX1_four 3 = .ok (.iload_n 2, 1) := dk_28 (dk_at dksX1_four_0 3 rfl rfl)
theorem dX1_four_4 : decode cX1_four 4 = .ok (.ifCond .lt 41, 3) := dk_155 0 41 (dk_at dksX1_four_0 4 rfl rfl)
theorem dX1_four_7 : decode cX1_four 7 = .ok (.aload_n 0, 1) := dk_42 (dk_at dksX1_four_0 7 rfl rfl)
theorem dX1_four_8 : decode cX1_four 8 = .ok (.getfield 10, 3) := dk_180 0 10 (dk_at dksX1_four_0 8 rfl rfl)
theorem dX1_four_11 : decode cX1_four 11 = .ok (.getfield 107, 3) := dk_180 0 107 (dk_at dksX1_four_0 11 rfl rfl)
theorem dX1_four_14 : decode cX1_four 14 = .ok (.aload_n 0, 1) := dk_42 (dk_at dksX1_four_0 14 rfl rfl)
theorem dX1_four_15 : decode cX1_four 15 = .ok (.getfield 10, 3) := dk_180 0 10 (dk_at dksX1_four_0 15 rfl rfl)
theorem dX1_four_18 : decode cX1_four 18 = .ok (.getfield 111, 3) := dk_180 0 111 (dk_at dksX1_four_0 18 rfl rfl)
theorem dX1_four_21 : decode cX1_four 21 = .ok (.iload_n 1, 1) := dk_27 (dk_at dksX1_four_0 21 rfl rfl)
theorem dX1_four_22 : decode cX1_four 22 = .ok (.iload_n 2, 1) := dk_28 (dk_at dksX1_four_0 22 rfl rfl)
theorem dX1_four_23 : decode cX1_four 23 = .ok (.ishr, 1) := dk_122 (dk_at dksX1_four_0 23 rfl rfl)
theorem dX1_four_24 : decode cX1_four 24 = .ok (.i2b, 1) := dk_145 (dk_at dksX1_four_1 0 rfl rfl)
theorem dX1_four_25 : decode cX1_four 25 = .ok (.bastore, 1) := dk_84 (dk_at dksX1_four_1 1 rfl rfl)
theorem dX1_four_26 : decode cX1_four 26 = .ok (.aload_n 0, 1) := dk_42 (dk_at dksX1_four_1 2 rfl rfl)
theorem dX1_four_27 : decode cX1_four 27 = .ok (.getfield 10, 3) := dk_180 0 10 (dk_at dksX1_four_1 3 rfl rfl)
theorem dX1_four_30 : decode cX1_four 30 = .ok (.dup, 1) := dk_89 (dk_at dksX1_four_1 6 rfl rfl)
theorem dX1_four_31 : decode cX1_four 31 = .ok (.getfield 111, 3) := dk_180 0 111 (dk_at dksX1_four_1 7 rfl rfl)
theorem dX1_four_34 : decode cX1_four 34 = .ok (.iconst 1, 1) := dk_4 (dk_at dksX1_four_1 10 rfl rfl)
theorem dX1_four_35 : decode cX1_four 35 = .ok (.iadd, 1) := dk_96 (dk_at dksX1_four_1 11 rfl rfl)
theorem dX1_four_36 : decode cX1_four 36 = .ok (.putfield 111, 3) := dk_181 0 111 (dk_at dksX1_four_1 12 rfl rfl)
theorem dX1_four_39 : decode cX1_four 39 = .ok (.iinc 2 (-8), 3) := dk_132 2 248 (dk_at dksX1_four_1 15 rfl rfl)
theorem dX1_four_42 : decode cX1_four 42 = .ok (.goto (-39), 3) := dk_167 255 217 (dk_at dksX1_four_1 18 rfl rfl)
theorem dX1_four_45 : decode cX1_four 45 = .ok (.return_, 1) := dk_177 (dk_at dksX1_four_1 21 rfl rfl)
abbrev cX1_end : ByteArray := prog_1_method_13_code
def yX1_end : MethodName := ⟨RX1, "end", "(I)Z"⟩
def dkwX1_end_1 : List UInt8 := [181, 0, 111, 4, 172]
abbrev dktX1_end_1 : List UInt8 := dkwX1_end_1 ++ []
def dkwX1_end_0 : List UInt8 := [27, 3, 42, 180, 0, 10, 180, 0, 111, 184, 0, 88, 154, 0, 5, 3, 172, 42, 180, 0, 10, 27]
abbrev dktX1_end_0 : List UInt8 := dkwX1_end_0 ++ dktX1_end_1
theorem dksX1_end_0 : cX1_end.data.toList.drop 0 = dktX1_end_0 := by decide +kernel
theorem dksX1_end_1 : cX1_end.data.toList.drop 22 = dktX1_end_1 := dk_seg dksX1_end_0 22 rfl rfl
theorem dX1_end_0 : decode cX1_end 0 = .ok (.iload_n 1, 1) := dk_27 (dk_at dksX1_end_0 0 rfl rfl)
theorem dX1_end_1 : decode cX1_end 1 = .ok (.iconst 0, 1) := dk_3 (dk_at dksX1_end_0 1 rfl rfl)
theorem dX1_end_2 : decode cX1_end 2 = .ok (.aload_n 0, 1) := dk_42 (dk_at dksX1_end_0 2 rfl rfl)
theorem dX1_end_3 : decode cX1_end 3 = .ok (.getfield 10, 3) := dk_180 0 10 (dk_at dksX1_end_0 3 rfl rfl)
theorem dX1_end_6 : decode cX1_end 6 = .ok (.getfield 111, 3) := dk_180 0 111 (dk_at dksX1_end_0 6 rfl rfl)
theorem dX1_end_9 : decode cX1_end 9 = .ok (.invokestatic 88, 3) := dk_184 0 88 (dk_at dksX1_end_0 9 rfl rfl)
theorem dX1_end_12 : decode cX1_end 12 = .ok (.ifCond .ne 5, 3) := dk_154 0 5 (dk_at dksX1_end_0 12 rfl rfl)
theorem dX1_end_15 : decode cX1_end 15 = .ok (.iconst 0, 1) := dk_3 (dk_at dksX1_end_0 15 rfl rfl)
theorem dX1_end_16 : decode cX1_end 16 = .ok (.ireturn, 1) := dk_172 (dk_at dksX1_end_0 16 rfl rfl)
theorem dX1_end_17 : decode cX1_end 17 = .ok (.aload_n 0, 1) := dk_42 (dk_at dksX1_end_0 17 rfl rfl)
theorem dX1_end_18 : decode cX1_end 18 = .ok (.getfield 10, 3) := dk_180 0 10 (dk_at dksX1_end_0 18 rfl rfl)
theorem dX1_end_21 : decode cX1_end 21 = .ok (.iload_n 1, 1) := dk_27 (dk_at dksX1_end_0 21 rfl rfl)
theorem dX1_end_22 : decode cX1_end 22 = .ok (.putfield 111, 3) := dk_181 0 111 (dk_at dksX1_end_1 0 rfl rfl)
theorem dX1_end_25 : decode cX1_end 25 = .ok (.iconst 1, 1) := dk_4 (dk_at dksX1_end_1 3 rfl rfl)
theorem dX1_end_26 : decode cX1_end 26 = .ok (.ireturn, 1) := dk_172 (dk_at dksX1_end_1 4 rfl rfl)
abbrev cX1_isIn : ByteArray := prog_1_method_7_code
def yX1_isIn : MethodName := ⟨RX1, "isIn", "(III)Z"⟩
def dkwX1_isIn_0 : List UInt8 := [26, 27, 161, 0, 12, 26, 28, 163, 0, 7, 4, 167, 0, 4, 3, 172]
abbrev dktX1_isIn_0 : List UInt8 := dkwX1_isIn_0 ++ []
theorem dksX1_isIn_0 : cX1_isIn.data.toList.drop 0 = dktX1_isIn_0 := by decide +kernel
theorem dX1_isIn_0 : decode cX1_isIn 0 = .ok (.iload_n 0, 1) := dk_26 (dk_at dksX1_isIn_0 0 rfl rfl)
theorem dX1_isIn_1 : decode cX1_isIn 1 = .ok (.iload_n 1, 1) := dk_27 (dk_at dksX1_isIn_0 1 rfl rfl)
theorem dX1_isIn_2 : decode cX1_isIn 2 = .ok (.if_icmp .lt 12, 3) := dk_161 0 12 (dk_at dksX1_isIn_0 2 rfl rfl)
theorem dX1_isIn_5 : decode cX1_isIn 5 = .ok (.iload_n 0, 1) := dk_26 (dk_at dksX1_isIn_0 5 rfl rfl)
theorem dX1_isIn_6 : decode cX1_isIn 6 = .ok (.iload_n 2, 1) := dk_28 (dk_at dksX1_isIn_0 6 rfl rfl)
theorem dX1_isIn_7 : decode cX1_isIn 7 = .ok (.if_icmp .gt 7, 3) := dk_163 0 7 (dk_at dksX1_isIn_0 7 rfl rfl)
theorem dX1_isIn_10 : decode cX1_isIn 10 = .ok (.iconst 1, 1) := dk_4 (dk_at dksX1_isIn_0 10 rfl rfl)
theorem dX1_isIn_11 : decode cX1_isIn 11 = .ok (.goto 4, 3) := dk_167 0 4 (dk_at dksX1_isIn_0 11 rfl rfl)
theorem dX1_isIn_14 : decode cX1_isIn 14 = .ok (.iconst 0, 1) := dk_3 (dk_at dksX1_isIn_0 14 rfl rfl)
theorem dX1_isIn_15 : decode cX1_isIn 15 = .ok (.ireturn, 1) := dk_172 (dk_at dksX1_isIn_0 15 rfl rfl)
abbrev cX1_fault : ByteArray := prog_1_method_18_code
def yX1_fault : MethodName := ⟨RX1, "fault", "()I"⟩
theorem dX1_fault_0 : decode cX1_fault 0 = .ok (.aload_n 0, 1) := by decide +kernel
theorem dX1_fault_1 : decode cX1_fault 1 = .ok (.getfield 63, 3) := by decide +kernel
theorem dX1_fault_4 : decode cX1_fault 4 = .ok (.ireturn, 1) := by decide +kernel
abbrev cX1_gap : ByteArray := prog_1_method_40_code
def yX1_gap : MethodName := ⟨RX1, "gap", "()I"⟩
def dkwX1_gap_2 : List UInt8 := [182, 1, 40, 167, 0, 9, 42, 28, 182, 1, 40, 116, 96, 60, 132, 2, 1, 167, 255, 195, 27, 172]
abbrev dktX1_gap_2 : List UInt8 := dkwX1_gap_2 ++ []
def dkwX1_gap_1 : List UInt8 := [180, 0, 204, 154, 0, 35, 27, 42, 180, 0, 19, 180, 0, 103, 28, 50, 180, 0, 195, 154, 0, 11, 42, 28]
abbrev dktX1_gap_1 : List UInt8 := dkwX1_gap_1 ++ dktX1_gap_2
def dkwX1_gap_0 : List UInt8 := [3, 60, 3, 61, 28, 42, 180, 0, 19, 180, 0, 100, 162, 0, 56, 42, 180, 0, 19, 180, 0, 103, 28, 50]
abbrev dktX1_gap_0 : List UInt8 := dkwX1_gap_0 ++ dktX1_gap_1
theorem dksX1_gap_0 : cX1_gap.data.toList.drop 0 = dktX1_gap_0 := by decide +kernel
theorem dksX1_gap_1 : cX1_gap.data.toList.drop 24 = dktX1_gap_1 := dk_seg dksX1_gap_0 24 rfl rfl
theorem dksX1_gap_2 : cX1_gap.data.toList.drop 48 = dktX1_gap_2 := dk_seg dksX1_gap_1 24 rfl rfl
theorem dX1_gap_0 : decode cX1_gap 0 = .ok (.iconst 0, 1) := dk_3 (dk_at dksX1_gap_0 0 rfl rfl)
theorem dX1_gap_1 : decode cX1_gap 1 = .ok (.istore_n 1, 1) := dk_60 (dk_at dksX1_gap_0 1 rfl rfl)
theorem dX1_gap_2 : decode cX1_gap 2 = .ok (.iconst 0, 1) := dk_3 (dk_at dksX1_gap_0 2 rfl rfl)
theorem dX1_gap_3 : decode cX1_gap 3 = .ok (.istore_n 2, 1) := dk_61 (dk_at dksX1_gap_0 3 rfl rfl)
theorem dX1_gap_4 : decode cX1_gap 4 = .ok (.iload_n 2, 1) := dk_28 (dk_at dksX1_gap_0 4 rfl rfl)
theorem dX1_gap_5 : decode cX1_gap 5 = .ok (.aload_n 0, 1) := dk_42 (dk_at dksX1_gap_0 5 rfl rfl)
theorem dX1_gap_6 : decode cX1_gap 6 = .ok (.getfield 19, 3) := dk_180 0 19 (dk_at dksX1_gap_0 6 rfl rfl)
theorem dX1_gap_9 : decode cX1_gap 9 = .ok (.getfield 100, 3) := dk_180 0 100 (dk_at dksX1_gap_0 9 rfl rfl)
theorem dX1_gap_12 : decode cX1_gap 12 = .ok (.if_icmp .ge 56, 3) := dk_162 0 56 (dk_at dksX1_gap_0 12 rfl rfl)
theorem dX1_gap_15 : decode cX1_gap 15 = .ok (.aload_n 0, 1) := dk_42 (dk_at dksX1_gap_0 15 rfl rfl)
theorem dX1_gap_16 : decode cX1_gap 16 = .ok (.getfield 19, 3) := dk_180 0 19 (dk_at dksX1_gap_0 16 rfl rfl)
theorem dX1_gap_19 : decode cX1_gap 19 = .ok (.getfield 103, 3) := dk_180 0 103 (dk_at dksX1_gap_0 19 rfl rfl)
theorem dX1_gap_22 : decode cX1_gap 22 = .ok (.iload_n 2, 1) := dk_28 (dk_at dksX1_gap_0 22 rfl rfl)
theorem dX1_gap_23 : decode cX1_gap 23 = .ok (.aaload, 1) := dk_50 (dk_at dksX1_gap_0 23 rfl rfl)
theorem dX1_gap_24 : decode cX1_gap 24 = .ok (.getfield 204, 3) := dk_180 0 204 (dk_at dksX1_gap_1 0 rfl rfl)
theorem dX1_gap_27 : decode cX1_gap 27 = .ok (.ifCond .ne 35, 3) := dk_154 0 35 (dk_at dksX1_gap_1 3 rfl rfl)
theorem dX1_gap_30 : decode cX1_gap 30 = .ok (.iload_n 1, 1) := dk_27 (dk_at dksX1_gap_1 6 rfl rfl)
theorem dX1_gap_31 : decode cX1_gap 31 = .ok (.aload_n 0, 1) := dk_42 (dk_at dksX1_gap_1 7 rfl rfl)
theorem dX1_gap_32 : decode cX1_gap 32 = .ok (.getfield 19, 3) := dk_180 0 19 (dk_at dksX1_gap_1 8 rfl rfl)
theorem dX1_gap_35 : decode cX1_gap 35 = .ok (.getfield 103, 3) := dk_180 0 103 (dk_at dksX1_gap_1 11 rfl rfl)
theorem dX1_gap_38 : decode cX1_gap 38 = .ok (.iload_n 2, 1) := dk_28 (dk_at dksX1_gap_1 14 rfl rfl)
theorem dX1_gap_39 : decode cX1_gap 39 = .ok (.aaload, 1) := dk_50 (dk_at dksX1_gap_1 15 rfl rfl)
theorem dX1_gap_40 : decode cX1_gap 40 = .ok (.getfield 195, 3) := dk_180 0 195 (dk_at dksX1_gap_1 16 rfl rfl)
theorem dX1_gap_43 : decode cX1_gap 43 = .ok (.ifCond .ne 11, 3) := dk_154 0 11 (dk_at dksX1_gap_1 19 rfl rfl)
theorem dX1_gap_46 : decode cX1_gap 46 = .ok (.aload_n 0, 1) := dk_42 (dk_at dksX1_gap_1 22 rfl rfl)
theorem dX1_gap_47 : decode cX1_gap 47 = .ok (.iload_n 2, 1) := dk_28 (dk_at dksX1_gap_1 23 rfl rfl)
theorem dX1_gap_48 : decode cX1_gap 48 = .ok (.invokevirtual 296, 3) := dk_182 1 40 (dk_at dksX1_gap_2 0 rfl rfl)
theorem dX1_gap_51 : decode cX1_gap 51 = .ok (.goto 9, 3) := dk_167 0 9 (dk_at dksX1_gap_2 3 rfl rfl)
theorem dX1_gap_54 : decode cX1_gap 54 = .ok (.aload_n 0, 1) := dk_42 (dk_at dksX1_gap_2 6 rfl rfl)
theorem dX1_gap_55 : decode cX1_gap 55 = .ok (.iload_n 2, 1) := dk_28 (dk_at dksX1_gap_2 7 rfl rfl)
theorem dX1_gap_56 : decode cX1_gap 56 = .ok (.invokevirtual 296, 3) := dk_182 1 40 (dk_at dksX1_gap_2 8 rfl rfl)
theorem dX1_gap_59 : decode cX1_gap 59 = .ok (.ineg, 1) := dk_116 (dk_at dksX1_gap_2 11 rfl rfl)
theorem dX1_gap_60 : decode cX1_gap 60 = .ok (.iadd, 1) := dk_96 (dk_at dksX1_gap_2 12 rfl rfl)
theorem dX1_gap_61 : decode cX1_gap 61 = .ok (.istore_n 1, 1) := dk_60 (dk_at dksX1_gap_2 13 rfl rfl)
theorem dX1_gap_62 : decode cX1_gap 62 = .ok (.iinc 2 1, 3) := dk_132 2 1 (dk_at dksX1_gap_2 14 rfl rfl)
theorem dX1_gap_65 : decode cX1_gap 65 = .ok (.goto (-61), 3) := dk_167 255 195 (dk_at dksX1_gap_2 17 rfl rfl)
theorem dX1_gap_68 : decode cX1_gap 68 = .ok (.iload_n 1, 1) := dk_27 (dk_at dksX1_gap_2 20 rfl rfl)
theorem dX1_gap_69 : decode cX1_gap 69 = .ok (.ireturn, 1) := dk_172 (dk_at dksX1_gap_2 21 rfl rfl)
abbrev cX1_oddsOf : ByteArray := prog_1_method_38_code
def yX1_oddsOf : MethodName := ⟨RX1, "oddsOf", "(I)I"⟩
def dkwX1_oddsOf_0 : List UInt8 := [42, 180, 0, 38, 42, 180, 0, 19, 180, 0, 103, 27, 50, 182, 1, 27, 42, 180, 0, 38, 182, 1, 37, 172]
abbrev dktX1_oddsOf_0 : List UInt8 := dkwX1_oddsOf_0 ++ []
theorem dksX1_oddsOf_0 : cX1_oddsOf.data.toList.drop 0 = dktX1_oddsOf_0 := by decide +kernel
theorem dX1_oddsOf_0 : decode cX1_oddsOf 0 = .ok (.aload_n 0, 1) := dk_42 (dk_at dksX1_oddsOf_0 0 rfl rfl)
theorem dX1_oddsOf_1 : decode cX1_oddsOf 1 = .ok (.getfield 38, 3) := dk_180 0 38 (dk_at dksX1_oddsOf_0 1 rfl rfl)
theorem dX1_oddsOf_4 : decode cX1_oddsOf 4 = .ok (.aload_n 0, 1) := dk_42 (dk_at dksX1_oddsOf_0 4 rfl rfl)
theorem dX1_oddsOf_5 : decode cX1_oddsOf 5 = .ok (.getfield 19, 3) := dk_180 0 19 (dk_at dksX1_oddsOf_0 5 rfl rfl)
theorem dX1_oddsOf_8 : decode cX1_oddsOf 8 = .ok (.getfield 103, 3) := dk_180 0 103 (dk_at dksX1_oddsOf_0 8 rfl rfl)
theorem dX1_oddsOf_11 : decode cX1_oddsOf 11 = .ok (.iload_n 1, 1) := dk_27 (dk_at dksX1_oddsOf_0 11 rfl rfl)
theorem dX1_oddsOf_12 : decode cX1_oddsOf 12 = .ok (.aaload, 1) := dk_50 (dk_at dksX1_oddsOf_0 12 rfl rfl)
theorem dX1_oddsOf_13 : decode cX1_oddsOf 13 = .ok (.invokevirtual 283, 3) := dk_182 1 27 (dk_at dksX1_oddsOf_0 13 rfl rfl)
theorem dX1_oddsOf_16 : decode cX1_oddsOf 16 = .ok (.aload_n 0, 1) := dk_42 (dk_at dksX1_oddsOf_0 16 rfl rfl)
theorem dX1_oddsOf_17 : decode cX1_oddsOf 17 = .ok (.getfield 38, 3) := dk_180 0 38 (dk_at dksX1_oddsOf_0 17 rfl rfl)
theorem dX1_oddsOf_20 : decode cX1_oddsOf 20 = .ok (.invokevirtual 293, 3) := dk_182 1 37 (dk_at dksX1_oddsOf_0 20 rfl rfl)
theorem dX1_oddsOf_23 : decode cX1_oddsOf 23 = .ok (.ireturn, 1) := dk_172 (dk_at dksX1_oddsOf_0 23 rfl rfl)
abbrev cX1_errors : ByteArray := prog_1_method_41_code
def yX1_errors : MethodName := ⟨RX1, "errors", "(Z)I"⟩
def dkwX1_errors_3 : List UInt8 := [167, 0, 4, 3, 27, 159, 0, 7, 4, 167, 0, 4, 3, 96, 61, 132, 3, 1, 167, 255, 172, 28, 172]
abbrev dktX1_errors_3 : List UInt8 := dkwX1_errors_3 ++ []
def dkwX1_errors_2 : List UInt8 := [167, 0, 4, 3, 27, 159, 0, 6, 167, 0, 31, 28, 42, 29, 182, 1, 40, 17, 19, 136, 161, 0, 7, 4]
abbrev dktX1_errors_2 : List UInt8 := dkwX1_errors_2 ++ dktX1_errors_3
def dkwX1_errors_1 : List UInt8 := [180, 0, 204, 154, 0, 58, 42, 180, 0, 19, 180, 0, 103, 29, 50, 180, 0, 195, 154, 0, 7, 4]
abbrev dktX1_errors_1 : List UInt8 := dkwX1_errors_1 ++ dktX1_errors_2
def dkwX1_errors_0 : List UInt8 := [3, 61, 3, 62, 29, 42, 180, 0, 19, 180, 0, 100, 162, 0, 79, 42, 180, 0, 19, 180, 0, 103, 29, 50]
abbrev dktX1_errors_0 : List UInt8 := dkwX1_errors_0 ++ dktX1_errors_1
theorem dksX1_errors_0 : cX1_errors.data.toList.drop 0 = dktX1_errors_0 := by decide +kernel
theorem dksX1_errors_1 : cX1_errors.data.toList.drop 24 = dktX1_errors_1 := dk_seg dksX1_errors_0 24 rfl rfl
theorem dksX1_errors_2 : cX1_errors.data.toList.drop 46 = dktX1_errors_2 := dk_seg dksX1_errors_1 22 rfl rfl
theorem dksX1_errors_3 : cX1_errors.data.toList.drop 70 = dktX1_errors_3 := dk_seg dksX1_errors_2 24 rfl rfl
theorem dX1_errors_0 : decode cX1_errors 0 = .ok (.iconst 0, 1) := dk_3 (dk_at dksX1_errors_0 0 rfl rfl)
theorem dX1_errors_1 : decode cX1_errors 1 = .ok (.istore_n 2, 1) := dk_61 (dk_at dksX1_errors_0 1 rfl rfl)
theorem dX1_errors_2 : decode cX1_errors 2 = .ok (.iconst 0, 1) := dk_3 (dk_at dksX1_errors_0 2 rfl rfl)
theorem dX1_errors_3 : decode cX1_errors 3 = .ok (.istore_n 3, 1) := dk_62 (dk_at dksX1_errors_0 3 rfl rfl)
theorem dX1_errors_4 : decode cX1_errors 4 = .ok (.iload_n 3, 1) := dk_29 (dk_at dksX1_errors_0 4 rfl rfl)
theorem dX1_errors_5 : decode cX1_errors 5 = .ok (.aload_n 0, 1) := dk_42 (dk_at dksX1_errors_0 5 rfl rfl)
theorem dX1_errors_6 : decode cX1_errors 6 = .ok (.getfield 19, 3) := dk_180 0 19 (dk_at dksX1_errors_0 6 rfl rfl)
theorem dX1_errors_9 : decode cX1_errors 9 = .ok (.getfield 100, 3) := dk_180 0 100 (dk_at dksX1_errors_0 9 rfl rfl)
theorem dX1_errors_12 : decode cX1_errors 12 = .ok (.if_icmp .ge 79, 3) := dk_162 0 79 (dk_at dksX1_errors_0 12 rfl rfl)
theorem dX1_errors_15 : decode cX1_errors 15 = .ok (.aload_n 0, 1) := dk_42 (dk_at dksX1_errors_0 15 rfl rfl)
theorem dX1_errors_16 : decode cX1_errors 16 = .ok (.getfield 19, 3) := dk_180 0 19 (dk_at dksX1_errors_0 16 rfl rfl)
theorem dX1_errors_19 : decode cX1_errors 19 = .ok (.getfield 103, 3) := dk_180 0 103 (dk_at dksX1_errors_0 19 rfl rfl)
theorem dX1_errors_22 : decode cX1_errors 22 = .ok (.iload_n 3, 1) := dk_29 (dk_at dksX1_errors_0 22 rfl rfl)
theorem dX1_errors_23 : decode cX1_errors 23 = .ok (.aaload, 1) := dk_50 (dk_at dksX1_errors_0 23 rfl rfl)
theorem dX1_errors_24 : decode cX1_errors 24 = .ok (.getfield 204, 3) := dk_180 0 204 (dk_at dksX1_errors_1 0 rfl rfl)
theorem dX1_errors_27 : decode cX1_errors 27 = .ok (.ifCond .ne 58, 3) := dk_154 0 58 (dk_at dksX1_errors_1 3 rfl rfl)
theorem dX1_errors_30 : decode cX1_errors 30 = .ok (.aload_n 0, 1) := dk_42 (dk_at dksX1_errors_1 6 rfl rfl)
theorem dX1_errors_31 : decode cX1_errors 31 = .ok (.getfield 19, 3) := dk_180 0 19 (dk_at dksX1_errors_1 7 rfl rfl)
theorem dX1_errors_34 : decode cX1_errors 34 = .ok (.getfield 103, 3) := dk_180 0 103 (dk_at dksX1_errors_1 10 rfl rfl)
theorem dX1_errors_37 : decode cX1_errors 37 = .ok (.iload_n 3, 1) := dk_29 (dk_at dksX1_errors_1 13 rfl rfl)
theorem dX1_errors_38 : decode cX1_errors 38 = .ok (.aaload, 1) := dk_50 (dk_at dksX1_errors_1 14 rfl rfl)
theorem dX1_errors_39 : decode cX1_errors 39 = .ok (.getfield 195, 3) := dk_180 0 195 (dk_at dksX1_errors_1 15 rfl rfl)
theorem dX1_errors_42 : decode cX1_errors 42 = .ok (.ifCond .ne 7, 3) := dk_154 0 7 (dk_at dksX1_errors_1 18 rfl rfl)
theorem dX1_errors_45 : decode cX1_errors 45 = .ok (.iconst 1, 1) := dk_4 (dk_at dksX1_errors_1 21 rfl rfl)
theorem dX1_errors_46 : decode cX1_errors 46 = .ok (.goto 4, 3) := dk_167 0 4 (dk_at dksX1_errors_2 0 rfl rfl)
theorem dX1_errors_49 : decode cX1_errors 49 = .ok (.iconst 0, 1) := dk_3 (dk_at dksX1_errors_2 3 rfl rfl)
theorem dX1_errors_50 : decode cX1_errors 50 = .ok (.iload_n 1, 1) := dk_27 (dk_at dksX1_errors_2 4 rfl rfl)
theorem dX1_errors_51 : decode cX1_errors 51 = .ok (.if_icmp .eq 6, 3) := dk_159 0 6 (dk_at dksX1_errors_2 5 rfl rfl)
theorem dX1_errors_54 : decode cX1_errors 54 = .ok (.goto 31, 3) := dk_167 0 31 (dk_at dksX1_errors_2 8 rfl rfl)
theorem dX1_errors_57 : decode cX1_errors 57 = .ok (.iload_n 2, 1) := dk_28 (dk_at dksX1_errors_2 11 rfl rfl)
theorem dX1_errors_58 : decode cX1_errors 58 = .ok (.aload_n 0, 1) := dk_42 (dk_at dksX1_errors_2 12 rfl rfl)
theorem dX1_errors_59 : decode cX1_errors 59 = .ok (.iload_n 3, 1) := dk_29 (dk_at dksX1_errors_2 13 rfl rfl)
theorem dX1_errors_60 : decode cX1_errors 60 = .ok (.invokevirtual 296, 3) := dk_182 1 40 (dk_at dksX1_errors_2 14 rfl rfl)
theorem dX1_errors_63 : decode cX1_errors 63 = .ok (.sipush 5000, 3) := dk_17 19 136 (dk_at dksX1_errors_2 17 rfl rfl)
theorem dX1_errors_66 : decode cX1_errors 66 = .ok (.if_icmp .lt 7, 3) := dk_161 0 7 (dk_at dksX1_errors_2 20 rfl rfl)
theorem dX1_errors_69 : decode cX1_errors 69 = .ok (.iconst 1, 1) := dk_4 (dk_at dksX1_errors_2 23 rfl rfl)
theorem dX1_errors_70 : decode cX1_errors 70 = .ok (.goto 4, 3) := dk_167 0 4 (dk_at dksX1_errors_3 0 rfl rfl)
theorem dX1_errors_73 : decode cX1_errors 73 = .ok (.iconst 0, 1) := dk_3 (dk_at dksX1_errors_3 3 rfl rfl)
theorem dX1_errors_74 : decode cX1_errors 74 = .ok (.iload_n 1, 1) := dk_27 (dk_at dksX1_errors_3 4 rfl rfl)
theorem dX1_errors_75 : decode cX1_errors 75 = .ok (.if_icmp .eq 7, 3) := dk_159 0 7 (dk_at dksX1_errors_3 5 rfl rfl)
theorem dX1_errors_78 : decode cX1_errors 78 = .ok (.iconst 1, 1) := dk_4 (dk_at dksX1_errors_3 8 rfl rfl)
theorem dX1_errors_79 : decode cX1_errors 79 = .ok (.goto 4, 3) := dk_167 0 4 (dk_at dksX1_errors_3 9 rfl rfl)
theorem dX1_errors_82 : decode cX1_errors 82 = .ok (.iconst 0, 1) := dk_3 (dk_at dksX1_errors_3 12 rfl rfl)
theorem dX1_errors_83 : decode cX1_errors 83 = .ok (.iadd, 1) := dk_96 (dk_at dksX1_errors_3 13 rfl rfl)
theorem dX1_errors_84 : decode cX1_errors 84 = .ok (.istore_n 2, 1) := dk_61 (dk_at dksX1_errors_3 14 rfl rfl)
theorem dX1_errors_85 : decode cX1_errors 85 = .ok (.iinc 3 1, 3) := dk_132 3 1 (dk_at dksX1_errors_3 15 rfl rfl)
theorem dX1_errors_88 : decode cX1_errors 88 = .ok (.goto (-84), 3) := dk_167 255 172 (dk_at dksX1_errors_3 18 rfl rfl)
theorem dX1_errors_91 : decode cX1_errors 91 = .ok (.iload_n 2, 1) := dk_28 (dk_at dksX1_errors_3 21 rfl rfl)
theorem dX1_errors_92 : decode cX1_errors 92 = .ok (.ireturn, 1) := dk_172 (dk_at dksX1_errors_3 22 rfl rfl)
abbrev cX1_swap : ByteArray := prog_1_method_43_code
def yX1_swap : MethodName := ⟨RX1, "swap", "()I"⟩
def dkwX1_swap_3 : List UInt8 := [167, 255, 206, 132, 3, 1, 167, 255, 189, 28, 172]
abbrev dktX1_swap_3 : List UInt8 := dkwX1_swap_3 ++ []
def dkwX1_swap_2 : List UInt8 := [21, 5, 27, 163, 0, 6, 167, 0, 14, 21, 5, 60, 16, 10, 29, 104, 21, 4, 96, 61, 132, 4, 1]
abbrev dktX1_swap_2 : List UInt8 := dkwX1_swap_2 ++ dktX1_swap_3
def dkwX1_swap_1 : List UInt8 := [162, 0, 49, 42, 29, 21, 4, 182, 1, 46, 42, 182, 1, 43, 54, 5, 42, 29, 21, 4, 182, 1, 46]
abbrev dktX1_swap_1 : List UInt8 := dkwX1_swap_1 ++ dktX1_swap_2
def dkwX1_swap_0 : List UInt8 := [42, 182, 1, 43, 60, 2, 61, 3, 62, 29, 16, 10, 162, 0, 67, 29, 4, 96, 54, 4, 21, 4, 16, 10]
abbrev dktX1_swap_0 : List UInt8 := dkwX1_swap_0 ++ dktX1_swap_1
theorem dksX1_swap_0 : cX1_swap.data.toList.drop 0 = dktX1_swap_0 := by decide +kernel
theorem dksX1_swap_1 : cX1_swap.data.toList.drop 24 = dktX1_swap_1 := dk_seg dksX1_swap_0 24 rfl rfl
theorem dksX1_swap_2 : cX1_swap.data.toList.drop 47 = dktX1_swap_2 := dk_seg dksX1_swap_1 23 rfl rfl
theorem dksX1_swap_3 : cX1_swap.data.toList.drop 70 = dktX1_swap_3 := dk_seg dksX1_swap_2 23 rfl rfl
theorem dX1_swap_0 : decode cX1_swap 0 = .ok (.aload_n 0, 1) := dk_42 (dk_at dksX1_swap_0 0 rfl rfl)
theorem dX1_swap_1 : decode cX1_swap 1 = .ok (.invokevirtual 299, 3) := dk_182 1 43 (dk_at dksX1_swap_0 1 rfl rfl)
theorem dX1_swap_4 : decode cX1_swap 4 = .ok (.istore_n 1, 1) := dk_60 (dk_at dksX1_swap_0 4 rfl rfl)
theorem dX1_swap_5 : decode cX1_swap 5 = .ok (.iconst (-1), 1) := dk_2 (dk_at dksX1_swap_0 5 rfl rfl)
theorem dX1_swap_6 : decode cX1_swap 6 = .ok (.istore_n 2, 1) := dk_61 (dk_at dksX1_swap_0 6 rfl rfl)
theorem dX1_swap_7 : decode cX1_swap 7 = .ok (.iconst 0, 1) := dk_3 (dk_at dksX1_swap_0 7 rfl rfl)
theorem dX1_swap_8 : decode cX1_swap 8 = .ok (.istore_n 3, 1) := dk_62 (dk_at dksX1_swap_0 8 rfl rfl)
theorem dX1_swap_9 : decode cX1_swap 9 = .ok (.iload_n 3, 1) := dk_29 (dk_at dksX1_swap_0 9 rfl rfl)
theorem dX1_swap_10 : decode cX1_swap 10 = .ok (.bipush 10, 2) := dk_16 10 (dk_at dksX1_swap_0 10 rfl rfl)
theorem dX1_swap_12 : decode cX1_swap 12 = .ok (.if_icmp .ge 67, 3) := dk_162 0 67 (dk_at dksX1_swap_0 12 rfl rfl)
theorem dX1_swap_15 : decode cX1_swap 15 = .ok (.iload_n 3, 1) := dk_29 (dk_at dksX1_swap_0 15 rfl rfl)
theorem dX1_swap_16 : decode cX1_swap 16 = .ok (.iconst 1, 1) := dk_4 (dk_at dksX1_swap_0 16 rfl rfl)
theorem dX1_swap_17 : decode cX1_swap 17 = .ok (.iadd, 1) := dk_96 (dk_at dksX1_swap_0 17 rfl rfl)
theorem dX1_swap_18 : decode cX1_swap 18 = .ok (.istore 4, 2) := dk_54 4 (dk_at dksX1_swap_0 18 rfl rfl)
theorem dX1_swap_20 : decode cX1_swap 20 = .ok (.iload 4, 2) := dk_21 4 (dk_at dksX1_swap_0 20 rfl rfl)
theorem dX1_swap_22 : decode cX1_swap 22 = .ok (.bipush 10, 2) := dk_16 10 (dk_at dksX1_swap_0 22 rfl rfl)
theorem dX1_swap_24 : decode cX1_swap 24 = .ok (.if_icmp .ge 49, 3) := dk_162 0 49 (dk_at dksX1_swap_1 0 rfl rfl)
theorem dX1_swap_27 : decode cX1_swap 27 = .ok (.aload_n 0, 1) := dk_42 (dk_at dksX1_swap_1 3 rfl rfl)
theorem dX1_swap_28 : decode cX1_swap 28 = .ok (.iload_n 3, 1) := dk_29 (dk_at dksX1_swap_1 4 rfl rfl)
theorem dX1_swap_29 : decode cX1_swap 29 = .ok (.iload 4, 2) := dk_21 4 (dk_at dksX1_swap_1 5 rfl rfl)
theorem dX1_swap_31 : decode cX1_swap 31 = .ok (.invokevirtual 302, 3) := dk_182 1 46 (dk_at dksX1_swap_1 7 rfl rfl)
theorem dX1_swap_34 : decode cX1_swap 34 = .ok (.aload_n 0, 1) := dk_42 (dk_at dksX1_swap_1 10 rfl rfl)
theorem dX1_swap_35 : decode cX1_swap 35 = .ok (.invokevirtual 299, 3) := dk_182 1 43 (dk_at dksX1_swap_1 11 rfl rfl)
theorem dX1_swap_38 : decode cX1_swap 38 = .ok (.istore 5, 2) := dk_54 5 (dk_at dksX1_swap_1 14 rfl rfl)
theorem dX1_swap_40 : decode cX1_swap 40 = .ok (.aload_n 0, 1) := dk_42 (dk_at dksX1_swap_1 16 rfl rfl)
theorem dX1_swap_41 : decode cX1_swap 41 = .ok (.iload_n 3, 1) := dk_29 (dk_at dksX1_swap_1 17 rfl rfl)
theorem dX1_swap_42 : decode cX1_swap 42 = .ok (.iload 4, 2) := dk_21 4 (dk_at dksX1_swap_1 18 rfl rfl)
theorem dX1_swap_44 : decode cX1_swap 44 = .ok (.invokevirtual 302, 3) := dk_182 1 46 (dk_at dksX1_swap_1 20 rfl rfl)
theorem dX1_swap_47 : decode cX1_swap 47 = .ok (.iload 5, 2) := dk_21 5 (dk_at dksX1_swap_2 0 rfl rfl)
theorem dX1_swap_49 : decode cX1_swap 49 = .ok (.iload_n 1, 1) := dk_27 (dk_at dksX1_swap_2 2 rfl rfl)
theorem dX1_swap_50 : decode cX1_swap 50 = .ok (.if_icmp .gt 6, 3) := dk_163 0 6 (dk_at dksX1_swap_2 3 rfl rfl)
theorem dX1_swap_53 : decode cX1_swap 53 = .ok (.goto 14, 3) := dk_167 0 14 (dk_at dksX1_swap_2 6 rfl rfl)
theorem dX1_swap_56 : decode cX1_swap 56 = .ok (.iload 5, 2) := dk_21 5 (dk_at dksX1_swap_2 9 rfl rfl)
theorem dX1_swap_58 : decode cX1_swap 58 = .ok (.istore_n 1, 1) := dk_60 (dk_at dksX1_swap_2 11 rfl rfl)
theorem dX1_swap_59 : decode cX1_swap 59 = .ok (.bipush 10, 2) := dk_16 10 (dk_at dksX1_swap_2 12 rfl rfl)
theorem dX1_swap_61 : decode cX1_swap 61 = .ok (.iload_n 3, 1) := dk_29 (dk_at dksX1_swap_2 14 rfl rfl)
theorem dX1_swap_62 : decode cX1_swap 62 = .ok (.imul, 1) := dk_104 (dk_at dksX1_swap_2 15 rfl rfl)
theorem dX1_swap_63 : decode cX1_swap 63 = .ok (.iload 4, 2) := dk_21 4 (dk_at dksX1_swap_2 16 rfl rfl)
theorem dX1_swap_65 : decode cX1_swap 65 = .ok (.iadd, 1) := dk_96 (dk_at dksX1_swap_2 18 rfl rfl)
theorem dX1_swap_66 : decode cX1_swap 66 = .ok (.istore_n 2, 1) := dk_61 (dk_at dksX1_swap_2 19 rfl rfl)
theorem dX1_swap_67 : decode cX1_swap 67 = .ok (.iinc 4 1, 3) := dk_132 4 1 (dk_at dksX1_swap_2 20 rfl rfl)
theorem dX1_swap_70 : decode cX1_swap 70 = .ok (.goto (-50), 3) := dk_167 255 206 (dk_at dksX1_swap_3 0 rfl rfl)
theorem dX1_swap_73 : decode cX1_swap 73 = .ok (.iinc 3 1, 3) := dk_132 3 1 (dk_at dksX1_swap_3 3 rfl rfl)
theorem dX1_swap_76 : decode cX1_swap 76 = .ok (.goto (-67), 3) := dk_167 255 189 (dk_at dksX1_swap_3 6 rfl rfl)
theorem dX1_swap_79 : decode cX1_swap 79 = .ok (.iload_n 2, 1) := dk_28 (dk_at dksX1_swap_3 9 rfl rfl)
theorem dX1_swap_80 : decode cX1_swap 80 = .ok (.ireturn, 1) := dk_172 (dk_at dksX1_swap_3 10 rfl rfl)
abbrev cX1_changes : ByteArray := prog_1_method_42_code
def yX1_changes : MethodName := ⟨RX1, "changes", "(II)V"⟩
def dkwX1_changes_1 : List UInt8 := [180, 0, 188, 28, 46, 79, 42, 180, 0, 19, 180, 0, 188, 28, 29, 79, 177]
abbrev dktX1_changes_1 : List UInt8 := dkwX1_changes_1 ++ []
def dkwX1_changes_0 : List UInt8 := [42, 180, 0, 19, 180, 0, 188, 27, 46, 62, 42, 180, 0, 19, 180, 0, 188, 27, 42, 180, 0, 19]
abbrev dktX1_changes_0 : List UInt8 := dkwX1_changes_0 ++ dktX1_changes_1
theorem dksX1_changes_0 : cX1_changes.data.toList.drop 0 = dktX1_changes_0 := by decide +kernel
theorem dksX1_changes_1 : cX1_changes.data.toList.drop 22 = dktX1_changes_1 := dk_seg dksX1_changes_0 22 rfl rfl
theorem dX1_changes_0 : decode cX1_changes 0 = .ok (.aload_n 0, 1) := dk_42 (dk_at dksX1_changes_0 0 rfl rfl)
theorem dX1_changes_1 : decode cX1_changes 1 = .ok (.getfield 19, 3) := dk_180 0 19 (dk_at dksX1_changes_0 1 rfl rfl)
theorem dX1_changes_4 : decode cX1_changes 4 = .ok (.getfield 188, 3) := dk_180 0 188 (dk_at dksX1_changes_0 4 rfl rfl)
theorem dX1_changes_7 : decode cX1_changes 7 = .ok (.iload_n 1, 1) := dk_27 (dk_at dksX1_changes_0 7 rfl rfl)
theorem dX1_changes_8 : decode cX1_changes 8 = .ok (.iaload, 1) := dk_46 (dk_at dksX1_changes_0 8 rfl rfl)
theorem dX1_changes_9 : decode cX1_changes 9 = .ok (.istore_n 3, 1) := dk_62 (dk_at dksX1_changes_0 9 rfl rfl)
theorem dX1_changes_10 : decode cX1_changes 10 = .ok (.aload_n 0, 1) := dk_42 (dk_at dksX1_changes_0 10 rfl rfl)
theorem dX1_changes_11 : decode cX1_changes 11 = .ok (.getfield 19, 3) := dk_180 0 19 (dk_at dksX1_changes_0 11 rfl rfl)
theorem dX1_changes_14 : decode cX1_changes 14 = .ok (.getfield 188, 3) := dk_180 0 188 (dk_at dksX1_changes_0 14 rfl rfl)
theorem dX1_changes_17 : decode cX1_changes 17 = .ok (.iload_n 1, 1) := dk_27 (dk_at dksX1_changes_0 17 rfl rfl)
theorem dX1_changes_18 : decode cX1_changes 18 = .ok (.aload_n 0, 1) := dk_42 (dk_at dksX1_changes_0 18 rfl rfl)
theorem dX1_changes_19 : decode cX1_changes 19 = .ok (.getfield 19, 3) := dk_180 0 19 (dk_at dksX1_changes_0 19 rfl rfl)
theorem dX1_changes_22 : decode cX1_changes 22 = .ok (.getfield 188, 3) := dk_180 0 188 (dk_at dksX1_changes_1 0 rfl rfl)
theorem dX1_changes_25 : decode cX1_changes 25 = .ok (.iload_n 2, 1) := dk_28 (dk_at dksX1_changes_1 3 rfl rfl)
theorem dX1_changes_26 : decode cX1_changes 26 = .ok (.iaload, 1) := dk_46 (dk_at dksX1_changes_1 4 rfl rfl)
theorem dX1_changes_27 : decode cX1_changes 27 = .ok (.iastore, 1) := dk_79 (dk_at dksX1_changes_1 5 rfl rfl)
theorem dX1_changes_28 : decode cX1_changes 28 = .ok (.aload_n 0, 1) := dk_42 (dk_at dksX1_changes_1 6 rfl rfl)
theorem dX1_changes_29 : decode cX1_changes 29 = .ok (.getfield 19, 3) := dk_180 0 19 (dk_at dksX1_changes_1 7 rfl rfl)
theorem dX1_changes_32 : decode cX1_changes 32 = .ok (.getfield 188, 3) := dk_180 0 188 (dk_at dksX1_changes_1 10 rfl rfl)
theorem dX1_changes_35 : decode cX1_changes 35 = .ok (.iload_n 2, 1) := dk_28 (dk_at dksX1_changes_1 13 rfl rfl)
theorem dX1_changes_36 : decode cX1_changes 36 = .ok (.iload_n 3, 1) := dk_29 (dk_at dksX1_changes_1 14 rfl rfl)
theorem dX1_changes_37 : decode cX1_changes 37 = .ok (.iastore, 1) := dk_79 (dk_at dksX1_changes_1 15 rfl rfl)
theorem dX1_changes_38 : decode cX1_changes 38 = .ok (.return_, 1) := dk_177 (dk_at dksX1_changes_1 16 rfl rfl)
abbrev cX1_next : ByteArray := prog_1_method_44_code
def yX1_next : MethodName := ⟨RX1, "next", "()I"⟩
def dkwX1_next_5 : List UInt8 := [132, 3, 1, 167, 255, 145, 28, 172]
abbrev dktX1_next_5 : List UInt8 := dkwX1_next_5 ++ []
def dkwX1_next_4 : List UInt8 := [163, 0, 6, 167, 0, 14, 21, 5, 60, 16, 10, 29, 104, 21, 4, 96, 61, 132, 4, 1, 167, 255, 165]
abbrev dktX1_next_4 : List UInt8 := dkwX1_next_4 ++ dktX1_next_5
def dkwX1_next_3 : List UInt8 := [21, 4, 29, 79, 42, 182, 1, 43, 54, 5, 42, 180, 0, 19, 180, 0, 188, 21, 4, 2, 79, 21, 5, 27]
abbrev dktX1_next_3 : List UInt8 := dkwX1_next_3 ++ dktX1_next_4
def dkwX1_next_2 : List UInt8 := [180, 0, 19, 180, 0, 188, 21, 4, 46, 2, 159, 0, 6, 167, 0, 51, 42, 180, 0, 19, 180, 0, 188]
abbrev dktX1_next_2 : List UInt8 := dkwX1_next_2 ++ dktX1_next_3
def dkwX1_next_1 : List UInt8 := [16, 10, 162, 0, 90, 42, 180, 0, 19, 180, 0, 96, 29, 50, 180, 0, 182, 2, 160, 0, 68, 42]
abbrev dktX1_next_1 : List UInt8 := dkwX1_next_1 ++ dktX1_next_2
def dkwX1_next_0 : List UInt8 := [19, 1, 49, 60, 2, 61, 3, 62, 29, 42, 180, 0, 19, 180, 0, 85, 162, 0, 106, 3, 54, 4, 21, 4]
abbrev dktX1_next_0 : List UInt8 := dkwX1_next_0 ++ dktX1_next_1
theorem dksX1_next_0 : cX1_next.data.toList.drop 0 = dktX1_next_0 := by decide +kernel
theorem dksX1_next_1 : cX1_next.data.toList.drop 24 = dktX1_next_1 := dk_seg dksX1_next_0 24 rfl rfl
theorem dksX1_next_2 : cX1_next.data.toList.drop 46 = dktX1_next_2 := dk_seg dksX1_next_1 22 rfl rfl
theorem dksX1_next_3 : cX1_next.data.toList.drop 69 = dktX1_next_3 := dk_seg dksX1_next_2 23 rfl rfl
theorem dksX1_next_4 : cX1_next.data.toList.drop 93 = dktX1_next_4 := dk_seg dksX1_next_3 24 rfl rfl
theorem dksX1_next_5 : cX1_next.data.toList.drop 116 = dktX1_next_5 := dk_seg dksX1_next_4 23 rfl rfl
theorem dX1_next_0 : decode cX1_next 0 = .ok (.ldc_w 305, 3) := dk_19 1 49 (dk_at dksX1_next_0 0 rfl rfl)
theorem dX1_next_3 : decode cX1_next 3 = .ok (.istore_n 1, 1) := dk_60 (dk_at dksX1_next_0 3 rfl rfl)
theorem dX1_next_4 : decode cX1_next 4 = .ok (.iconst (-1), 1) := dk_2 (dk_at dksX1_next_0 4 rfl rfl)
theorem dX1_next_5 : decode cX1_next 5 = .ok (.istore_n 2, 1) := dk_61 (dk_at dksX1_next_0 5 rfl rfl)
theorem dX1_next_6 : decode cX1_next 6 = .ok (.iconst 0, 1) := dk_3 (dk_at dksX1_next_0 6 rfl rfl)
theorem dX1_next_7 : decode cX1_next 7 = .ok (.istore_n 3, 1) := dk_62 (dk_at dksX1_next_0 7 rfl rfl)
theorem dX1_next_8 : decode cX1_next 8 = .ok (.iload_n 3, 1) := dk_29 (dk_at dksX1_next_0 8 rfl rfl)
theorem dX1_next_9 : decode cX1_next 9 = .ok (.aload_n 0, 1) := dk_42 (dk_at dksX1_next_0 9 rfl rfl)
theorem dX1_next_10 : decode cX1_next 10 = .ok (.getfield 19, 3) := dk_180 0 19 (dk_at dksX1_next_0 10 rfl rfl)
theorem dX1_next_13 : decode cX1_next 13 = .ok (.getfield 85, 3) := dk_180 0 85 (dk_at dksX1_next_0 13 rfl rfl)
theorem dX1_next_16 : decode cX1_next 16 = .ok (.if_icmp .ge 106, 3) := dk_162 0 106 (dk_at dksX1_next_0 16 rfl rfl)
theorem dX1_next_19 : decode cX1_next 19 = .ok (.iconst 0, 1) := dk_3 (dk_at dksX1_next_0 19 rfl rfl)
theorem dX1_next_20 : decode cX1_next 20 = .ok (.istore 4, 2) := dk_54 4 (dk_at dksX1_next_0 20 rfl rfl)
theorem dX1_next_22 : decode cX1_next 22 = .ok (.iload 4, 2) := dk_21 4 (dk_at dksX1_next_0 22 rfl rfl)
theorem dX1_next_24 : decode cX1_next 24 = .ok (.bipush 10, 2) := dk_16 10 (dk_at dksX1_next_1 0 rfl rfl)
theorem dX1_next_26 : decode cX1_next 26 = .ok (.if_icmp .ge 90, 3) := dk_162 0 90 (dk_at dksX1_next_1 2 rfl rfl)
theorem dX1_next_29 : decode cX1_next 29 = .ok (.aload_n 0, 1) := dk_42 (dk_at dksX1_next_1 5 rfl rfl)
theorem dX1_next_30 : decode cX1_next 30 = .ok (.getfield 19, 3) := dk_180 0 19 (dk_at dksX1_next_1 6 rfl rfl)
theorem dX1_next_33 : decode cX1_next 33 = .ok (.getfield 96, 3) := dk_180 0 96 (dk_at dksX1_next_1 9 rfl rfl)
theorem dX1_next_36 : decode cX1_next 36 = .ok (.iload_n 3, 1) := dk_29 (dk_at dksX1_next_1 12 rfl rfl)
theorem dX1_next_37 : decode cX1_next 37 = .ok (.aaload, 1) := dk_50 (dk_at dksX1_next_1 13 rfl rfl)
theorem dX1_next_38 : decode cX1_next 38 = .ok (.getfield 182, 3) := dk_180 0 182 (dk_at dksX1_next_1 14 rfl rfl)
theorem dX1_next_41 : decode cX1_next 41 = .ok (.iconst (-1), 1) := dk_2 (dk_at dksX1_next_1 17 rfl rfl)
theorem dX1_next_42 : decode cX1_next 42 = .ok (.if_icmp .ne 68, 3) := dk_160 0 68 (dk_at dksX1_next_1 18 rfl rfl)
theorem dX1_next_45 : decode cX1_next 45 = .ok (.aload_n 0, 1) := dk_42 (dk_at dksX1_next_1 21 rfl rfl)
theorem dX1_next_46 : decode cX1_next 46 = .ok (.getfield 19, 3) := dk_180 0 19 (dk_at dksX1_next_2 0 rfl rfl)
theorem dX1_next_49 : decode cX1_next 49 = .ok (.getfield 188, 3) := dk_180 0 188 (dk_at dksX1_next_2 3 rfl rfl)
theorem dX1_next_52 : decode cX1_next 52 = .ok (.iload 4, 2) := dk_21 4 (dk_at dksX1_next_2 6 rfl rfl)
theorem dX1_next_54 : decode cX1_next 54 = .ok (.iaload, 1) := dk_46 (dk_at dksX1_next_2 8 rfl rfl)
theorem dX1_next_55 : decode cX1_next 55 = .ok (.iconst (-1), 1) := dk_2 (dk_at dksX1_next_2 9 rfl rfl)
theorem dX1_next_56 : decode cX1_next 56 = .ok (.if_icmp .eq 6, 3) := dk_159 0 6 (dk_at dksX1_next_2 10 rfl rfl)
theorem dX1_next_59 : decode cX1_next 59 = .ok (.goto 51, 3) := dk_167 0 51 (dk_at dksX1_next_2 13 rfl rfl)
theorem dX1_next_62 : decode cX1_next 62 = .ok (.aload_n 0, 1) := dk_42 (dk_at dksX1_next_2 16 rfl rfl)
theorem dX1_next_63 : decode cX1_next 63 = .ok (.getfield 19, 3) := dk_180 0 19 (dk_at dksX1_next_2 17 rfl rfl)
theorem dX1_next_66 : decode cX1_next 66 = .ok (.getfield 188, 3) := dk_180 0 188 (dk_at dksX1_next_2 20 rfl rfl)
theorem dX1_next_69 : decode cX1_next 69 = .ok (.iload 4, 2) := dk_21 4 (dk_at dksX1_next_3 0 rfl rfl)
theorem dX1_next_71 : decode cX1_next 71 = .ok (.iload_n 3, 1) := dk_29 (dk_at dksX1_next_3 2 rfl rfl)
theorem dX1_next_72 : decode cX1_next 72 = .ok (.iastore, 1) := dk_79 (dk_at dksX1_next_3 3 rfl rfl)
theorem dX1_next_73 : decode cX1_next 73 = .ok (.aload_n 0, 1) := dk_42 (dk_at dksX1_next_3 4 rfl rfl)
theorem dX1_next_74 : decode cX1_next 74 = .ok (.invokevirtual 299, 3) := dk_182 1 43 (dk_at dksX1_next_3 5 rfl rfl)
theorem dX1_next_77 : decode cX1_next 77 = .ok (.istore 5, 2) := dk_54 5 (dk_at dksX1_next_3 8 rfl rfl)
theorem dX1_next_79 : decode cX1_next 79 = .ok (.aload_n 0, 1) := dk_42 (dk_at dksX1_next_3 10 rfl rfl)
theorem dX1_next_80 : decode cX1_next 80 = .ok (.getfield 19, 3) := dk_180 0 19 (dk_at dksX1_next_3 11 rfl rfl)
theorem dX1_next_83 : decode cX1_next 83 = .ok (.getfield 188, 3) := dk_180 0 188 (dk_at dksX1_next_3 14 rfl rfl)
theorem dX1_next_86 : decode cX1_next 86 = .ok (.iload 4, 2) := dk_21 4 (dk_at dksX1_next_3 17 rfl rfl)
theorem dX1_next_88 : decode cX1_next 88 = .ok (.iconst (-1), 1) := dk_2 (dk_at dksX1_next_3 19 rfl rfl)
theorem dX1_next_89 : decode cX1_next 89 = .ok (.iastore, 1) := dk_79 (dk_at dksX1_next_3 20 rfl rfl)
theorem dX1_next_90 : decode cX1_next 90 = .ok (.iload 5, 2) := dk_21 5 (dk_at dksX1_next_3 21 rfl rfl)
theorem dX1_next_92 : decode cX1_next 92 = .ok (.iload_n 1, 1) := dk_27 (dk_at dksX1_next_3 23 rfl rfl)
theorem dX1_next_93 : decode cX1_next 93 = .ok (.if_icmp .gt 6, 3) := dk_163 0 6 (dk_at dksX1_next_4 0 rfl rfl)
theorem dX1_next_96 : decode cX1_next 96 = .ok (.goto 14, 3) := dk_167 0 14 (dk_at dksX1_next_4 3 rfl rfl)
theorem dX1_next_99 : decode cX1_next 99 = .ok (.iload 5, 2) := dk_21 5 (dk_at dksX1_next_4 6 rfl rfl)
theorem dX1_next_101 : decode cX1_next 101 = .ok (.istore_n 1, 1) := dk_60 (dk_at dksX1_next_4 8 rfl rfl)
theorem dX1_next_102 : decode cX1_next 102 = .ok (.bipush 10, 2) := dk_16 10 (dk_at dksX1_next_4 9 rfl rfl)
theorem dX1_next_104 : decode cX1_next 104 = .ok (.iload_n 3, 1) := dk_29 (dk_at dksX1_next_4 11 rfl rfl)
theorem dX1_next_105 : decode cX1_next 105 = .ok (.imul, 1) := dk_104 (dk_at dksX1_next_4 12 rfl rfl)
theorem dX1_next_106 : decode cX1_next 106 = .ok (.iload 4, 2) := dk_21 4 (dk_at dksX1_next_4 13 rfl rfl)
theorem dX1_next_108 : decode cX1_next 108 = .ok (.iadd, 1) := dk_96 (dk_at dksX1_next_4 15 rfl rfl)
theorem dX1_next_109 : decode cX1_next 109 = .ok (.istore_n 2, 1) := dk_61 (dk_at dksX1_next_4 16 rfl rfl)
theorem dX1_next_110 : decode cX1_next 110 = .ok (.iinc 4 1, 3) := dk_132 4 1 (dk_at dksX1_next_4 17 rfl rfl)
theorem dX1_next_113 : decode cX1_next 113 = .ok (.goto (-91), 3) := dk_167 255 165 (dk_at dksX1_next_4 20 rfl rfl)
theorem dX1_next_116 : decode cX1_next 116 = .ok (.iinc 3 1, 3) := dk_132 3 1 (dk_at dksX1_next_5 0 rfl rfl)
theorem dX1_next_119 : decode cX1_next 119 = .ok (.goto (-111), 3) := dk_167 255 145 (dk_at dksX1_next_5 3 rfl rfl)
theorem dX1_next_122 : decode cX1_next 122 = .ok (.iload_n 2, 1) := dk_28 (dk_at dksX1_next_5 6 rfl rfl)
theorem dX1_next_123 : decode cX1_next 123 = .ok (.ireturn, 1) := dk_172 (dk_at dksX1_next_5 7 rfl rfl)
abbrev cX1_cover : ByteArray := prog_1_method_52_code
def yX1_cover : MethodName := ⟨RX1, "cover", "()I"⟩
def dkwX1_cover_5 : List UInt8 := [132, 3, 1, 167, 255, 210, 28, 172]
abbrev dktX1_cover_5 : List UInt8 := dkwX1_cover_5 ++ []
def dkwX1_cover_4 : List UInt8 := [184, 1, 13, 28, 184, 1, 13, 162, 0, 17, 27, 42, 29, 182, 1, 60, 2, 130, 126, 154, 0, 5, 29, 61]
abbrev dktX1_cover_4 : List UInt8 := dkwX1_cover_4 ++ dktX1_cover_5
def dkwX1_cover_3 : List UInt8 := [60, 2, 61, 3, 62, 29, 4, 42, 180, 0, 19, 180, 0, 85, 120, 162, 0, 39, 28, 2, 159, 0, 14, 29]
abbrev dktX1_cover_3 : List UInt8 := dkwX1_cover_3 ++ dktX1_cover_4
def dkwX1_cover_2 : List UInt8 := [60, 132, 2, 1, 167, 255, 208, 27, 42, 4, 42, 180, 0, 19, 180, 0, 85, 120, 4, 100, 182, 1, 60, 126]
abbrev dktX1_cover_2 : List UInt8 := dkwX1_cover_2 ++ dktX1_cover_3
def dkwX1_cover_1 : List UInt8 := [50, 180, 0, 204, 154, 0, 18, 42, 180, 0, 19, 180, 0, 103, 28, 50, 180, 0, 195, 167, 0, 4, 3, 128]
abbrev dktX1_cover_1 : List UInt8 := dkwX1_cover_1 ++ dktX1_cover_2
def dkwX1_cover_0 : List UInt8 := [3, 60, 3, 61, 28, 42, 180, 0, 19, 180, 0, 100, 162, 0, 43, 27, 42, 180, 0, 19, 180, 0, 103, 28]
abbrev dktX1_cover_0 : List UInt8 := dkwX1_cover_0 ++ dktX1_cover_1
theorem dksX1_cover_0 : cX1_cover.data.toList.drop 0 = dktX1_cover_0 := by decide +kernel
theorem dksX1_cover_1 : cX1_cover.data.toList.drop 24 = dktX1_cover_1 := dk_seg dksX1_cover_0 24 rfl rfl
theorem dksX1_cover_2 : cX1_cover.data.toList.drop 48 = dktX1_cover_2 := dk_seg dksX1_cover_1 24 rfl rfl
theorem dksX1_cover_3 : cX1_cover.data.toList.drop 72 = dktX1_cover_3 := dk_seg dksX1_cover_2 24 rfl rfl
theorem dksX1_cover_4 : cX1_cover.data.toList.drop 96 = dktX1_cover_4 := dk_seg dksX1_cover_3 24 rfl rfl
theorem dksX1_cover_5 : cX1_cover.data.toList.drop 120 = dktX1_cover_5 := dk_seg dksX1_cover_4 24 rfl rfl
theorem dX1_cover_0 : decode cX1_cover 0 = .ok (.iconst 0, 1) := dk_3 (dk_at dksX1_cover_0 0 rfl rfl)
theorem dX1_cover_1 : decode cX1_cover 1 = .ok (.istore_n 1, 1) := dk_60 (dk_at dksX1_cover_0 1 rfl rfl)
theorem dX1_cover_2 : decode cX1_cover 2 = .ok (.iconst 0, 1) := dk_3 (dk_at dksX1_cover_0 2 rfl rfl)
theorem dX1_cover_3 : decode cX1_cover 3 = .ok (.istore_n 2, 1) := dk_61 (dk_at dksX1_cover_0 3 rfl rfl)
theorem dX1_cover_4 : decode cX1_cover 4 = .ok (.iload_n 2, 1) := dk_28 (dk_at dksX1_cover_0 4 rfl rfl)
theorem dX1_cover_5 : decode cX1_cover 5 = .ok (.aload_n 0, 1) := dk_42 (dk_at dksX1_cover_0 5 rfl rfl)
theorem dX1_cover_6 : decode cX1_cover 6 = .ok (.getfield 19, 3) := dk_180 0 19 (dk_at dksX1_cover_0 6 rfl rfl)
theorem dX1_cover_9 : decode cX1_cover 9 = .ok (.getfield 100, 3) := dk_180 0 100 (dk_at dksX1_cover_0 9 rfl rfl)
theorem dX1_cover_12 : decode cX1_cover 12 = .ok (.if_icmp .ge 43, 3) := dk_162 0 43 (dk_at dksX1_cover_0 12 rfl rfl)
theorem dX1_cover_15 : decode cX1_cover 15 = .ok (.iload_n 1, 1) := dk_27 (dk_at dksX1_cover_0 15 rfl rfl)
theorem dX1_cover_16 : decode cX1_cover 16 = .ok (.aload_n 0, 1) := dk_42 (dk_at dksX1_cover_0 16 rfl rfl)
theorem dX1_cover_17 : decode cX1_cover 17 = .ok (.getfield 19, 3) := dk_180 0 19 (dk_at dksX1_cover_0 17 rfl rfl)
theorem dX1_cover_20 : decode cX1_cover 20 = .ok (.getfield 103, 3) := dk_180 0 103 (dk_at dksX1_cover_0 20 rfl rfl)
theorem dX1_cover_23 : decode cX1_cover 23 = .ok (.iload_n 2, 1) := dk_28 (dk_at dksX1_cover_0 23 rfl rfl)
theorem dX1_cover_24 : decode cX1_cover 24 = .ok (.aaload, 1) := dk_50 (dk_at dksX1_cover_1 0 rfl rfl)
theorem dX1_cover_25 : decode cX1_cover 25 = .ok (.getfield 204, 3) := dk_180 0 204 (dk_at dksX1_cover_1 1 rfl rfl)
theorem dX1_cover_28 : decode cX1_cover 28 = .ok (.ifCond .ne 18, 3) := dk_154 0 18 (dk_at dksX1_cover_1 4 rfl rfl)
theorem dX1_cover_31 : decode cX1_cover 31 = .ok (.aload_n 0, 1) := dk_42 (dk_at dksX1_cover_1 7 rfl rfl)
theorem dX1_cover_32 : decode cX1_cover 32 = .ok (.getfield 19, 3) := dk_180 0 19 (dk_at dksX1_cover_1 8 rfl rfl)
theorem dX1_cover_35 : decode cX1_cover 35 = .ok (.getfield 103, 3) := dk_180 0 103 (dk_at dksX1_cover_1 11 rfl rfl)
theorem dX1_cover_38 : decode cX1_cover 38 = .ok (.iload_n 2, 1) := dk_28 (dk_at dksX1_cover_1 14 rfl rfl)
theorem dX1_cover_39 : decode cX1_cover 39 = .ok (.aaload, 1) := dk_50 (dk_at dksX1_cover_1 15 rfl rfl)
theorem dX1_cover_40 : decode cX1_cover 40 = .ok (.getfield 195, 3) := dk_180 0 195 (dk_at dksX1_cover_1 16 rfl rfl)
theorem dX1_cover_43 : decode cX1_cover 43 = .ok (.goto 4, 3) := dk_167 0 4 (dk_at dksX1_cover_1 19 rfl rfl)
theorem dX1_cover_46 : decode cX1_cover 46 = .ok (.iconst 0, 1) := dk_3 (dk_at dksX1_cover_1 22 rfl rfl)
theorem dX1_cover_47 : decode cX1_cover 47 = .ok (.ior, 1) := dk_128 (dk_at dksX1_cover_1 23 rfl rfl)
theorem dX1_cover_48 : decode cX1_cover 48 = .ok (.istore_n 1, 1) := dk_60 (dk_at dksX1_cover_2 0 rfl rfl)
theorem dX1_cover_49 : decode cX1_cover 49 = .ok (.iinc 2 1, 3) := dk_132 2 1 (dk_at dksX1_cover_2 1 rfl rfl)
theorem dX1_cover_52 : decode cX1_cover 52 = .ok (.goto (-48), 3) := dk_167 255 208 (dk_at dksX1_cover_2 4 rfl rfl)
theorem dX1_cover_55 : decode cX1_cover 55 = .ok (.iload_n 1, 1) := dk_27 (dk_at dksX1_cover_2 7 rfl rfl)
theorem dX1_cover_56 : decode cX1_cover 56 = .ok (.aload_n 0, 1) := dk_42 (dk_at dksX1_cover_2 8 rfl rfl)
theorem dX1_cover_57 : decode cX1_cover 57 = .ok (.iconst 1, 1) := dk_4 (dk_at dksX1_cover_2 9 rfl rfl)
theorem dX1_cover_58 : decode cX1_cover 58 = .ok (.aload_n 0, 1) := dk_42 (dk_at dksX1_cover_2 10 rfl rfl)
theorem dX1_cover_59 : decode cX1_cover 59 = .ok (.getfield 19, 3) := dk_180 0 19 (dk_at dksX1_cover_2 11 rfl rfl)
theorem dX1_cover_62 : decode cX1_cover 62 = .ok (.getfield 85, 3) := dk_180 0 85 (dk_at dksX1_cover_2 14 rfl rfl)
theorem dX1_cover_65 : decode cX1_cover 65 = .ok (.ishl, 1) := dk_120 (dk_at dksX1_cover_2 17 rfl rfl)
theorem dX1_cover_66 : decode cX1_cover 66 = .ok (.iconst 1, 1) := dk_4 (dk_at dksX1_cover_2 18 rfl rfl)
theorem dX1_cover_67 : decode cX1_cover 67 = .ok (.isub, 1) := dk_100 (dk_at dksX1_cover_2 19 rfl rfl)
theorem dX1_cover_68 : decode cX1_cover 68 = .ok (.invokevirtual 316, 3) := dk_182 1 60 (dk_at dksX1_cover_2 20 rfl rfl)
theorem dX1_cover_71 : decode cX1_cover 71 = .ok (.iand, 1) := dk_126 (dk_at dksX1_cover_2 23 rfl rfl)
theorem dX1_cover_72 : decode cX1_cover 72 = .ok (.istore_n 1, 1) := dk_60 (dk_at dksX1_cover_3 0 rfl rfl)
theorem dX1_cover_73 : decode cX1_cover 73 = .ok (.iconst (-1), 1) := dk_2 (dk_at dksX1_cover_3 1 rfl rfl)
theorem dX1_cover_74 : decode cX1_cover 74 = .ok (.istore_n 2, 1) := dk_61 (dk_at dksX1_cover_3 2 rfl rfl)
theorem dX1_cover_75 : decode cX1_cover 75 = .ok (.iconst 0, 1) := dk_3 (dk_at dksX1_cover_3 3 rfl rfl)
theorem dX1_cover_76 : decode cX1_cover 76 = .ok (.istore_n 3, 1) := dk_62 (dk_at dksX1_cover_3 4 rfl rfl)
theorem dX1_cover_77 : decode cX1_cover 77 = .ok (.iload_n 3, 1) := dk_29 (dk_at dksX1_cover_3 5 rfl rfl)
theorem dX1_cover_78 : decode cX1_cover 78 = .ok (.iconst 1, 1) := dk_4 (dk_at dksX1_cover_3 6 rfl rfl)
theorem dX1_cover_79 : decode cX1_cover 79 = .ok (.aload_n 0, 1) := dk_42 (dk_at dksX1_cover_3 7 rfl rfl)
theorem dX1_cover_80 : decode cX1_cover 80 = .ok (.getfield 19, 3) := dk_180 0 19 (dk_at dksX1_cover_3 8 rfl rfl)
theorem dX1_cover_83 : decode cX1_cover 83 = .ok (.getfield 85, 3) := dk_180 0 85 (dk_at dksX1_cover_3 11 rfl rfl)
theorem dX1_cover_86 : decode cX1_cover 86 = .ok (.ishl, 1) := dk_120 (dk_at dksX1_cover_3 14 rfl rfl)
theorem dX1_cover_87 : decode cX1_cover 87 = .ok (.if_icmp .ge 39, 3) := dk_162 0 39 (dk_at dksX1_cover_3 15 rfl rfl)
theorem dX1_cover_90 : decode cX1_cover 90 = .ok (.iload_n 2, 1) := dk_28 (dk_at dksX1_cover_3 18 rfl rfl)
theorem dX1_cover_91 : decode cX1_cover 91 = .ok (.iconst (-1), 1) := dk_2 (dk_at dksX1_cover_3 19 rfl rfl)
theorem dX1_cover_92 : decode cX1_cover 92 = .ok (.if_icmp .eq 14, 3) := dk_159 0 14 (dk_at dksX1_cover_3 20 rfl rfl)
theorem dX1_cover_95 : decode cX1_cover 95 = .ok (.iload_n 3, 1) := dk_29 (dk_at dksX1_cover_3 23 rfl rfl)
theorem dX1_cover_96 : decode cX1_cover 96 = .ok (.invokestatic 269, 3) := dk_184 1 13 (dk_at dksX1_cover_4 0 rfl rfl)
theorem dX1_cover_99 : decode cX1_cover 99 = .ok (.iload_n 2, 1) := dk_28 (dk_at dksX1_cover_4 3 rfl rfl)
theorem dX1_cover_100 : decode cX1_cover 100 = .ok (.invokestatic 269, 3) := dk_184 1 13 (dk_at dksX1_cover_4 4 rfl rfl)
theorem dX1_cover_103 : decode cX1_cover 103 = .ok (.if_icmp .ge 17, 3) := dk_162 0 17 (dk_at dksX1_cover_4 7 rfl rfl)
theorem dX1_cover_106 : decode cX1_cover 106 = .ok (.iload_n 1, 1) := dk_27 (dk_at dksX1_cover_4 10 rfl rfl)
theorem dX1_cover_107 : decode cX1_cover 107 = .ok (.aload_n 0, 1) := dk_42 (dk_at dksX1_cover_4 11 rfl rfl)
theorem dX1_cover_108 : decode cX1_cover 108 = .ok (.iload_n 3, 1) := dk_29 (dk_at dksX1_cover_4 12 rfl rfl)
theorem dX1_cover_109 : decode cX1_cover 109 = .ok (.invokevirtual 316, 3) := dk_182 1 60 (dk_at dksX1_cover_4 13 rfl rfl)
theorem dX1_cover_112 : decode cX1_cover 112 = .ok (.iconst (-1), 1) := dk_2 (dk_at dksX1_cover_4 16 rfl rfl)
theorem dX1_cover_113 : decode cX1_cover 113 = .ok (.ixor, 1) := dk_130 (dk_at dksX1_cover_4 17 rfl rfl)
theorem dX1_cover_114 : decode cX1_cover 114 = .ok (.iand, 1) := dk_126 (dk_at dksX1_cover_4 18 rfl rfl)
theorem dX1_cover_115 : decode cX1_cover 115 = .ok (.ifCond .ne 5, 3) := dk_154 0 5 (dk_at dksX1_cover_4 19 rfl rfl)
theorem dX1_cover_118 : decode cX1_cover 118 = .ok (.iload_n 3, 1) := dk_29 (dk_at dksX1_cover_4 22 rfl rfl)
theorem dX1_cover_119 : decode cX1_cover 119 = .ok (.istore_n 2, 1) := dk_61 (dk_at dksX1_cover_4 23 rfl rfl)
theorem dX1_cover_120 : decode cX1_cover 120 = .ok (.iinc 3 1, 3) := dk_132 3 1 (dk_at dksX1_cover_5 0 rfl rfl)
theorem dX1_cover_123 : decode cX1_cover 123 = .ok (.goto (-46), 3) := dk_167 255 210 (dk_at dksX1_cover_5 3 rfl rfl)
theorem dX1_cover_126 : decode cX1_cover 126 = .ok (.iload_n 2, 1) := dk_28 (dk_at dksX1_cover_5 6 rfl rfl)
theorem dX1_cover_127 : decode cX1_cover 127 = .ok (.ireturn, 1) := dk_172 (dk_at dksX1_cover_5 7 rfl rfl)
abbrev cX1_shown : ByteArray := prog_1_method_51_code
def yX1_shown : MethodName := ⟨RX1, "shown", "(I)I"⟩
def dkwX1_shown_2 : List UInt8 := [132, 3, 1, 167, 255, 212, 28, 172]
abbrev dktX1_shown_2 : List UInt8 := dkwX1_shown_2 ++ []
def dkwX1_shown_1 : List UInt8 := [160, 0, 20, 4, 42, 180, 0, 19, 180, 0, 96, 29, 50, 180, 0, 171, 120, 167, 0, 4, 3, 128, 61]
abbrev dktX1_shown_1 : List UInt8 := dkwX1_shown_1 ++ dktX1_shown_2
def dkwX1_shown_0 : List UInt8 := [3, 61, 3, 62, 29, 42, 180, 0, 19, 180, 0, 85, 162, 0, 39, 28, 27, 29, 122, 4, 126, 4]
abbrev dktX1_shown_0 : List UInt8 := dkwX1_shown_0 ++ dktX1_shown_1
theorem dksX1_shown_0 : cX1_shown.data.toList.drop 0 = dktX1_shown_0 := by decide +kernel
theorem dksX1_shown_1 : cX1_shown.data.toList.drop 22 = dktX1_shown_1 := dk_seg dksX1_shown_0 22 rfl rfl
theorem dksX1_shown_2 : cX1_shown.data.toList.drop 45 = dktX1_shown_2 := dk_seg dksX1_shown_1 23 rfl rfl
theorem dX1_shown_0 : decode cX1_shown 0 = .ok (.iconst 0, 1) := dk_3 (dk_at dksX1_shown_0 0 rfl rfl)
theorem dX1_shown_1 : decode cX1_shown 1 = .ok (.istore_n 2, 1) := dk_61 (dk_at dksX1_shown_0 1 rfl rfl)
theorem dX1_shown_2 : decode cX1_shown 2 = .ok (.iconst 0, 1) := dk_3 (dk_at dksX1_shown_0 2 rfl rfl)
theorem dX1_shown_3 : decode cX1_shown 3 = .ok (.istore_n 3, 1) := dk_62 (dk_at dksX1_shown_0 3 rfl rfl)
theorem dX1_shown_4 : decode cX1_shown 4 = .ok (.iload_n 3, 1) := dk_29 (dk_at dksX1_shown_0 4 rfl rfl)
theorem dX1_shown_5 : decode cX1_shown 5 = .ok (.aload_n 0, 1) := dk_42 (dk_at dksX1_shown_0 5 rfl rfl)
theorem dX1_shown_6 : decode cX1_shown 6 = .ok (.getfield 19, 3) := dk_180 0 19 (dk_at dksX1_shown_0 6 rfl rfl)
theorem dX1_shown_9 : decode cX1_shown 9 = .ok (.getfield 85, 3) := dk_180 0 85 (dk_at dksX1_shown_0 9 rfl rfl)
theorem dX1_shown_12 : decode cX1_shown 12 = .ok (.if_icmp .ge 39, 3) := dk_162 0 39 (dk_at dksX1_shown_0 12 rfl rfl)
theorem dX1_shown_15 : decode cX1_shown 15 = .ok (.iload_n 2, 1) := dk_28 (dk_at dksX1_shown_0 15 rfl rfl)
theorem dX1_shown_16 : decode cX1_shown 16 = .ok (.iload_n 1, 1) := dk_27 (dk_at dksX1_shown_0 16 rfl rfl)
theorem dX1_shown_17 : decode cX1_shown 17 = .ok (.iload_n 3, 1) := dk_29 (dk_at dksX1_shown_0 17 rfl rfl)
theorem dX1_shown_18 : decode cX1_shown 18 = .ok (.ishr, 1) := dk_122 (dk_at dksX1_shown_0 18 rfl rfl)
theorem dX1_shown_19 : decode cX1_shown 19 = .ok (.iconst 1, 1) := dk_4 (dk_at dksX1_shown_0 19 rfl rfl)
theorem dX1_shown_20 : decode cX1_shown 20 = .ok (.iand, 1) := dk_126 (dk_at dksX1_shown_0 20 rfl rfl)
theorem dX1_shown_21 : decode cX1_shown 21 = .ok (.iconst 1, 1) := dk_4 (dk_at dksX1_shown_0 21 rfl rfl)
theorem dX1_shown_22 : decode cX1_shown 22 = .ok (.if_icmp .ne 20, 3) := dk_160 0 20 (dk_at dksX1_shown_1 0 rfl rfl)
theorem dX1_shown_25 : decode cX1_shown 25 = .ok (.iconst 1, 1) := dk_4 (dk_at dksX1_shown_1 3 rfl rfl)
theorem dX1_shown_26 : decode cX1_shown 26 = .ok (.aload_n 0, 1) := dk_42 (dk_at dksX1_shown_1 4 rfl rfl)
theorem dX1_shown_27 : decode cX1_shown 27 = .ok (.getfield 19, 3) := dk_180 0 19 (dk_at dksX1_shown_1 5 rfl rfl)
theorem dX1_shown_30 : decode cX1_shown 30 = .ok (.getfield 96, 3) := dk_180 0 96 (dk_at dksX1_shown_1 8 rfl rfl)
theorem dX1_shown_33 : decode cX1_shown 33 = .ok (.iload_n 3, 1) := dk_29 (dk_at dksX1_shown_1 11 rfl rfl)
theorem dX1_shown_34 : decode cX1_shown 34 = .ok (.aaload, 1) := dk_50 (dk_at dksX1_shown_1 12 rfl rfl)
theorem dX1_shown_35 : decode cX1_shown 35 = .ok (.getfield 171, 3) := dk_180 0 171 (dk_at dksX1_shown_1 13 rfl rfl)
theorem dX1_shown_38 : decode cX1_shown 38 = .ok (.ishl, 1) := dk_120 (dk_at dksX1_shown_1 16 rfl rfl)
theorem dX1_shown_39 : decode cX1_shown 39 = .ok (.goto 4, 3) := dk_167 0 4 (dk_at dksX1_shown_1 17 rfl rfl)
theorem dX1_shown_42 : decode cX1_shown 42 = .ok (.iconst 0, 1) := dk_3 (dk_at dksX1_shown_1 20 rfl rfl)
theorem dX1_shown_43 : decode cX1_shown 43 = .ok (.ior, 1) := dk_128 (dk_at dksX1_shown_1 21 rfl rfl)
theorem dX1_shown_44 : decode cX1_shown 44 = .ok (.istore_n 2, 1) := dk_61 (dk_at dksX1_shown_1 22 rfl rfl)
theorem dX1_shown_45 : decode cX1_shown 45 = .ok (.iinc 3 1, 3) := dk_132 3 1 (dk_at dksX1_shown_2 0 rfl rfl)
theorem dX1_shown_48 : decode cX1_shown 48 = .ok (.goto (-44), 3) := dk_167 255 212 (dk_at dksX1_shown_2 3 rfl rfl)
theorem dX1_shown_51 : decode cX1_shown 51 = .ok (.iload_n 2, 1) := dk_28 (dk_at dksX1_shown_2 6 rfl rfl)
theorem dX1_shown_52 : decode cX1_shown 52 = .ok (.ireturn, 1) := dk_172 (dk_at dksX1_shown_2 7 rfl rfl)
abbrev cX1_leave : ByteArray := prog_1_method_56_code
def yX1_leave : MethodName := ⟨RX1, "leave", "()I"⟩
def dkwX1_leave_6 : List UInt8 := [167, 255, 137, 28, 172]
abbrev dktX1_leave_6 : List UInt8 := dkwX1_leave_6 ++ []
def dkwX1_leave_5 : List UInt8 := [182, 1, 69, 126, 154, 0, 5, 29, 61, 42, 180, 0, 19, 42, 180, 0, 26, 182, 0, 141, 132, 3, 1]
abbrev dktX1_leave_5 : List UInt8 := dkwX1_leave_5 ++ dktX1_leave_6
def dkwX1_leave_4 : List UInt8 := [180, 0, 96, 21, 4, 50, 180, 0, 182, 182, 1, 7, 132, 4, 1, 167, 255, 211, 42, 182, 1, 66, 42]
abbrev dktX1_leave_4 : List UInt8 := dkwX1_leave_4 ++ dktX1_leave_5
def dkwX1_leave_3 : List UInt8 := [180, 0, 85, 162, 0, 39, 29, 21, 4, 122, 4, 126, 4, 160, 0, 23, 42, 180, 0, 19, 42, 180, 0, 19]
abbrev dktX1_leave_3 : List UInt8 := dkwX1_leave_3 ++ dktX1_leave_4
def dkwX1_leave_2 : List UInt8 := [184, 1, 13, 28, 184, 1, 13, 161, 0, 6, 167, 0, 79, 3, 54, 4, 21, 4, 42, 180, 0, 19]
abbrev dktX1_leave_2 : List UInt8 := dkwX1_leave_2 ++ dktX1_leave_3
def dkwX1_leave_1 : List UInt8 := [180, 0, 19, 180, 0, 85, 120, 162, 0, 112, 29, 27, 2, 130, 126, 154, 0, 98, 28, 2, 159, 0, 17, 29]
abbrev dktX1_leave_1 : List UInt8 := dkwX1_leave_1 ++ dktX1_leave_2
def dkwX1_leave_0 : List UInt8 := [42, 182, 1, 63, 60, 2, 61, 42, 180, 0, 26, 42, 180, 0, 19, 182, 0, 141, 3, 62, 29, 4, 42]
abbrev dktX1_leave_0 : List UInt8 := dkwX1_leave_0 ++ dktX1_leave_1
theorem dksX1_leave_0 : cX1_leave.data.toList.drop 0 = dktX1_leave_0 := by decide +kernel
theorem dksX1_leave_1 : cX1_leave.data.toList.drop 23 = dktX1_leave_1 := dk_seg dksX1_leave_0 23 rfl rfl
theorem dksX1_leave_2 : cX1_leave.data.toList.drop 47 = dktX1_leave_2 := dk_seg dksX1_leave_1 24 rfl rfl
theorem dksX1_leave_3 : cX1_leave.data.toList.drop 69 = dktX1_leave_3 := dk_seg dksX1_leave_2 22 rfl rfl
theorem dksX1_leave_4 : cX1_leave.data.toList.drop 93 = dktX1_leave_4 := dk_seg dksX1_leave_3 24 rfl rfl
theorem dksX1_leave_5 : cX1_leave.data.toList.drop 116 = dktX1_leave_5 := dk_seg dksX1_leave_4 23 rfl rfl
theorem dksX1_leave_6 : cX1_leave.data.toList.drop 139 = dktX1_leave_6 := dk_seg dksX1_leave_5 23 rfl rfl
theorem dX1_leave_0 : decode cX1_leave 0 = .ok (.aload_n 0, 1) := dk_42 (dk_at dksX1_leave_0 0 rfl rfl)
theorem dX1_leave_1 : decode cX1_leave 1 = .ok (.invokevirtual 319, 3) := dk_182 1 63 (dk_at dksX1_leave_0 1 rfl rfl)
theorem dX1_leave_4 : decode cX1_leave 4 = .ok (.istore_n 1, 1) := dk_60 (dk_at dksX1_leave_0 4 rfl rfl)
theorem dX1_leave_5 : decode cX1_leave 5 = .ok (.iconst (-1), 1) := dk_2 (dk_at dksX1_leave_0 5 rfl rfl)
theorem dX1_leave_6 : decode cX1_leave 6 = .ok (.istore_n 2, 1) := dk_61 (dk_at dksX1_leave_0 6 rfl rfl)
theorem dX1_leave_7 : decode cX1_leave 7 = .ok (.aload_n 0, 1) := dk_42 (dk_at dksX1_leave_0 7 rfl rfl)
theorem dX1_leave_8 : decode cX1_leave 8 = .ok (.getfield 26, 3) := dk_180 0 26 (dk_at dksX1_leave_0 8 rfl rfl)
theorem dX1_leave_11 : decode cX1_leave 11 = .ok (.aload_n 0, 1) := dk_42 (dk_at dksX1_leave_0 11 rfl rfl)
theorem dX1_leave_12 : decode cX1_leave 12 = .ok (.getfield 19, 3) := dk_180 0 19 (dk_at dksX1_leave_0 12 rfl rfl)
theorem dX1_leave_15 : decode cX1_leave 15 = .ok (.invokevirtual 141, 3) := dk_182 0 141 (dk_at dksX1_leave_0 15 rfl rfl)
theorem dX1_leave_18 : decode cX1_leave 18 = .ok (.iconst 0, 1) := dk_3 (dk_at dksX1_leave_0 18 rfl rfl)
theorem dX1_leave_19 : decode cX1_leave 19 = .ok (.istore_n 3, 1) := dk_62 (dk_at dksX1_leave_0 19 rfl rfl)
theorem dX1_leave_20 : decode cX1_leave 20 = .ok (.iload_n 3, 1) := dk_29 (dk_at dksX1_leave_0 20 rfl rfl)
theorem dX1_leave_21 : decode cX1_leave 21 = .ok (.iconst 1, 1) := dk_4 (dk_at dksX1_leave_0 21 rfl rfl)
theorem dX1_leave_22 : decode cX1_leave 22 = .ok (.aload_n 0, 1) := dk_42 (dk_at dksX1_leave_0 22 rfl rfl)
theorem dX1_leave_23 : decode cX1_leave 23 = .ok (.getfield 19, 3) := dk_180 0 19 (dk_at dksX1_leave_1 0 rfl rfl)
theorem dX1_leave_26 : decode cX1_leave 26 = .ok (.getfield 85, 3) := dk_180 0 85 (dk_at dksX1_leave_1 3 rfl rfl)
theorem dX1_leave_29 : decode cX1_leave 29 = .ok (.ishl, 1) := dk_120 (dk_at dksX1_leave_1 6 rfl rfl)
theorem dX1_leave_30 : decode cX1_leave 30 = .ok (.if_icmp .ge 112, 3) := dk_162 0 112 (dk_at dksX1_leave_1 7 rfl rfl)
theorem dX1_leave_33 : decode cX1_leave 33 = .ok (.iload_n 3, 1) := dk_29 (dk_at dksX1_leave_1 10 rfl rfl)
theorem dX1_leave_34 : decode cX1_leave 34 = .ok (.iload_n 1, 1) := dk_27 (dk_at dksX1_leave_1 11 rfl rfl)
theorem dX1_leave_35 : decode cX1_leave 35 = .ok (.iconst (-1), 1) := dk_2 (dk_at dksX1_leave_1 12 rfl rfl)
theorem dX1_leave_36 : decode cX1_leave 36 = .ok (.ixor, 1) := dk_130 (dk_at dksX1_leave_1 13 rfl rfl)
theorem dX1_leave_37 : decode cX1_leave 37 = .ok (.iand, 1) := dk_126 (dk_at dksX1_leave_1 14 rfl rfl)
theorem dX1_leave_38 : decode cX1_leave 38 = .ok (.ifCond .ne 98, 3) := dk_154 0 98 (dk_at dksX1_leave_1 15 rfl rfl)
theorem dX1_leave_41 : decode cX1_leave 41 = .ok (.iload_n 2, 1) := dk_28 (dk_at dksX1_leave_1 18 rfl rfl)
theorem dX1_leave_42 : decode cX1_leave 42 = .ok (.iconst (-1), 1) := dk_2 (dk_at dksX1_leave_1 19 rfl rfl)
theorem dX1_leave_43 : decode cX1_leave 43 = .ok (.if_icmp .eq 17, 3) := dk_159 0 17 (dk_at dksX1_leave_1 20 rfl rfl)
theorem dX1_leave_46 : decode cX1_leave 46 = .ok (.iload_n 3, 1) := dk_29 (dk_at dksX1_leave_1 23 rfl rfl)
theorem dX1_leave_47 : decode cX1_leave 47 = .ok (.invokestatic 269, 3) := dk_184 1 13 (dk_at dksX1_leave_2 0 rfl rfl)
theorem dX1_leave_50 : decode cX1_leave 50 = .ok (.iload_n 2, 1) := dk_28 (dk_at dksX1_leave_2 3 rfl rfl)
theorem dX1_leave_51 : decode cX1_leave 51 = .ok (.invokestatic 269, 3) := dk_184 1 13 (dk_at dksX1_leave_2 4 rfl rfl)
theorem dX1_leave_54 : decode cX1_leave 54 = .ok (.if_icmp .lt 6, 3) := dk_161 0 6 (dk_at dksX1_leave_2 7 rfl rfl)
theorem dX1_leave_57 : decode cX1_leave 57 = .ok (.goto 79, 3) := dk_167 0 79 (dk_at dksX1_leave_2 10 rfl rfl)
theorem dX1_leave_60 : decode cX1_leave 60 = .ok (.iconst 0, 1) := dk_3 (dk_at dksX1_leave_2 13 rfl rfl)
theorem dX1_leave_61 : decode cX1_leave 61 = .ok (.istore 4, 2) := dk_54 4 (dk_at dksX1_leave_2 14 rfl rfl)
theorem dX1_leave_63 : decode cX1_leave 63 = .ok (.iload 4, 2) := dk_21 4 (dk_at dksX1_leave_2 16 rfl rfl)
theorem dX1_leave_65 : decode cX1_leave 65 = .ok (.aload_n 0, 1) := dk_42 (dk_at dksX1_leave_2 18 rfl rfl)
theorem dX1_leave_66 : decode cX1_leave 66 = .ok (.getfield 19, 3) := dk_180 0 19 (dk_at dksX1_leave_2 19 rfl rfl)
theorem dX1_leave_69 : decode cX1_leave 69 = .ok (.getfield 85, 3) := dk_180 0 85 (dk_at dksX1_leave_3 0 rfl rfl)
theorem dX1_leave_72 : decode cX1_leave 72 = .ok (.if_icmp .ge 39, 3) := dk_162 0 39 (dk_at dksX1_leave_3 3 rfl rfl)
theorem dX1_leave_75 : decode cX1_leave 75 = .ok (.iload_n 3, 1) := dk_29 (dk_at dksX1_leave_3 6 rfl rfl)
theorem dX1_leave_76 : decode cX1_leave 76 = .ok (.iload 4, 2) := dk_21 4 (dk_at dksX1_leave_3 7 rfl rfl)
theorem dX1_leave_78 : decode cX1_leave 78 = .ok (.ishr, 1) := dk_122 (dk_at dksX1_leave_3 9 rfl rfl)
theorem dX1_leave_79 : decode cX1_leave 79 = .ok (.iconst 1, 1) := dk_4 (dk_at dksX1_leave_3 10 rfl rfl)
theorem dX1_leave_80 : decode cX1_leave 80 = .ok (.iand, 1) := dk_126 (dk_at dksX1_leave_3 11 rfl rfl)
theorem dX1_leave_81 : decode cX1_leave 81 = .ok (.iconst 1, 1) := dk_4 (dk_at dksX1_leave_3 12 rfl rfl)
theorem dX1_leave_82 : decode cX1_leave 82 = .ok (.if_icmp .ne 23, 3) := dk_160 0 23 (dk_at dksX1_leave_3 13 rfl rfl)
theorem dX1_leave_85 : decode cX1_leave 85 = .ok (.aload_n 0, 1) := dk_42 (dk_at dksX1_leave_3 16 rfl rfl)
theorem dX1_leave_86 : decode cX1_leave 86 = .ok (.getfield 19, 3) := dk_180 0 19 (dk_at dksX1_leave_3 17 rfl rfl)
theorem dX1_leave_89 : decode cX1_leave 89 = .ok (.aload_n 0, 1) := dk_42 (dk_at dksX1_leave_3 20 rfl rfl)
theorem dX1_leave_90 : decode cX1_leave 90 = .ok (.getfield 19, 3) := dk_180 0 19 (dk_at dksX1_leave_3 21 rfl rfl)
theorem dX1_leave_93 : decode cX1_leave 93 = .ok (.getfield 96, 3) := dk_180 0 96 (dk_at dksX1_leave_4 0 rfl rfl)
theorem dX1_leave_96 : decode cX1_leave 96 = .ok (.iload 4, 2) := dk_21 4 (dk_at dksX1_leave_4 3 rfl rfl)
theorem dX1_leave_98 : decode cX1_leave 98 = .ok (.aaload, 1) := dk_50 (dk_at dksX1_leave_4 5 rfl rfl)
theorem dX1_leave_99 : decode cX1_leave 99 = .ok (.getfield 182, 3) := dk_180 0 182 (dk_at dksX1_leave_4 6 rfl rfl)
theorem dX1_leave_102 : decode cX1_leave 102 = .ok (.invokevirtual 263, 3) := dk_182 1 7 (dk_at dksX1_leave_4 9 rfl rfl)
theorem dX1_leave_105 : decode cX1_leave 105 = .ok (.iinc 4 1, 3) := dk_132 4 1 (dk_at dksX1_leave_4 12 rfl rfl)
theorem dX1_leave_108 : decode cX1_leave 108 = .ok (.goto (-45), 3) := dk_167 255 211 (dk_at dksX1_leave_4 15 rfl rfl)
theorem dX1_leave_111 : decode cX1_leave 111 = .ok (.aload_n 0, 1) := dk_42 (dk_at dksX1_leave_4 18 rfl rfl)
theorem dX1_leave_112 : decode cX1_leave 112 = .ok (.invokevirtual 322, 3) := dk_182 1 66 (dk_at dksX1_leave_4 19 rfl rfl)
theorem dX1_leave_115 : decode cX1_leave 115 = .ok (.aload_n 0, 1) := dk_42 (dk_at dksX1_leave_4 22 rfl rfl)
theorem dX1_leave_116 : decode cX1_leave 116 = .ok (.invokevirtual 325, 3) := dk_182 1 69 (dk_at dksX1_leave_5 0 rfl rfl)
theorem dX1_leave_119 : decode cX1_leave 119 = .ok (.iand, 1) := dk_126 (dk_at dksX1_leave_5 3 rfl rfl)
theorem dX1_leave_120 : decode cX1_leave 120 = .ok (.ifCond .ne 5, 3) := dk_154 0 5 (dk_at dksX1_leave_5 4 rfl rfl)
theorem dX1_leave_123 : decode cX1_leave 123 = .ok (.iload_n 3, 1) := dk_29 (dk_at dksX1_leave_5 7 rfl rfl)
theorem dX1_leave_124 : decode cX1_leave 124 = .ok (.istore_n 2, 1) := dk_61 (dk_at dksX1_leave_5 8 rfl rfl)
theorem dX1_leave_125 : decode cX1_leave 125 = .ok (.aload_n 0, 1) := dk_42 (dk_at dksX1_leave_5 9 rfl rfl)
theorem dX1_leave_126 : decode cX1_leave 126 = .ok (.getfield 19, 3) := dk_180 0 19 (dk_at dksX1_leave_5 10 rfl rfl)
theorem dX1_leave_129 : decode cX1_leave 129 = .ok (.aload_n 0, 1) := dk_42 (dk_at dksX1_leave_5 13 rfl rfl)
theorem dX1_leave_130 : decode cX1_leave 130 = .ok (.getfield 26, 3) := dk_180 0 26 (dk_at dksX1_leave_5 14 rfl rfl)
theorem dX1_leave_133 : decode cX1_leave 133 = .ok (.invokevirtual 141, 3) := dk_182 0 141 (dk_at dksX1_leave_5 17 rfl rfl)
theorem dX1_leave_136 : decode cX1_leave 136 = .ok (.iinc 3 1, 3) := dk_132 3 1 (dk_at dksX1_leave_5 20 rfl rfl)
theorem dX1_leave_139 : decode cX1_leave 139 = .ok (.goto (-119), 3) := dk_167 255 137 (dk_at dksX1_leave_6 0 rfl rfl)
theorem dX1_leave_142 : decode cX1_leave 142 = .ok (.iload_n 2, 1) := dk_28 (dk_at dksX1_leave_6 3 rfl rfl)
theorem dX1_leave_143 : decode cX1_leave 143 = .ok (.ireturn, 1) := dk_172 (dk_at dksX1_leave_6 4 rfl rfl)
abbrev cX1_nailedOnes : ByteArray := prog_1_method_53_code
def yX1_nailedOnes : MethodName := ⟨RX1, "nailedOnes", "()I"⟩
def dkwX1_nailedOnes_2 : List UInt8 := [172]
abbrev dktX1_nailedOnes_2 : List UInt8 := dkwX1_nailedOnes_2 ++ []
def dkwX1_nailedOnes_1 : List UInt8 := [4, 42, 180, 0, 19, 180, 0, 188, 28, 46, 120, 167, 0, 4, 3, 128, 60, 132, 2, 1, 167, 255, 216, 27]
abbrev dktX1_nailedOnes_1 : List UInt8 := dkwX1_nailedOnes_1 ++ dktX1_nailedOnes_2
def dkwX1_nailedOnes_0 : List UInt8 := [3, 60, 3, 61, 28, 16, 10, 162, 0, 40, 27, 42, 180, 0, 19, 180, 0, 188, 28, 46, 2, 159, 0, 17]
abbrev dktX1_nailedOnes_0 : List UInt8 := dkwX1_nailedOnes_0 ++ dktX1_nailedOnes_1
theorem dksX1_nailedOnes_0 : cX1_nailedOnes.data.toList.drop 0 = dktX1_nailedOnes_0 := by decide +kernel
theorem dksX1_nailedOnes_1 : cX1_nailedOnes.data.toList.drop 24 = dktX1_nailedOnes_1 := dk_seg dksX1_nailedOnes_0 24 rfl rfl
theorem dksX1_nailedOnes_2 : cX1_nailedOnes.data.toList.drop 48 = dktX1_nailedOnes_2 := dk_seg dksX1_nailedOnes_1 24 rfl rfl
theorem dX1_nailedOnes_0 : decode cX1_nailedOnes 0 = .ok (.iconst 0, 1) := dk_3 (dk_at dksX1_nailedOnes_0 0 rfl rfl)
theorem dX1_nailedOnes_1 : decode cX1_nailedOnes 1 = .ok (.istore_n 1, 1) := dk_60 (dk_at dksX1_nailedOnes_0 1 rfl rfl)
theorem dX1_nailedOnes_2 : decode cX1_nailedOnes 2 = .ok (.iconst 0, 1) := dk_3 (dk_at dksX1_nailedOnes_0 2 rfl rfl)
theorem dX1_nailedOnes_3 : decode cX1_nailedOnes 3 = .ok (.istore_n 2, 1) := dk_61 (dk_at dksX1_nailedOnes_0 3 rfl rfl)
theorem dX1_nailedOnes_4 : decode cX1_nailedOnes 4 = .ok (.iload_n 2, 1) := dk_28 (dk_at dksX1_nailedOnes_0 4 rfl rfl)
theorem dX1_nailedOnes_5 : decode cX1_nailedOnes 5 = .ok (.bipush 10, 2) := dk_16 10 (dk_at dksX1_nailedOnes_0 5 rfl rfl)
theorem dX1_nailedOnes_7 : decode cX1_nailedOnes 7 = .ok (.if_icmp .ge 40, 3) := dk_162 0 40 (dk_at dksX1_nailedOnes_0 7 rfl rfl)
theorem dX1_nailedOnes_10 : decode cX1_nailedOnes 10 = .ok (.iload_n 1, 1) := dk_27 (dk_at dksX1_nailedOnes_0 10 rfl rfl)
theorem dX1_nailedOnes_11 : decode cX1_nailedOnes 11 = .ok (.aload_n 0, 1) := dk_42 (dk_at dksX1_nailedOnes_0 11 rfl rfl)
theorem dX1_nailedOnes_12 : decode cX1_nailedOnes 12 = .ok (.getfield 19, 3) := dk_180 0 19 (dk_at dksX1_nailedOnes_0 12 rfl rfl)
theorem dX1_nailedOnes_15 : decode cX1_nailedOnes 15 = .ok (.getfield 188, 3) := dk_180 0 188 (dk_at dksX1_nailedOnes_0 15 rfl rfl)
theorem dX1_nailedOnes_18 : decode cX1_nailedOnes 18 = .ok (.iload_n 2, 1) := dk_28 (dk_at dksX1_nailedOnes_0 18 rfl rfl)
theorem dX1_nailedOnes_19 : decode cX1_nailedOnes 19 = .ok (.iaload, 1) := dk_46 (dk_at dksX1_nailedOnes_0 19 rfl rfl)
theorem dX1_nailedOnes_20 : decode cX1_nailedOnes 20 = .ok (.iconst (-1), 1) := dk_2 (dk_at dksX1_nailedOnes_0 20 rfl rfl)
theorem dX1_nailedOnes_21 : decode cX1_nailedOnes 21 = .ok (.if_icmp .eq 17, 3) := dk_159 0 17 (dk_at dksX1_nailedOnes_0 21 rfl rfl)
theorem dX1_nailedOnes_24 : decode cX1_nailedOnes 24 = .ok (.iconst 1, 1) := dk_4 (dk_at dksX1_nailedOnes_1 0 rfl rfl)
theorem dX1_nailedOnes_25 : decode cX1_nailedOnes 25 = .ok (.aload_n 0, 1) := dk_42 (dk_at dksX1_nailedOnes_1 1 rfl rfl)
theorem dX1_nailedOnes_26 : decode cX1_nailedOnes 26 = .ok (.getfield 19, 3) := dk_180 0 19 (dk_at dksX1_nailedOnes_1 2 rfl rfl)
theorem dX1_nailedOnes_29 : decode cX1_nailedOnes 29 = .ok (.getfield 188, 3) := dk_180 0 188 (dk_at dksX1_nailedOnes_1 5 rfl rfl)
theorem dX1_nailedOnes_32 : decode cX1_nailedOnes 32 = .ok (.iload_n 2, 1) := dk_28 (dk_at dksX1_nailedOnes_1 8 rfl rfl)
theorem dX1_nailedOnes_33 : decode cX1_nailedOnes 33 = .ok (.iaload, 1) := dk_46 (dk_at dksX1_nailedOnes_1 9 rfl rfl)
theorem dX1_nailedOnes_34 : decode cX1_nailedOnes 34 = .ok (.ishl, 1) := dk_120 (dk_at dksX1_nailedOnes_1 10 rfl rfl)
theorem dX1_nailedOnes_35 : decode cX1_nailedOnes 35 = .ok (.goto 4, 3) := dk_167 0 4 (dk_at dksX1_nailedOnes_1 11 rfl rfl)
theorem dX1_nailedOnes_38 : decode cX1_nailedOnes 38 = .ok (.iconst 0, 1) := dk_3 (dk_at dksX1_nailedOnes_1 14 rfl rfl)
theorem dX1_nailedOnes_39 : decode cX1_nailedOnes 39 = .ok (.ior, 1) := dk_128 (dk_at dksX1_nailedOnes_1 15 rfl rfl)
theorem dX1_nailedOnes_40 : decode cX1_nailedOnes 40 = .ok (.istore_n 1, 1) := dk_60 (dk_at dksX1_nailedOnes_1 16 rfl rfl)
theorem dX1_nailedOnes_41 : decode cX1_nailedOnes 41 = .ok (.iinc 2 1, 3) := dk_132 2 1 (dk_at dksX1_nailedOnes_1 17 rfl rfl)
theorem dX1_nailedOnes_44 : decode cX1_nailedOnes 44 = .ok (.goto (-40), 3) := dk_167 255 216 (dk_at dksX1_nailedOnes_1 20 rfl rfl)
theorem dX1_nailedOnes_47 : decode cX1_nailedOnes 47 = .ok (.iload_n 1, 1) := dk_27 (dk_at dksX1_nailedOnes_1 23 rfl rfl)
theorem dX1_nailedOnes_48 : decode cX1_nailedOnes 48 = .ok (.ireturn, 1) := dk_172 (dk_at dksX1_nailedOnes_2 0 rfl rfl)
abbrev cX1_screamsNow : ByteArray := prog_1_method_54_code
def yX1_screamsNow : MethodName := ⟨RX1, "screamsNow", "()I"⟩
def dkwX1_screamsNow_3 : List UInt8 := [172]
abbrev dktX1_screamsNow_3 : List UInt8 := dkwX1_screamsNow_3 ++ []
def dkwX1_screamsNow_2 : List UInt8 := [42, 180, 0, 220, 2, 159, 0, 9, 4, 28, 120, 167, 0, 4, 3, 128, 60, 132, 2, 1, 167, 255, 192, 27]
abbrev dktX1_screamsNow_2 : List UInt8 := dkwX1_screamsNow_2 ++ dktX1_screamsNow_3
def dkwX1_screamsNow_1 : List UInt8 := [180, 0, 204, 153, 0, 6, 167, 0, 35, 42, 42, 180, 0, 19, 180, 0, 103, 28, 50, 3, 182, 0, 248, 27]
abbrev dktX1_screamsNow_1 : List UInt8 := dkwX1_screamsNow_1 ++ dktX1_screamsNow_2
def dkwX1_screamsNow_0 : List UInt8 := [3, 60, 3, 61, 28, 42, 180, 0, 19, 180, 0, 100, 162, 0, 59, 42, 180, 0, 19, 180, 0, 103, 28, 50]
abbrev dktX1_screamsNow_0 : List UInt8 := dkwX1_screamsNow_0 ++ dktX1_screamsNow_1
theorem dksX1_screamsNow_0 : cX1_screamsNow.data.toList.drop 0 = dktX1_screamsNow_0 := by decide +kernel
theorem dksX1_screamsNow_1 : cX1_screamsNow.data.toList.drop 24 = dktX1_screamsNow_1 := dk_seg dksX1_screamsNow_0 24 rfl rfl
theorem dksX1_screamsNow_2 : cX1_screamsNow.data.toList.drop 48 = dktX1_screamsNow_2 := dk_seg dksX1_screamsNow_1 24 rfl rfl
theorem dksX1_screamsNow_3 : cX1_screamsNow.data.toList.drop 72 = dktX1_screamsNow_3 := dk_seg dksX1_screamsNow_2 24 rfl rfl
theorem dX1_screamsNow_0 : decode cX1_screamsNow 0 = .ok (.iconst 0, 1) := dk_3 (dk_at dksX1_screamsNow_0 0 rfl rfl)
theorem dX1_screamsNow_1 : decode cX1_screamsNow 1 = .ok (.istore_n 1, 1) := dk_60 (dk_at dksX1_screamsNow_0 1 rfl rfl)
theorem dX1_screamsNow_2 : decode cX1_screamsNow 2 = .ok (.iconst 0, 1) := dk_3 (dk_at dksX1_screamsNow_0 2 rfl rfl)
theorem dX1_screamsNow_3 : decode cX1_screamsNow 3 = .ok (.istore_n 2, 1) := dk_61 (dk_at dksX1_screamsNow_0 3 rfl rfl)
theorem dX1_screamsNow_4 : decode cX1_screamsNow 4 = .ok (.iload_n 2, 1) := dk_28 (dk_at dksX1_screamsNow_0 4 rfl rfl)
theorem dX1_screamsNow_5 : decode cX1_screamsNow 5 = .ok (.aload_n 0, 1) := dk_42 (dk_at dksX1_screamsNow_0 5 rfl rfl)
theorem dX1_screamsNow_6 : decode cX1_screamsNow 6 = .ok (.getfield 19, 3) := dk_180 0 19 (dk_at dksX1_screamsNow_0 6 rfl rfl)
theorem dX1_screamsNow_9 : decode cX1_screamsNow 9 = .ok (.getfield 100, 3) := dk_180 0 100 (dk_at dksX1_screamsNow_0 9 rfl rfl)
theorem dX1_screamsNow_12 : decode cX1_screamsNow 12 = .ok (.if_icmp .ge 59, 3) := dk_162 0 59 (dk_at dksX1_screamsNow_0 12 rfl rfl)
theorem dX1_screamsNow_15 : decode cX1_screamsNow 15 = .ok (.aload_n 0, 1) := dk_42 (dk_at dksX1_screamsNow_0 15 rfl rfl)
theorem dX1_screamsNow_16 : decode cX1_screamsNow 16 = .ok (.getfield 19, 3) := dk_180 0 19 (dk_at dksX1_screamsNow_0 16 rfl rfl)
theorem dX1_screamsNow_19 : decode cX1_screamsNow 19 = .ok (.getfield 103, 3) := dk_180 0 103 (dk_at dksX1_screamsNow_0 19 rfl rfl)
theorem dX1_screamsNow_22 : decode cX1_screamsNow 22 = .ok (.iload_n 2, 1) := dk_28 (dk_at dksX1_screamsNow_0 22 rfl rfl)
theorem dX1_screamsNow_23 : decode cX1_screamsNow 23 = .ok (.aaload, 1) := dk_50 (dk_at dksX1_screamsNow_0 23 rfl rfl)
theorem dX1_screamsNow_24 : decode cX1_screamsNow 24 = .ok (.getfield 204, 3) := dk_180 0 204 (dk_at dksX1_screamsNow_1 0 rfl rfl)
theorem dX1_screamsNow_27 : decode cX1_screamsNow 27 = .ok (.ifCond .eq 6, 3) := dk_153 0 6 (dk_at dksX1_screamsNow_1 3 rfl rfl)
theorem dX1_screamsNow_30 : decode cX1_screamsNow 30 = .ok (.goto 35, 3) := dk_167 0 35 (dk_at dksX1_screamsNow_1 6 rfl rfl)
theorem dX1_screamsNow_33 : decode cX1_screamsNow 33 = .ok (.aload_n 0, 1) := dk_42 (dk_at dksX1_screamsNow_1 9 rfl rfl)
theorem dX1_screamsNow_34 : decode cX1_screamsNow 34 = .ok (.aload_n 0, 1) := dk_42 (dk_at dksX1_screamsNow_1 10 rfl rfl)
theorem dX1_screamsNow_35 : decode cX1_screamsNow 35 = .ok (.getfield 19, 3) := dk_180 0 19 (dk_at dksX1_screamsNow_1 11 rfl rfl)
theorem dX1_screamsNow_38 : decode cX1_screamsNow 38 = .ok (.getfield 103, 3) := dk_180 0 103 (dk_at dksX1_screamsNow_1 14 rfl rfl)
theorem dX1_screamsNow_41 : decode cX1_screamsNow 41 = .ok (.iload_n 2, 1) := dk_28 (dk_at dksX1_screamsNow_1 17 rfl rfl)
theorem dX1_screamsNow_42 : decode cX1_screamsNow 42 = .ok (.aaload, 1) := dk_50 (dk_at dksX1_screamsNow_1 18 rfl rfl)
theorem dX1_screamsNow_43 : decode cX1_screamsNow 43 = .ok (.iconst 0, 1) := dk_3 (dk_at dksX1_screamsNow_1 19 rfl rfl)
theorem dX1_screamsNow_44 : decode cX1_screamsNow 44 = .ok (.invokevirtual 248, 3) := dk_182 0 248 (dk_at dksX1_screamsNow_1 20 rfl rfl)
theorem dX1_screamsNow_47 : decode cX1_screamsNow 47 = .ok (.iload_n 1, 1) := dk_27 (dk_at dksX1_screamsNow_1 23 rfl rfl)
theorem dX1_screamsNow_48 : decode cX1_screamsNow 48 = .ok (.aload_n 0, 1) := dk_42 (dk_at dksX1_screamsNow_2 0 rfl rfl)
theorem dX1_screamsNow_49 : decode cX1_screamsNow 49 = .ok (.getfield 220, 3) := dk_180 0 220 (dk_at dksX1_screamsNow_2 1 rfl rfl)
theorem dX1_screamsNow_52 : decode cX1_screamsNow 52 = .ok (.iconst (-1), 1) := dk_2 (dk_at dksX1_screamsNow_2 4 rfl rfl)
theorem dX1_screamsNow_53 : decode cX1_screamsNow 53 = .ok (.if_icmp .eq 9, 3) := dk_159 0 9 (dk_at dksX1_screamsNow_2 5 rfl rfl)
theorem dX1_screamsNow_56 : decode cX1_screamsNow 56 = .ok (.iconst 1, 1) := dk_4 (dk_at dksX1_screamsNow_2 8 rfl rfl)
theorem dX1_screamsNow_57 : decode cX1_screamsNow 57 = .ok (.iload_n 2, 1) := dk_28 (dk_at dksX1_screamsNow_2 9 rfl rfl)
theorem dX1_screamsNow_58 : decode cX1_screamsNow 58 = .ok (.ishl, 1) := dk_120 (dk_at dksX1_screamsNow_2 10 rfl rfl)
theorem dX1_screamsNow_59 : decode cX1_screamsNow 59 = .ok (.goto 4, 3) := dk_167 0 4 (dk_at dksX1_screamsNow_2 11 rfl rfl)
theorem dX1_screamsNow_62 : decode cX1_screamsNow 62 = .ok (.iconst 0, 1) := dk_3 (dk_at dksX1_screamsNow_2 14 rfl rfl)
theorem dX1_screamsNow_63 : decode cX1_screamsNow 63 = .ok (.ior, 1) := dk_128 (dk_at dksX1_screamsNow_2 15 rfl rfl)
theorem dX1_screamsNow_64 : decode cX1_screamsNow 64 = .ok (.istore_n 1, 1) := dk_60 (dk_at dksX1_screamsNow_2 16 rfl rfl)
theorem dX1_screamsNow_65 : decode cX1_screamsNow 65 = .ok (.iinc 2 1, 3) := dk_132 2 1 (dk_at dksX1_screamsNow_2 17 rfl rfl)
theorem dX1_screamsNow_68 : decode cX1_screamsNow 68 = .ok (.goto (-64), 3) := dk_167 255 192 (dk_at dksX1_screamsNow_2 20 rfl rfl)
theorem dX1_screamsNow_71 : decode cX1_screamsNow 71 = .ok (.iload_n 1, 1) := dk_27 (dk_at dksX1_screamsNow_2 23 rfl rfl)
theorem dX1_screamsNow_72 : decode cX1_screamsNow 72 = .ok (.ireturn, 1) := dk_172 (dk_at dksX1_screamsNow_3 0 rfl rfl)
abbrev cX1_rides : ByteArray := prog_1_method_23_code
def yX1_rides : MethodName := ⟨RX1, "rides", "(LGhostAssize$One;Z)V"⟩
def dkwX1_rides_7 : List UInt8 := [167, 255, 111, 42, 29, 181, 0, 230, 177]
abbrev dktX1_rides_7 : List UInt8 := dkwX1_rides_7 ++ []
def dkwX1_rides_6 : List UInt8 := [21, 6, 182, 0, 226, 62, 29, 43, 180, 0, 198, 164, 0, 9, 42, 21, 4, 181, 0, 220, 132, 4, 1]
abbrev dktX1_rides_6 : List UInt8 := dkwX1_rides_6 ++ dktX1_rides_7
def dkwX1_rides_5 : List UInt8 := [21, 5, 42, 180, 0, 67, 160, 0, 10, 29, 21, 6, 96, 167, 0, 16, 42, 180, 0, 19, 43, 21, 4, 29]
abbrev dktX1_rides_5 : List UInt8 := dkwX1_rides_5 ++ dktX1_rides_6
def dkwX1_rides_4 : List UInt8 := [153, 0, 14, 42, 180, 0, 19, 6, 182, 0, 223, 167, 0, 4, 4, 54, 6, 21, 5, 2, 159, 0, 19]
abbrev dktX1_rides_4 : List UInt8 := dkwX1_rides_4 ++ dktX1_rides_5
def dkwX1_rides_3 : List UInt8 := [180, 0, 217, 4, 21, 5, 120, 128, 181, 0, 217, 21, 5, 2, 160, 0, 7, 3, 167, 0, 19, 28]
abbrev dktX1_rides_3 : List UInt8 := dkwX1_rides_3 ++ dktX1_rides_4
def dkwX1_rides_2 : List UInt8 := [159, 0, 34, 42, 180, 0, 53, 21, 5, 42, 180, 0, 19, 43, 21, 4, 29, 182, 0, 210, 79, 42, 89]
abbrev dktX1_rides_2 : List UInt8 := dkwX1_rides_2 ++ dktX1_rides_3
def dkwX1_rides_1 : List UInt8 := [180, 0, 220, 2, 160, 0, 136, 42, 180, 0, 19, 180, 0, 188, 21, 4, 46, 54, 5, 21, 5, 2]
abbrev dktX1_rides_1 : List UInt8 := dkwX1_rides_1 ++ dktX1_rides_2
def dkwX1_rides_0 : List UInt8 := [3, 62, 42, 3, 181, 0, 217, 42, 2, 181, 0, 220, 3, 54, 4, 21, 4, 16, 10, 162, 0, 144, 42]
abbrev dktX1_rides_0 : List UInt8 := dkwX1_rides_0 ++ dktX1_rides_1
theorem dksX1_rides_0 : cX1_rides.data.toList.drop 0 = dktX1_rides_0 := by decide +kernel
theorem dksX1_rides_1 : cX1_rides.data.toList.drop 23 = dktX1_rides_1 := dk_seg dksX1_rides_0 23 rfl rfl
theorem dksX1_rides_2 : cX1_rides.data.toList.drop 45 = dktX1_rides_2 := dk_seg dksX1_rides_1 22 rfl rfl
theorem dksX1_rides_3 : cX1_rides.data.toList.drop 68 = dktX1_rides_3 := dk_seg dksX1_rides_2 23 rfl rfl
theorem dksX1_rides_4 : cX1_rides.data.toList.drop 90 = dktX1_rides_4 := dk_seg dksX1_rides_3 22 rfl rfl
theorem dksX1_rides_5 : cX1_rides.data.toList.drop 113 = dktX1_rides_5 := dk_seg dksX1_rides_4 23 rfl rfl
theorem dksX1_rides_6 : cX1_rides.data.toList.drop 137 = dktX1_rides_6 := dk_seg dksX1_rides_5 24 rfl rfl
theorem dksX1_rides_7 : cX1_rides.data.toList.drop 160 = dktX1_rides_7 := dk_seg dksX1_rides_6 23 rfl rfl
theorem dX1_rides_0 : decode cX1_rides 0 = .ok (.iconst 0, 1) := dk_3 (dk_at dksX1_rides_0 0 rfl rfl)
theorem dX1_rides_1 : decode cX1_rides 1 = .ok (.istore_n 3, 1) := dk_62 (dk_at dksX1_rides_0 1 rfl rfl)
theorem dX1_rides_2 : decode cX1_rides 2 = .ok (.aload_n 0, 1) := dk_42 (dk_at dksX1_rides_0 2 rfl rfl)
theorem dX1_rides_3 : decode cX1_rides 3 = .ok (.iconst 0, 1) := dk_3 (dk_at dksX1_rides_0 3 rfl rfl)
theorem dX1_rides_4 : decode cX1_rides 4 = .ok (.putfield 217, 3) := dk_181 0 217 (dk_at dksX1_rides_0 4 rfl rfl)
theorem dX1_rides_7 : decode cX1_rides 7 = .ok (.aload_n 0, 1) := dk_42 (dk_at dksX1_rides_0 7 rfl rfl)
theorem dX1_rides_8 : decode cX1_rides 8 = .ok (.iconst (-1), 1) := dk_2 (dk_at dksX1_rides_0 8 rfl rfl)
theorem dX1_rides_9 : decode cX1_rides 9 = .ok (.putfield 220, 3) := dk_181 0 220 (dk_at dksX1_rides_0 9 rfl rfl)
theorem dX1_rides_12 : decode cX1_rides 12 = .ok (.iconst 0, 1) := dk_3 (dk_at dksX1_rides_0 12 rfl rfl)
theorem dX1_rides_13 : decode cX1_rides 13 = .ok (.istore 4, 2) := dk_54 4 (dk_at dksX1_rides_0 13 rfl rfl)
theorem dX1_rides_15 : decode cX1_rides 15 = .ok (.iload 4, 2) := dk_21 4 (dk_at dksX1_rides_0 15 rfl rfl)
theorem dX1_rides_17 : decode cX1_rides 17 = .ok (.bipush 10, 2) := dk_16 10 (dk_at dksX1_rides_0 17 rfl rfl)
theorem dX1_rides_19 : decode cX1_rides 19 = .ok (.if_icmp .ge 144, 3) := dk_162 0 144 (dk_at dksX1_rides_0 19 rfl rfl)
theorem dX1_rides_22 : decode cX1_rides 22 = .ok (.aload_n 0, 1) := dk_42 (dk_at dksX1_rides_0 22 rfl rfl)
theorem dX1_rides_23 : decode cX1_rides 23 = .ok (.getfield 220, 3) := dk_180 0 220 (dk_at dksX1_rides_1 0 rfl rfl)
theorem dX1_rides_26 : decode cX1_rides 26 = .ok (.iconst (-1), 1) := dk_2 (dk_at dksX1_rides_1 3 rfl rfl)
theorem dX1_rides_27 : decode cX1_rides 27 = .ok (.if_icmp .ne 136, 3) := dk_160 0 136 (dk_at dksX1_rides_1 4 rfl rfl)
theorem dX1_rides_30 : decode cX1_rides 30 = .ok (.aload_n 0, 1) := dk_42 (dk_at dksX1_rides_1 7 rfl rfl)
theorem dX1_rides_31 : decode cX1_rides 31 = .ok (.getfield 19, 3) := dk_180 0 19 (dk_at dksX1_rides_1 8 rfl rfl)
theorem dX1_rides_34 : decode cX1_rides 34 = .ok (.getfield 188, 3) := dk_180 0 188 (dk_at dksX1_rides_1 11 rfl rfl)
theorem dX1_rides_37 : decode cX1_rides 37 = .ok (.iload 4, 2) := dk_21 4 (dk_at dksX1_rides_1 14 rfl rfl)
theorem dX1_rides_39 : decode cX1_rides 39 = .ok (.iaload, 1) := dk_46 (dk_at dksX1_rides_1 16 rfl rfl)
theorem dX1_rides_40 : decode cX1_rides 40 = .ok (.istore 5, 2) := dk_54 5 (dk_at dksX1_rides_1 17 rfl rfl)
theorem dX1_rides_42 : decode cX1_rides 42 = .ok (.iload 5, 2) := dk_21 5 (dk_at dksX1_rides_1 19 rfl rfl)
theorem dX1_rides_44 : decode cX1_rides 44 = .ok (.iconst (-1), 1) := dk_2 (dk_at dksX1_rides_1 21 rfl rfl)
theorem dX1_rides_45 : decode cX1_rides 45 = .ok (.if_icmp .eq 34, 3) := dk_159 0 34 (dk_at dksX1_rides_2 0 rfl rfl)
theorem dX1_rides_48 : decode cX1_rides 48 = .ok (.aload_n 0, 1) := dk_42 (dk_at dksX1_rides_2 3 rfl rfl)
theorem dX1_rides_49 : decode cX1_rides 49 = .ok (.getfield 53, 3) := dk_180 0 53 (dk_at dksX1_rides_2 4 rfl rfl)
theorem dX1_rides_52 : decode cX1_rides 52 = .ok (.iload 5, 2) := dk_21 5 (dk_at dksX1_rides_2 7 rfl rfl)
theorem dX1_rides_54 : decode cX1_rides 54 = .ok (.aload_n 0, 1) := dk_42 (dk_at dksX1_rides_2 9 rfl rfl)
theorem dX1_rides_55 : decode cX1_rides 55 = .ok (.getfield 19, 3) := dk_180 0 19 (dk_at dksX1_rides_2 10 rfl rfl)
theorem dX1_rides_58 : decode cX1_rides 58 = .ok (.aload_n 1, 1) := dk_43 (dk_at dksX1_rides_2 13 rfl rfl)
theorem dX1_rides_59 : decode cX1_rides 59 = .ok (.iload 4, 2) := dk_21 4 (dk_at dksX1_rides_2 14 rfl rfl)
theorem dX1_rides_61 : decode cX1_rides 61 = .ok (.iload_n 3, 1) := dk_29 (dk_at dksX1_rides_2 16 rfl rfl)
theorem dX1_rides_62 : decode cX1_rides 62 = .ok (.invokevirtual 210, 3) := dk_182 0 210 (dk_at dksX1_rides_2 17 rfl rfl)
theorem dX1_rides_65 : decode cX1_rides 65 = .ok (.iastore, 1) := dk_79 (dk_at dksX1_rides_2 20 rfl rfl)
theorem dX1_rides_66 : decode cX1_rides 66 = .ok (.aload_n 0, 1) := dk_42 (dk_at dksX1_rides_2 21 rfl rfl)
theorem dX1_rides_67 : decode cX1_rides 67 = .ok (.dup, 1) := dk_89 (dk_at dksX1_rides_2 22 rfl rfl)
theorem dX1_rides_68 : decode cX1_rides 68 = .ok (.getfield 217, 3) := dk_180 0 217 (dk_at dksX1_rides_3 0 rfl rfl)
theorem dX1_rides_71 : decode cX1_rides 71 = .ok (.iconst 1, 1) := dk_4 (dk_at dksX1_rides_3 3 rfl rfl)
theorem dX1_rides_72 : decode cX1_rides 72 = .ok (.iload 5, 2) := dk_21 5 (dk_at dksX1_rides_3 4 rfl rfl)
theorem dX1_rides_74 : decode cX1_rides 74 = .ok (.ishl, 1) := dk_120 (dk_at dksX1_rides_3 6 rfl rfl)
theorem dX1_rides_75 : decode cX1_rides 75 = .ok (.ior, 1) := dk_128 (dk_at dksX1_rides_3 7 rfl rfl)
theorem dX1_rides_76 : decode cX1_rides 76 = .ok (.putfield 217, 3) := dk_181 0 217 (dk_at dksX1_rides_3 8 rfl rfl)
theorem dX1_rides_79 : decode cX1_rides 79 = .ok (.iload 5, 2) := dk_21 5 (dk_at dksX1_rides_3 11 rfl rfl)
theorem dX1_rides_81 : decode cX1_rides 81 = .ok (.iconst (-1), 1) := dk_2 (dk_at dksX1_rides_3 13 rfl rfl)
theorem dX1_rides_82 : decode cX1_rides 82 = .ok (.if_icmp .ne 7, 3) := dk_160 0 7 (dk_at dksX1_rides_3 14 rfl rfl)
theorem dX1_rides_85 : decode cX1_rides 85 = .ok (.iconst 0, 1) := dk_3 (dk_at dksX1_rides_3 17 rfl rfl)
theorem dX1_rides_86 : decode cX1_rides 86 = .ok (.goto 19, 3) := dk_167 0 19 (dk_at dksX1_rides_3 18 rfl rfl)
theorem dX1_rides_89 : decode cX1_rides 89 = .ok (.iload_n 2, 1) := dk_28 (dk_at dksX1_rides_3 21 rfl rfl)
theorem dX1_rides_90 : decode cX1_rides 90 = .ok (.ifCond .eq 14, 3) := dk_153 0 14 (dk_at dksX1_rides_4 0 rfl rfl)
theorem dX1_rides_93 : decode cX1_rides 93 = .ok (.aload_n 0, 1) := dk_42 (dk_at dksX1_rides_4 3 rfl rfl)
theorem dX1_rides_94 : decode cX1_rides 94 = .ok (.getfield 19, 3) := dk_180 0 19 (dk_at dksX1_rides_4 4 rfl rfl)
theorem dX1_rides_97 : decode cX1_rides 97 = .ok (.iconst 3, 1) := dk_6 (dk_at dksX1_rides_4 7 rfl rfl)
theorem dX1_rides_98 : decode cX1_rides 98 = .ok (.invokevirtual 223, 3) := dk_182 0 223 (dk_at dksX1_rides_4 8 rfl rfl)
theorem dX1_rides_101 : decode cX1_rides 101 = .ok (.goto 4, 3) := dk_167 0 4 (dk_at dksX1_rides_4 11 rfl rfl)
theorem dX1_rides_104 : decode cX1_rides 104 = .ok (.iconst 1, 1) := dk_4 (dk_at dksX1_rides_4 14 rfl rfl)
theorem dX1_rides_105 : decode cX1_rides 105 = .ok (.istore 6, 2) := dk_54 6 (dk_at dksX1_rides_4 15 rfl rfl)
theorem dX1_rides_107 : decode cX1_rides 107 = .ok (.iload 5, 2) := dk_21 5 (dk_at dksX1_rides_4 17 rfl rfl)
theorem dX1_rides_109 : decode cX1_rides 109 = .ok (.iconst (-1), 1) := dk_2 (dk_at dksX1_rides_4 19 rfl rfl)
theorem dX1_rides_110 : decode cX1_rides 110 = .ok (.if_icmp .eq 19, 3) := dk_159 0 19 (dk_at dksX1_rides_4 20 rfl rfl)
theorem dX1_rides_113 : decode cX1_rides 113 = .ok (.iload 5, 2) := dk_21 5 (dk_at dksX1_rides_5 0 rfl rfl)
theorem dX1_rides_115 : decode cX1_rides 115 = .ok (.aload_n 0, 1) := dk_42 (dk_at dksX1_rides_5 2 rfl rfl)
theorem dX1_rides_116 : decode cX1_rides 116 = .ok (.getfield 67, 3) := dk_180 0 67 (dk_at dksX1_rides_5 3 rfl rfl)
theorem dX1_rides_119 : decode cX1_rides 119 = .ok (.if_icmp .ne 10, 3) := dk_160 0 10 (dk_at dksX1_rides_5 6 rfl rfl)
theorem dX1_rides_122 : decode cX1_rides 122 = .ok (.iload_n 3, 1) := dk_29 (dk_at dksX1_rides_5 9 rfl rfl)
theorem dX1_rides_123 : decode cX1_rides 123 = .ok (.iload 6, 2) := dk_21 6 (dk_at dksX1_rides_5 10 rfl rfl)
theorem dX1_rides_125 : decode cX1_rides 125 = .ok (.iadd, 1) := dk_96 (dk_at dksX1_rides_5 12 rfl rfl)
theorem dX1_rides_126 : decode cX1_rides 126 = .ok (.goto 16, 3) := dk_167 0 16 (dk_at dksX1_rides_5 13 rfl rfl)
theorem dX1_rides_129 : decode cX1_rides 129 = .ok (.aload_n 0, 1) := dk_42 (dk_at dksX1_rides_5 16 rfl rfl)
theorem dX1_rides_130 : decode cX1_rides 130 = .ok (.getfield 19, 3) := dk_180 0 19 (dk_at dksX1_rides_5 17 rfl rfl)
theorem dX1_rides_133 : decode cX1_rides 133 = .ok (.aload_n 1, 1) := dk_43 (dk_at dksX1_rides_5 20 rfl rfl)
theorem dX1_rides_134 : decode cX1_rides 134 = .ok (.iload 4, 2) := dk_21 4 (dk_at dksX1_rides_5 21 rfl rfl)
theorem dX1_rides_136 : decode cX1_rides 136 = .ok (.iload_n 3, 1) := dk_29 (dk_at dksX1_rides_5 23 rfl rfl)
theorem dX1_rides_137 : decode cX1_rides 137 = .ok (.iload 6, 2) := dk_21 6 (dk_at dksX1_rides_6 0 rfl rfl)
theorem dX1_rides_139 : decode cX1_rides 139 = .ok (.invokevirtual 226, 3) := dk_182 0 226 (dk_at dksX1_rides_6 2 rfl rfl)
theorem dX1_rides_142 : decode cX1_rides 142 = .ok (.istore_n 3, 1) := dk_62 (dk_at dksX1_rides_6 5 rfl rfl)
theorem dX1_rides_143 : decode cX1_rides 143 = .ok (.iload_n 3, 1) := dk_29 (dk_at dksX1_rides_6 6 rfl rfl)
theorem dX1_rides_144 : decode cX1_rides 144 = .ok (.aload_n 1, 1) := dk_43 (dk_at dksX1_rides_6 7 rfl rfl)
theorem dX1_rides_145 : decode cX1_rides 145 = .ok (.getfield 198, 3) := dk_180 0 198 (dk_at dksX1_rides_6 8 rfl rfl)
theorem dX1_rides_148 : decode cX1_rides 148 = .ok (.if_icmp .le 9, 3) := dk_164 0 9 (dk_at dksX1_rides_6 11 rfl rfl)
theorem dX1_rides_151 : decode cX1_rides 151 = .ok (.aload_n 0, 1) := dk_42 (dk_at dksX1_rides_6 14 rfl rfl)
theorem dX1_rides_152 : decode cX1_rides 152 = .ok (.iload 4, 2) := dk_21 4 (dk_at dksX1_rides_6 15 rfl rfl)
theorem dX1_rides_154 : decode cX1_rides 154 = .ok (.putfield 220, 3) := dk_181 0 220 (dk_at dksX1_rides_6 17 rfl rfl)
theorem dX1_rides_157 : decode cX1_rides 157 = .ok (.iinc 4 1, 3) := dk_132 4 1 (dk_at dksX1_rides_6 20 rfl rfl)
theorem dX1_rides_160 : decode cX1_rides 160 = .ok (.goto (-145), 3) := dk_167 255 111 (dk_at dksX1_rides_7 0 rfl rfl)
theorem dX1_rides_163 : decode cX1_rides 163 = .ok (.aload_n 0, 1) := dk_42 (dk_at dksX1_rides_7 3 rfl rfl)
theorem dX1_rides_164 : decode cX1_rides 164 = .ok (.iload_n 3, 1) := dk_29 (dk_at dksX1_rides_7 4 rfl rfl)
theorem dX1_rides_165 : decode cX1_rides 165 = .ok (.putfield 230, 3) := dk_181 0 230 (dk_at dksX1_rides_7 5 rfl rfl)
theorem dX1_rides_168 : decode cX1_rides 168 = .ok (.return_, 1) := dk_177 (dk_at dksX1_rides_7 8 rfl rfl)
abbrev cX1_guiltyOnes : ByteArray := prog_1_method_55_code
def yX1_guiltyOnes : MethodName := ⟨RX1, "guiltyOnes", "()I"⟩
def dkwX1_guiltyOnes_1 : List UInt8 := [50, 180, 0, 195, 153, 0, 9, 4, 28, 120, 167, 0, 4, 3, 128, 60, 132, 2, 1, 167, 255, 217, 27, 172]
abbrev dktX1_guiltyOnes_1 : List UInt8 := dkwX1_guiltyOnes_1 ++ []
def dkwX1_guiltyOnes_0 : List UInt8 := [3, 60, 3, 61, 28, 42, 180, 0, 19, 180, 0, 100, 162, 0, 34, 27, 42, 180, 0, 19, 180, 0, 103, 28]
abbrev dktX1_guiltyOnes_0 : List UInt8 := dkwX1_guiltyOnes_0 ++ dktX1_guiltyOnes_1
theorem dksX1_guiltyOnes_0 : cX1_guiltyOnes.data.toList.drop 0 = dktX1_guiltyOnes_0 := by decide +kernel
theorem dksX1_guiltyOnes_1 : cX1_guiltyOnes.data.toList.drop 24 = dktX1_guiltyOnes_1 := dk_seg dksX1_guiltyOnes_0 24 rfl rfl
theorem dX1_guiltyOnes_0 : decode cX1_guiltyOnes 0 = .ok (.iconst 0, 1) := dk_3 (dk_at dksX1_guiltyOnes_0 0 rfl rfl)
theorem dX1_guiltyOnes_1 : decode cX1_guiltyOnes 1 = .ok (.istore_n 1, 1) := dk_60 (dk_at dksX1_guiltyOnes_0 1 rfl rfl)
theorem dX1_guiltyOnes_2 : decode cX1_guiltyOnes 2 = .ok (.iconst 0, 1) := dk_3 (dk_at dksX1_guiltyOnes_0 2 rfl rfl)
theorem dX1_guiltyOnes_3 : decode cX1_guiltyOnes 3 = .ok (.istore_n 2, 1) := dk_61 (dk_at dksX1_guiltyOnes_0 3 rfl rfl)
theorem dX1_guiltyOnes_4 : decode cX1_guiltyOnes 4 = .ok (.iload_n 2, 1) := dk_28 (dk_at dksX1_guiltyOnes_0 4 rfl rfl)
theorem dX1_guiltyOnes_5 : decode cX1_guiltyOnes 5 = .ok (.aload_n 0, 1) := dk_42 (dk_at dksX1_guiltyOnes_0 5 rfl rfl)
theorem dX1_guiltyOnes_6 : decode cX1_guiltyOnes 6 = .ok (.getfield 19, 3) := dk_180 0 19 (dk_at dksX1_guiltyOnes_0 6 rfl rfl)
theorem dX1_guiltyOnes_9 : decode cX1_guiltyOnes 9 = .ok (.getfield 100, 3) := dk_180 0 100 (dk_at dksX1_guiltyOnes_0 9 rfl rfl)
theorem dX1_guiltyOnes_12 : decode cX1_guiltyOnes 12 = .ok (.if_icmp .ge 34, 3) := dk_162 0 34 (dk_at dksX1_guiltyOnes_0 12 rfl rfl)
theorem dX1_guiltyOnes_15 : decode cX1_guiltyOnes 15 = .ok (.iload_n 1, 1) := dk_27 (dk_at dksX1_guiltyOnes_0 15 rfl rfl)
theorem dX1_guiltyOnes_16 : decode cX1_guiltyOnes 16 = .ok (.aload_n 0, 1) := dk_42 (dk_at dksX1_guiltyOnes_0 16 rfl rfl)
theorem dX1_guiltyOnes_17 : decode cX1_guiltyOnes 17 = .ok (.getfield 19, 3) := dk_180 0 19 (dk_at dksX1_guiltyOnes_0 17 rfl rfl)
theorem dX1_guiltyOnes_20 : decode cX1_guiltyOnes 20 = .ok (.getfield 103, 3) := dk_180 0 103 (dk_at dksX1_guiltyOnes_0 20 rfl rfl)
theorem dX1_guiltyOnes_23 : decode cX1_guiltyOnes 23 = .ok (.iload_n 2, 1) := dk_28 (dk_at dksX1_guiltyOnes_0 23 rfl rfl)
theorem dX1_guiltyOnes_24 : decode cX1_guiltyOnes 24 = .ok (.aaload, 1) := dk_50 (dk_at dksX1_guiltyOnes_1 0 rfl rfl)
theorem dX1_guiltyOnes_25 : decode cX1_guiltyOnes 25 = .ok (.getfield 195, 3) := dk_180 0 195 (dk_at dksX1_guiltyOnes_1 1 rfl rfl)
theorem dX1_guiltyOnes_28 : decode cX1_guiltyOnes 28 = .ok (.ifCond .eq 9, 3) := dk_153 0 9 (dk_at dksX1_guiltyOnes_1 4 rfl rfl)
theorem dX1_guiltyOnes_31 : decode cX1_guiltyOnes 31 = .ok (.iconst 1, 1) := dk_4 (dk_at dksX1_guiltyOnes_1 7 rfl rfl)
theorem dX1_guiltyOnes_32 : decode cX1_guiltyOnes 32 = .ok (.iload_n 2, 1) := dk_28 (dk_at dksX1_guiltyOnes_1 8 rfl rfl)
theorem dX1_guiltyOnes_33 : decode cX1_guiltyOnes 33 = .ok (.ishl, 1) := dk_120 (dk_at dksX1_guiltyOnes_1 9 rfl rfl)
theorem dX1_guiltyOnes_34 : decode cX1_guiltyOnes 34 = .ok (.goto 4, 3) := dk_167 0 4 (dk_at dksX1_guiltyOnes_1 10 rfl rfl)
theorem dX1_guiltyOnes_37 : decode cX1_guiltyOnes 37 = .ok (.iconst 0, 1) := dk_3 (dk_at dksX1_guiltyOnes_1 13 rfl rfl)
theorem dX1_guiltyOnes_38 : decode cX1_guiltyOnes 38 = .ok (.ior, 1) := dk_128 (dk_at dksX1_guiltyOnes_1 14 rfl rfl)
theorem dX1_guiltyOnes_39 : decode cX1_guiltyOnes 39 = .ok (.istore_n 1, 1) := dk_60 (dk_at dksX1_guiltyOnes_1 15 rfl rfl)
theorem dX1_guiltyOnes_40 : decode cX1_guiltyOnes 40 = .ok (.iinc 2 1, 3) := dk_132 2 1 (dk_at dksX1_guiltyOnes_1 16 rfl rfl)
theorem dX1_guiltyOnes_43 : decode cX1_guiltyOnes 43 = .ok (.goto (-39), 3) := dk_167 255 217 (dk_at dksX1_guiltyOnes_1 19 rfl rfl)
theorem dX1_guiltyOnes_46 : decode cX1_guiltyOnes 46 = .ok (.iload_n 1, 1) := dk_27 (dk_at dksX1_guiltyOnes_1 22 rfl rfl)
theorem dX1_guiltyOnes_47 : decode cX1_guiltyOnes 47 = .ok (.ireturn, 1) := dk_172 (dk_at dksX1_guiltyOnes_1 23 rfl rfl)
abbrev cX1_bravest : ByteArray := prog_1_method_57_code
def yX1_bravest : MethodName := ⟨RX1, "bravest", "()I"⟩
def dkwX1_bravest_2 : List UInt8 := [21, 4, 28, 161, 0, 6, 167, 0, 8, 21, 4, 61, 29, 60, 132, 3, 1, 167, 255, 200, 27, 172]
abbrev dktX1_bravest_2 : List UInt8 := dkwX1_bravest_2 ++ []
def dkwX1_bravest_1 : List UInt8 := [180, 0, 103, 29, 50, 180, 0, 204, 154, 0, 11, 42, 29, 182, 1, 40, 167, 0, 6, 19, 1, 53, 54, 4]
abbrev dktX1_bravest_1 : List UInt8 := dkwX1_bravest_1 ++ dktX1_bravest_2
def dkwX1_bravest_0 : List UInt8 := [2, 60, 19, 1, 53, 61, 3, 62, 29, 42, 180, 0, 19, 180, 0, 100, 162, 0, 51, 42, 180, 0, 19]
abbrev dktX1_bravest_0 : List UInt8 := dkwX1_bravest_0 ++ dktX1_bravest_1
theorem dksX1_bravest_0 : cX1_bravest.data.toList.drop 0 = dktX1_bravest_0 := by decide +kernel
theorem dksX1_bravest_1 : cX1_bravest.data.toList.drop 23 = dktX1_bravest_1 := dk_seg dksX1_bravest_0 23 rfl rfl
theorem dksX1_bravest_2 : cX1_bravest.data.toList.drop 47 = dktX1_bravest_2 := dk_seg dksX1_bravest_1 24 rfl rfl
theorem dX1_bravest_0 : decode cX1_bravest 0 = .ok (.iconst (-1), 1) := dk_2 (dk_at dksX1_bravest_0 0 rfl rfl)
theorem dX1_bravest_1 : decode cX1_bravest 1 = .ok (.istore_n 1, 1) := dk_60 (dk_at dksX1_bravest_0 1 rfl rfl)
theorem dX1_bravest_2 : decode cX1_bravest 2 = .ok (.ldc_w 309, 3) := dk_19 1 53 (dk_at dksX1_bravest_0 2 rfl rfl)
theorem dX1_bravest_5 : decode cX1_bravest 5 = .ok (.istore_n 2, 1) := dk_61 (dk_at dksX1_bravest_0 5 rfl rfl)
theorem dX1_bravest_6 : decode cX1_bravest 6 = .ok (.iconst 0, 1) := dk_3 (dk_at dksX1_bravest_0 6 rfl rfl)
theorem dX1_bravest_7 : decode cX1_bravest 7 = .ok (.istore_n 3, 1) := dk_62 (dk_at dksX1_bravest_0 7 rfl rfl)
theorem dX1_bravest_8 : decode cX1_bravest 8 = .ok (.iload_n 3, 1) := dk_29 (dk_at dksX1_bravest_0 8 rfl rfl)
theorem dX1_bravest_9 : decode cX1_bravest 9 = .ok (.aload_n 0, 1) := dk_42 (dk_at dksX1_bravest_0 9 rfl rfl)
theorem dX1_bravest_10 : decode cX1_bravest 10 = .ok (.getfield 19, 3) := dk_180 0 19 (dk_at dksX1_bravest_0 10 rfl rfl)
theorem dX1_bravest_13 : decode cX1_bravest 13 = .ok (.getfield 100, 3) := dk_180 0 100 (dk_at dksX1_bravest_0 13 rfl rfl)
theorem dX1_bravest_16 : decode cX1_bravest 16 = .ok (.if_icmp .ge 51, 3) := dk_162 0 51 (dk_at dksX1_bravest_0 16 rfl rfl)
theorem dX1_bravest_19 : decode cX1_bravest 19 = .ok (.aload_n 0, 1) := dk_42 (dk_at dksX1_bravest_0 19 rfl rfl)
theorem dX1_bravest_20 : decode cX1_bravest 20 = .ok (.getfield 19, 3) := dk_180 0 19 (dk_at dksX1_bravest_0 20 rfl rfl)
theorem dX1_bravest_23 : decode cX1_bravest 23 = .ok (.getfield 103, 3) := dk_180 0 103 (dk_at dksX1_bravest_1 0 rfl rfl)
theorem dX1_bravest_26 : decode cX1_bravest 26 = .ok (.iload_n 3, 1) := dk_29 (dk_at dksX1_bravest_1 3 rfl rfl)
theorem dX1_bravest_27 : decode cX1_bravest 27 = .ok (.aaload, 1) := dk_50 (dk_at dksX1_bravest_1 4 rfl rfl)
theorem dX1_bravest_28 : decode cX1_bravest 28 = .ok (.getfield 204, 3) := dk_180 0 204 (dk_at dksX1_bravest_1 5 rfl rfl)
theorem dX1_bravest_31 : decode cX1_bravest 31 = .ok (.ifCond .ne 11, 3) := dk_154 0 11 (dk_at dksX1_bravest_1 8 rfl rfl)
theorem dX1_bravest_34 : decode cX1_bravest 34 = .ok (.aload_n 0, 1) := dk_42 (dk_at dksX1_bravest_1 11 rfl rfl)
theorem dX1_bravest_35 : decode cX1_bravest 35 = .ok (.iload_n 3, 1) := dk_29 (dk_at dksX1_bravest_1 12 rfl rfl)
theorem dX1_bravest_36 : decode cX1_bravest 36 = .ok (.invokevirtual 296, 3) := dk_182 1 40 (dk_at dksX1_bravest_1 13 rfl rfl)
theorem dX1_bravest_39 : decode cX1_bravest 39 = .ok (.goto 6, 3) := dk_167 0 6 (dk_at dksX1_bravest_1 16 rfl rfl)
theorem dX1_bravest_42 : decode cX1_bravest 42 = .ok (.ldc_w 309, 3) := dk_19 1 53 (dk_at dksX1_bravest_1 19 rfl rfl)
theorem dX1_bravest_45 : decode cX1_bravest 45 = .ok (.istore 4, 2) := dk_54 4 (dk_at dksX1_bravest_1 22 rfl rfl)
theorem dX1_bravest_47 : decode cX1_bravest 47 = .ok (.iload 4, 2) := dk_21 4 (dk_at dksX1_bravest_2 0 rfl rfl)
theorem dX1_bravest_49 : decode cX1_bravest 49 = .ok (.iload_n 2, 1) := dk_28 (dk_at dksX1_bravest_2 2 rfl rfl)
theorem dX1_bravest_50 : decode cX1_bravest 50 = .ok (.if_icmp .lt 6, 3) := dk_161 0 6 (dk_at dksX1_bravest_2 3 rfl rfl)
theorem dX1_bravest_53 : decode cX1_bravest 53 = .ok (.goto 8, 3) := dk_167 0 8 (dk_at dksX1_bravest_2 6 rfl rfl)
theorem dX1_bravest_56 : decode cX1_bravest 56 = .ok (.iload 4, 2) := dk_21 4 (dk_at dksX1_bravest_2 9 rfl rfl)
theorem dX1_bravest_58 : decode cX1_bravest 58 = .ok (.istore_n 2, 1) := dk_61 (dk_at dksX1_bravest_2 11 rfl rfl)
theorem dX1_bravest_59 : decode cX1_bravest 59 = .ok (.iload_n 3, 1) := dk_29 (dk_at dksX1_bravest_2 12 rfl rfl)
theorem dX1_bravest_60 : decode cX1_bravest 60 = .ok (.istore_n 1, 1) := dk_60 (dk_at dksX1_bravest_2 13 rfl rfl)
theorem dX1_bravest_61 : decode cX1_bravest 61 = .ok (.iinc 3 1, 3) := dk_132 3 1 (dk_at dksX1_bravest_2 14 rfl rfl)
theorem dX1_bravest_64 : decode cX1_bravest 64 = .ok (.goto (-56), 3) := dk_167 255 200 (dk_at dksX1_bravest_2 17 rfl rfl)
theorem dX1_bravest_67 : decode cX1_bravest 67 = .ok (.iload_n 1, 1) := dk_27 (dk_at dksX1_bravest_2 20 rfl rfl)
theorem dX1_bravest_68 : decode cX1_bravest 68 = .ok (.ireturn, 1) := dk_172 (dk_at dksX1_bravest_2 21 rfl rfl)
abbrev cX1_alike : ByteArray := prog_1_method_58_code
def yX1_alike : MethodName := ⟨RX1, "alike", "()I"⟩
def dkwX1_alike_4 : List UInt8 := [167, 255, 180, 132, 2, 1, 167, 255, 159, 27, 172]
abbrev dktX1_alike_4 : List UInt8 := dkwX1_alike_4 ++ []
def dkwX1_alike_3 : List UInt8 := [180, 0, 19, 180, 0, 103, 29, 50, 180, 0, 198, 160, 0, 7, 4, 167, 0, 4, 3, 96, 60, 132, 3, 1]
abbrev dktX1_alike_3 : List UInt8 := dkwX1_alike_3 ++ dktX1_alike_4
def dkwX1_alike_2 : List UInt8 := [180, 0, 103, 29, 50, 180, 0, 195, 160, 0, 34, 42, 180, 0, 19, 180, 0, 103, 28, 50, 180, 0, 198, 42]
abbrev dktX1_alike_2 : List UInt8 := dkwX1_alike_2 ++ dktX1_alike_3
def dkwX1_alike_1 : List UInt8 := [180, 0, 100, 162, 0, 71, 27, 42, 180, 0, 19, 180, 0, 103, 28, 50, 180, 0, 195, 42, 180, 0, 19]
abbrev dktX1_alike_1 : List UInt8 := dkwX1_alike_1 ++ dktX1_alike_2
def dkwX1_alike_0 : List UInt8 := [3, 60, 3, 61, 28, 42, 180, 0, 19, 180, 0, 100, 162, 0, 92, 28, 4, 96, 62, 29, 42, 180, 0, 19]
abbrev dktX1_alike_0 : List UInt8 := dkwX1_alike_0 ++ dktX1_alike_1
theorem dksX1_alike_0 : cX1_alike.data.toList.drop 0 = dktX1_alike_0 := by decide +kernel
theorem dksX1_alike_1 : cX1_alike.data.toList.drop 24 = dktX1_alike_1 := dk_seg dksX1_alike_0 24 rfl rfl
theorem dksX1_alike_2 : cX1_alike.data.toList.drop 47 = dktX1_alike_2 := dk_seg dksX1_alike_1 23 rfl rfl
theorem dksX1_alike_3 : cX1_alike.data.toList.drop 71 = dktX1_alike_3 := dk_seg dksX1_alike_2 24 rfl rfl
theorem dksX1_alike_4 : cX1_alike.data.toList.drop 95 = dktX1_alike_4 := dk_seg dksX1_alike_3 24 rfl rfl
theorem dX1_alike_0 : decode cX1_alike 0 = .ok (.iconst 0, 1) := dk_3 (dk_at dksX1_alike_0 0 rfl rfl)
theorem dX1_alike_1 : decode cX1_alike 1 = .ok (.istore_n 1, 1) := dk_60 (dk_at dksX1_alike_0 1 rfl rfl)
theorem dX1_alike_2 : decode cX1_alike 2 = .ok (.iconst 0, 1) := dk_3 (dk_at dksX1_alike_0 2 rfl rfl)
theorem dX1_alike_3 : decode cX1_alike 3 = .ok (.istore_n 2, 1) := dk_61 (dk_at dksX1_alike_0 3 rfl rfl)
theorem dX1_alike_4 : decode cX1_alike 4 = .ok (.iload_n 2, 1) := dk_28 (dk_at dksX1_alike_0 4 rfl rfl)
theorem dX1_alike_5 : decode cX1_alike 5 = .ok (.aload_n 0, 1) := dk_42 (dk_at dksX1_alike_0 5 rfl rfl)
theorem dX1_alike_6 : decode cX1_alike 6 = .ok (.getfield 19, 3) := dk_180 0 19 (dk_at dksX1_alike_0 6 rfl rfl)
theorem dX1_alike_9 : decode cX1_alike 9 = .ok (.getfield 100, 3) := dk_180 0 100 (dk_at dksX1_alike_0 9 rfl rfl)
theorem dX1_alike_12 : decode cX1_alike 12 = .ok (.if_icmp .ge 92, 3) := dk_162 0 92 (dk_at dksX1_alike_0 12 rfl rfl)
theorem dX1_alike_15 : decode cX1_alike 15 = .ok (.iload_n 2, 1) := dk_28 (dk_at dksX1_alike_0 15 rfl rfl)
theorem dX1_alike_16 : decode cX1_alike 16 = .ok (.iconst 1, 1) := dk_4 (dk_at dksX1_alike_0 16 rfl rfl)
theorem dX1_alike_17 : decode cX1_alike 17 = .ok (.iadd, 1) := dk_96 (dk_at dksX1_alike_0 17 rfl rfl)
theorem dX1_alike_18 : decode cX1_alike 18 = .ok (.istore_n 3, 1) := dk_62 (dk_at dksX1_alike_0 18 rfl rfl)
theorem dX1_alike_19 : decode cX1_alike 19 = .ok (.iload_n 3, 1) := dk_29 (dk_at dksX1_alike_0 19 rfl rfl)
theorem dX1_alike_20 : decode cX1_alike 20 = .ok (.aload_n 0, 1) := dk_42 (dk_at dksX1_alike_0 20 rfl rfl)
theorem dX1_alike_21 : decode cX1_alike 21 = .ok (.getfield 19, 3) := dk_180 0 19 (dk_at dksX1_alike_0 21 rfl rfl)
theorem dX1_alike_24 : decode cX1_alike 24 = .ok (.getfield 100, 3) := dk_180 0 100 (dk_at dksX1_alike_1 0 rfl rfl)
theorem dX1_alike_27 : decode cX1_alike 27 = .ok (.if_icmp .ge 71, 3) := dk_162 0 71 (dk_at dksX1_alike_1 3 rfl rfl)
theorem dX1_alike_30 : decode cX1_alike 30 = .ok (.iload_n 1, 1) := dk_27 (dk_at dksX1_alike_1 6 rfl rfl)
theorem dX1_alike_31 : decode cX1_alike 31 = .ok (.aload_n 0, 1) := dk_42 (dk_at dksX1_alike_1 7 rfl rfl)
theorem dX1_alike_32 : decode cX1_alike 32 = .ok (.getfield 19, 3) := dk_180 0 19 (dk_at dksX1_alike_1 8 rfl rfl)
theorem dX1_alike_35 : decode cX1_alike 35 = .ok (.getfield 103, 3) := dk_180 0 103 (dk_at dksX1_alike_1 11 rfl rfl)
theorem dX1_alike_38 : decode cX1_alike 38 = .ok (.iload_n 2, 1) := dk_28 (dk_at dksX1_alike_1 14 rfl rfl)
theorem dX1_alike_39 : decode cX1_alike 39 = .ok (.aaload, 1) := dk_50 (dk_at dksX1_alike_1 15 rfl rfl)
theorem dX1_alike_40 : decode cX1_alike 40 = .ok (.getfield 195, 3) := dk_180 0 195 (dk_at dksX1_alike_1 16 rfl rfl)
theorem dX1_alike_43 : decode cX1_alike 43 = .ok (.aload_n 0, 1) := dk_42 (dk_at dksX1_alike_1 19 rfl rfl)
theorem dX1_alike_44 : decode cX1_alike 44 = .ok (.getfield 19, 3) := dk_180 0 19 (dk_at dksX1_alike_1 20 rfl rfl)
theorem dX1_alike_47 : decode cX1_alike 47 = .ok (.getfield 103, 3) := dk_180 0 103 (dk_at dksX1_alike_2 0 rfl rfl)
theorem dX1_alike_50 : decode cX1_alike 50 = .ok (.iload_n 3, 1) := dk_29 (dk_at dksX1_alike_2 3 rfl rfl)
theorem dX1_alike_51 : decode cX1_alike 51 = .ok (.aaload, 1) := dk_50 (dk_at dksX1_alike_2 4 rfl rfl)
theorem dX1_alike_52 : decode cX1_alike 52 = .ok (.getfield 195, 3) := dk_180 0 195 (dk_at dksX1_alike_2 5 rfl rfl)
theorem dX1_alike_55 : decode cX1_alike 55 = .ok (.if_icmp .ne 34, 3) := dk_160 0 34 (dk_at dksX1_alike_2 8 rfl rfl)
theorem dX1_alike_58 : decode cX1_alike 58 = .ok (.aload_n 0, 1) := dk_42 (dk_at dksX1_alike_2 11 rfl rfl)
theorem dX1_alike_59 : decode cX1_alike 59 = .ok (.getfield 19, 3) := dk_180 0 19 (dk_at dksX1_alike_2 12 rfl rfl)
theorem dX1_alike_62 : decode cX1_alike 62 = .ok (.getfield 103, 3) := dk_180 0 103 (dk_at dksX1_alike_2 15 rfl rfl)
theorem dX1_alike_65 : decode cX1_alike 65 = .ok (.iload_n 2, 1) := dk_28 (dk_at dksX1_alike_2 18 rfl rfl)
theorem dX1_alike_66 : decode cX1_alike 66 = .ok (.aaload, 1) := dk_50 (dk_at dksX1_alike_2 19 rfl rfl)
theorem dX1_alike_67 : decode cX1_alike 67 = .ok (.getfield 198, 3) := dk_180 0 198 (dk_at dksX1_alike_2 20 rfl rfl)
theorem dX1_alike_70 : decode cX1_alike 70 = .ok (.aload_n 0, 1) := dk_42 (dk_at dksX1_alike_2 23 rfl rfl)
theorem dX1_alike_71 : decode cX1_alike 71 = .ok (.getfield 19, 3) := dk_180 0 19 (dk_at dksX1_alike_3 0 rfl rfl)
theorem dX1_alike_74 : decode cX1_alike 74 = .ok (.getfield 103, 3) := dk_180 0 103 (dk_at dksX1_alike_3 3 rfl rfl)
theorem dX1_alike_77 : decode cX1_alike 77 = .ok (.iload_n 3, 1) := dk_29 (dk_at dksX1_alike_3 6 rfl rfl)
theorem dX1_alike_78 : decode cX1_alike 78 = .ok (.aaload, 1) := dk_50 (dk_at dksX1_alike_3 7 rfl rfl)
theorem dX1_alike_79 : decode cX1_alike 79 = .ok (.getfield 198, 3) := dk_180 0 198 (dk_at dksX1_alike_3 8 rfl rfl)
theorem dX1_alike_82 : decode cX1_alike 82 = .ok (.if_icmp .ne 7, 3) := dk_160 0 7 (dk_at dksX1_alike_3 11 rfl rfl)
theorem dX1_alike_85 : decode cX1_alike 85 = .ok (.iconst 1, 1) := dk_4 (dk_at dksX1_alike_3 14 rfl rfl)
theorem dX1_alike_86 : decode cX1_alike 86 = .ok (.goto 4, 3) := dk_167 0 4 (dk_at dksX1_alike_3 15 rfl rfl)
theorem dX1_alike_89 : decode cX1_alike 89 = .ok (.iconst 0, 1) := dk_3 (dk_at dksX1_alike_3 18 rfl rfl)
theorem dX1_alike_90 : decode cX1_alike 90 = .ok (.iadd, 1) := dk_96 (dk_at dksX1_alike_3 19 rfl rfl)
theorem dX1_alike_91 : decode cX1_alike 91 = .ok (.istore_n 1, 1) := dk_60 (dk_at dksX1_alike_3 20 rfl rfl)
theorem dX1_alike_92 : decode cX1_alike 92 = .ok (.iinc 3 1, 3) := dk_132 3 1 (dk_at dksX1_alike_3 21 rfl rfl)
theorem dX1_alike_95 : decode cX1_alike 95 = .ok (.goto (-76), 3) := dk_167 255 180 (dk_at dksX1_alike_4 0 rfl rfl)
theorem dX1_alike_98 : decode cX1_alike 98 = .ok (.iinc 2 1, 3) := dk_132 2 1 (dk_at dksX1_alike_4 3 rfl rfl)
theorem dX1_alike_101 : decode cX1_alike 101 = .ok (.goto (-97), 3) := dk_167 255 159 (dk_at dksX1_alike_4 6 rfl rfl)
theorem dX1_alike_104 : decode cX1_alike 104 = .ok (.iload_n 1, 1) := dk_27 (dk_at dksX1_alike_4 9 rfl rfl)
theorem dX1_alike_105 : decode cX1_alike 105 = .ok (.ireturn, 1) := dk_172 (dk_at dksX1_alike_4 10 rfl rfl)
abbrev cX1_all : ByteArray := prog_1_method_63_code
def yX1_all : MethodName := ⟨RX1, "all", "(Z)I"⟩
def dkwX1_all_4 : List UInt8 := [42, 180, 0, 19, 42, 180, 0, 26, 182, 0, 141, 28, 172]
abbrev dktX1_all_4 : List UInt8 := dkwX1_all_4 ++ []
def dkwX1_all_3 : List UInt8 := [28, 42, 180, 0, 220, 2, 159, 0, 9, 4, 29, 120, 167, 0, 4, 3, 128, 61, 132, 3, 1, 167, 255, 188]
abbrev dktX1_all_3 : List UInt8 := dkwX1_all_3 ++ dktX1_all_4
def dkwX1_all_2 : List UInt8 := [153, 0, 6, 167, 0, 39, 42, 42, 180, 0, 19, 180, 0, 103, 29, 50, 3, 182, 0, 248, 42, 182, 0, 252]
abbrev dktX1_all_2 : List UInt8 := dkwX1_all_2 ++ dktX1_all_3
def dkwX1_all_1 : List UInt8 := [29, 42, 180, 0, 19, 180, 0, 100, 162, 0, 63, 42, 180, 0, 19, 180, 0, 103, 29, 50, 180, 0, 204]
abbrev dktX1_all_1 : List UInt8 := dkwX1_all_1 ++ dktX1_all_2
def dkwX1_all_0 : List UInt8 := [27, 154, 0, 8, 42, 182, 1, 66, 172, 42, 180, 0, 26, 42, 180, 0, 19, 182, 0, 141, 3, 61, 3, 62]
abbrev dktX1_all_0 : List UInt8 := dkwX1_all_0 ++ dktX1_all_1
theorem dksX1_all_0 : cX1_all.data.toList.drop 0 = dktX1_all_0 := by decide +kernel
theorem dksX1_all_1 : cX1_all.data.toList.drop 24 = dktX1_all_1 := dk_seg dksX1_all_0 24 rfl rfl
theorem dksX1_all_2 : cX1_all.data.toList.drop 47 = dktX1_all_2 := dk_seg dksX1_all_1 23 rfl rfl
theorem dksX1_all_3 : cX1_all.data.toList.drop 71 = dktX1_all_3 := dk_seg dksX1_all_2 24 rfl rfl
theorem dksX1_all_4 : cX1_all.data.toList.drop 95 = dktX1_all_4 := dk_seg dksX1_all_3 24 rfl rfl
theorem dX1_all_0 : decode cX1_all 0 = .ok (.iload_n 1, 1) := dk_27 (dk_at dksX1_all_0 0 rfl rfl)
theorem dX1_all_1 : decode cX1_all 1 = .ok (.ifCond .ne 8, 3) := dk_154 0 8 (dk_at dksX1_all_0 1 rfl rfl)
theorem dX1_all_4 : decode cX1_all 4 = .ok (.aload_n 0, 1) := dk_42 (dk_at dksX1_all_0 4 rfl rfl)
theorem dX1_all_5 : decode cX1_all 5 = .ok (.invokevirtual 322, 3) := dk_182 1 66 (dk_at dksX1_all_0 5 rfl rfl)
theorem dX1_all_8 : decode cX1_all 8 = .ok (.ireturn, 1) := dk_172 (dk_at dksX1_all_0 8 rfl rfl)
theorem dX1_all_9 : decode cX1_all 9 = .ok (.aload_n 0, 1) := dk_42 (dk_at dksX1_all_0 9 rfl rfl)
theorem dX1_all_10 : decode cX1_all 10 = .ok (.getfield 26, 3) := dk_180 0 26 (dk_at dksX1_all_0 10 rfl rfl)
theorem dX1_all_13 : decode cX1_all 13 = .ok (.aload_n 0, 1) := dk_42 (dk_at dksX1_all_0 13 rfl rfl)
theorem dX1_all_14 : decode cX1_all 14 = .ok (.getfield 19, 3) := dk_180 0 19 (dk_at dksX1_all_0 14 rfl rfl)
theorem dX1_all_17 : decode cX1_all 17 = .ok (.invokevirtual 141, 3) := dk_182 0 141 (dk_at dksX1_all_0 17 rfl rfl)
theorem dX1_all_20 : decode cX1_all 20 = .ok (.iconst 0, 1) := dk_3 (dk_at dksX1_all_0 20 rfl rfl)
theorem dX1_all_21 : decode cX1_all 21 = .ok (.istore_n 2, 1) := dk_61 (dk_at dksX1_all_0 21 rfl rfl)
theorem dX1_all_22 : decode cX1_all 22 = .ok (.iconst 0, 1) := dk_3 (dk_at dksX1_all_0 22 rfl rfl)
theorem dX1_all_23 : decode cX1_all 23 = .ok (.istore_n 3, 1) := dk_62 (dk_at dksX1_all_0 23 rfl rfl)
theorem dX1_all_24 : decode cX1_all 24 = .ok (.iload_n 3, 1) := dk_29 (dk_at dksX1_all_1 0 rfl rfl)
theorem dX1_all_25 : decode cX1_all 25 = .ok (.aload_n 0, 1) := dk_42 (dk_at dksX1_all_1 1 rfl rfl)
theorem dX1_all_26 : decode cX1_all 26 = .ok (.getfield 19, 3) := dk_180 0 19 (dk_at dksX1_all_1 2 rfl rfl)
theorem dX1_all_29 : decode cX1_all 29 = .ok (.getfield 100, 3) := dk_180 0 100 (dk_at dksX1_all_1 5 rfl rfl)
theorem dX1_all_32 : decode cX1_all 32 = .ok (.if_icmp .ge 63, 3) := dk_162 0 63 (dk_at dksX1_all_1 8 rfl rfl)
theorem dX1_all_35 : decode cX1_all 35 = .ok (.aload_n 0, 1) := dk_42 (dk_at dksX1_all_1 11 rfl rfl)
theorem dX1_all_36 : decode cX1_all 36 = .ok (.getfield 19, 3) := dk_180 0 19 (dk_at dksX1_all_1 12 rfl rfl)
theorem dX1_all_39 : decode cX1_all 39 = .ok (.getfield 103, 3) := dk_180 0 103 (dk_at dksX1_all_1 15 rfl rfl)
theorem dX1_all_42 : decode cX1_all 42 = .ok (.iload_n 3, 1) := dk_29 (dk_at dksX1_all_1 18 rfl rfl)
theorem dX1_all_43 : decode cX1_all 43 = .ok (.aaload, 1) := dk_50 (dk_at dksX1_all_1 19 rfl rfl)
theorem dX1_all_44 : decode cX1_all 44 = .ok (.getfield 204, 3) := dk_180 0 204 (dk_at dksX1_all_1 20 rfl rfl)
theorem dX1_all_47 : decode cX1_all 47 = .ok (.ifCond .eq 6, 3) := dk_153 0 6 (dk_at dksX1_all_2 0 rfl rfl)
theorem dX1_all_50 : decode cX1_all 50 = .ok (.goto 39, 3) := dk_167 0 39 (dk_at dksX1_all_2 3 rfl rfl)
theorem dX1_all_53 : decode cX1_all 53 = .ok (.aload_n 0, 1) := dk_42 (dk_at dksX1_all_2 6 rfl rfl)
theorem dX1_all_54 : decode cX1_all 54 = .ok (.aload_n 0, 1) := dk_42 (dk_at dksX1_all_2 7 rfl rfl)
theorem dX1_all_55 : decode cX1_all 55 = .ok (.getfield 19, 3) := dk_180 0 19 (dk_at dksX1_all_2 8 rfl rfl)
theorem dX1_all_58 : decode cX1_all 58 = .ok (.getfield 103, 3) := dk_180 0 103 (dk_at dksX1_all_2 11 rfl rfl)
theorem dX1_all_61 : decode cX1_all 61 = .ok (.iload_n 3, 1) := dk_29 (dk_at dksX1_all_2 14 rfl rfl)
theorem dX1_all_62 : decode cX1_all 62 = .ok (.aaload, 1) := dk_50 (dk_at dksX1_all_2 15 rfl rfl)
theorem dX1_all_63 : decode cX1_all 63 = .ok (.iconst 0, 1) := dk_3 (dk_at dksX1_all_2 16 rfl rfl)
theorem dX1_all_64 : decode cX1_all 64 = .ok (.invokevirtual 248, 3) := dk_182 0 248 (dk_at dksX1_all_2 17 rfl rfl)
theorem dX1_all_67 : decode cX1_all 67 = .ok (.aload_n 0, 1) := dk_42 (dk_at dksX1_all_2 20 rfl rfl)
theorem dX1_all_68 : decode cX1_all 68 = .ok (.invokevirtual 252, 3) := dk_182 0 252 (dk_at dksX1_all_2 21 rfl rfl)
theorem dX1_all_71 : decode cX1_all 71 = .ok (.iload_n 2, 1) := dk_28 (dk_at dksX1_all_3 0 rfl rfl)
theorem dX1_all_72 : decode cX1_all 72 = .ok (.aload_n 0, 1) := dk_42 (dk_at dksX1_all_3 1 rfl rfl)
theorem dX1_all_73 : decode cX1_all 73 = .ok (.getfield 220, 3) := dk_180 0 220 (dk_at dksX1_all_3 2 rfl rfl)
theorem dX1_all_76 : decode cX1_all 76 = .ok (.iconst (-1), 1) := dk_2 (dk_at dksX1_all_3 5 rfl rfl)
theorem dX1_all_77 : decode cX1_all 77 = .ok (.if_icmp .eq 9, 3) := dk_159 0 9 (dk_at dksX1_all_3 6 rfl rfl)
theorem dX1_all_80 : decode cX1_all 80 = .ok (.iconst 1, 1) := dk_4 (dk_at dksX1_all_3 9 rfl rfl)
theorem dX1_all_81 : decode cX1_all 81 = .ok (.iload_n 3, 1) := dk_29 (dk_at dksX1_all_3 10 rfl rfl)
theorem dX1_all_82 : decode cX1_all 82 = .ok (.ishl, 1) := dk_120 (dk_at dksX1_all_3 11 rfl rfl)
theorem dX1_all_83 : decode cX1_all 83 = .ok (.goto 4, 3) := dk_167 0 4 (dk_at dksX1_all_3 12 rfl rfl)
theorem dX1_all_86 : decode cX1_all 86 = .ok (.iconst 0, 1) := dk_3 (dk_at dksX1_all_3 15 rfl rfl)
theorem dX1_all_87 : decode cX1_all 87 = .ok (.ior, 1) := dk_128 (dk_at dksX1_all_3 16 rfl rfl)
theorem dX1_all_88 : decode cX1_all 88 = .ok (.istore_n 2, 1) := dk_61 (dk_at dksX1_all_3 17 rfl rfl)
theorem dX1_all_89 : decode cX1_all 89 = .ok (.iinc 3 1, 3) := dk_132 3 1 (dk_at dksX1_all_3 18 rfl rfl)
theorem dX1_all_92 : decode cX1_all 92 = .ok (.goto (-68), 3) := dk_167 255 188 (dk_at dksX1_all_3 21 rfl rfl)
theorem dX1_all_95 : decode cX1_all 95 = .ok (.aload_n 0, 1) := dk_42 (dk_at dksX1_all_4 0 rfl rfl)
theorem dX1_all_96 : decode cX1_all 96 = .ok (.getfield 19, 3) := dk_180 0 19 (dk_at dksX1_all_4 1 rfl rfl)
theorem dX1_all_99 : decode cX1_all 99 = .ok (.aload_n 0, 1) := dk_42 (dk_at dksX1_all_4 4 rfl rfl)
theorem dX1_all_100 : decode cX1_all 100 = .ok (.getfield 26, 3) := dk_180 0 26 (dk_at dksX1_all_4 5 rfl rfl)
theorem dX1_all_103 : decode cX1_all 103 = .ok (.invokevirtual 141, 3) := dk_182 0 141 (dk_at dksX1_all_4 8 rfl rfl)
theorem dX1_all_106 : decode cX1_all 106 = .ok (.iload_n 2, 1) := dk_28 (dk_at dksX1_all_4 11 rfl rfl)
theorem dX1_all_107 : decode cX1_all 107 = .ok (.ireturn, 1) := dk_172 (dk_at dksX1_all_4 12 rfl rfl)
abbrev cX1_wearsOut : ByteArray := prog_1_method_24_code
def yX1_wearsOut : MethodName := ⟨RX1, "wearsOut", "()V"⟩
def dkwX1_wearsOut_2 : List UInt8 := [180, 0, 179, 42, 180, 0, 53, 27, 46, 96, 184, 0, 233, 181, 0, 179, 132, 1, 1, 167, 255, 194, 177]
abbrev dktX1_wearsOut_2 : List UInt8 := dkwX1_wearsOut_2 ++ []
def dkwX1_wearsOut_1 : List UInt8 := [160, 0, 39, 42, 180, 0, 19, 180, 0, 96, 27, 50, 16, 99, 42, 180, 0, 19, 180, 0, 96, 27, 50]
abbrev dktX1_wearsOut_1 : List UInt8 := dkwX1_wearsOut_1 ++ dktX1_wearsOut_2
def dkwX1_wearsOut_0 : List UInt8 := [3, 60, 27, 42, 180, 0, 19, 180, 0, 85, 162, 0, 57, 42, 180, 0, 217, 27, 122, 4, 126, 4]
abbrev dktX1_wearsOut_0 : List UInt8 := dkwX1_wearsOut_0 ++ dktX1_wearsOut_1
theorem dksX1_wearsOut_0 : cX1_wearsOut.data.toList.drop 0 = dktX1_wearsOut_0 := by decide +kernel
theorem dksX1_wearsOut_1 : cX1_wearsOut.data.toList.drop 22 = dktX1_wearsOut_1 := dk_seg dksX1_wearsOut_0 22 rfl rfl
theorem dksX1_wearsOut_2 : cX1_wearsOut.data.toList.drop 45 = dktX1_wearsOut_2 := dk_seg dksX1_wearsOut_1 23 rfl rfl
theorem dX1_wearsOut_0 : decode cX1_wearsOut 0 = .ok (.iconst 0, 1) := dk_3 (dk_at dksX1_wearsOut_0 0 rfl rfl)
theorem dX1_wearsOut_1 : decode cX1_wearsOut 1 = .ok (.istore_n 1, 1) := dk_60 (dk_at dksX1_wearsOut_0 1 rfl rfl)
theorem dX1_wearsOut_2 : decode cX1_wearsOut 2 = .ok (.iload_n 1, 1) := dk_27 (dk_at dksX1_wearsOut_0 2 rfl rfl)
theorem dX1_wearsOut_3 : decode cX1_wearsOut 3 = .ok (.aload_n 0, 1) := dk_42 (dk_at dksX1_wearsOut_0 3 rfl rfl)
theorem dX1_wearsOut_4 : decode cX1_wearsOut 4 = .ok (.getfield 19, 3) := dk_180 0 19 (dk_at dksX1_wearsOut_0 4 rfl rfl)
theorem dX1_wearsOut_7 : decode cX1_wearsOut 7 = .ok (.getfield 85, 3) := dk_180 0 85 (dk_at dksX1_wearsOut_0 7 rfl rfl)
theorem dX1_wearsOut_10 : decode cX1_wearsOut 10 = .ok (.if_icmp .ge 57, 3) := dk_162 0 57 (dk_at dksX1_wearsOut_0 10 rfl rfl)
theorem dX1_wearsOut_13 : decode cX1_wearsOut 13 = .ok (.aload_n 0, 1) := dk_42 (dk_at dksX1_wearsOut_0 13 rfl rfl)
theorem dX1_wearsOut_14 : decode cX1_wearsOut 14 = .ok (.getfield 217, 3) := dk_180 0 217 (dk_at dksX1_wearsOut_0 14 rfl rfl)
theorem dX1_wearsOut_17 : decode cX1_wearsOut 17 = .ok (.iload_n 1, 1) := dk_27 (dk_at dksX1_wearsOut_0 17 rfl rfl)
theorem dX1_wearsOut_18 : decode cX1_wearsOut 18 = .ok (.ishr, 1) := dk_122 (dk_at dksX1_wearsOut_0 18 rfl rfl)
theorem dX1_wearsOut_19 : decode cX1_wearsOut 19 = .ok (.iconst 1, 1) := dk_4 (dk_at dksX1_wearsOut_0 19 rfl rfl)
theorem dX1_wearsOut_20 : decode cX1_wearsOut 20 = .ok (.iand, 1) := dk_126 (dk_at dksX1_wearsOut_0 20 rfl rfl)
theorem dX1_wearsOut_21 : decode cX1_wearsOut 21 = .ok (.iconst 1, 1) := dk_4 (dk_at dksX1_wearsOut_0 21 rfl rfl)
theorem dX1_wearsOut_22 : decode cX1_wearsOut 22 = .ok (.if_icmp .ne 39, 3) := dk_160 0 39 (dk_at dksX1_wearsOut_1 0 rfl rfl)
theorem dX1_wearsOut_25 : decode cX1_wearsOut 25 = .ok (.aload_n 0, 1) := dk_42 (dk_at dksX1_wearsOut_1 3 rfl rfl)
theorem dX1_wearsOut_26 : decode cX1_wearsOut 26 = .ok (.getfield 19, 3) := dk_180 0 19 (dk_at dksX1_wearsOut_1 4 rfl rfl)
theorem dX1_wearsOut_29 : decode cX1_wearsOut 29 = .ok (.getfield 96, 3) := dk_180 0 96 (dk_at dksX1_wearsOut_1 7 rfl rfl)
theorem dX1_wearsOut_32 : decode cX1_wearsOut 32 = .ok (.iload_n 1, 1) := dk_27 (dk_at dksX1_wearsOut_1 10 rfl rfl)
theorem dX1_wearsOut_33 : decode cX1_wearsOut 33 = .ok (.aaload, 1) := dk_50 (dk_at dksX1_wearsOut_1 11 rfl rfl)
theorem dX1_wearsOut_34 : decode cX1_wearsOut 34 = .ok (.bipush 99, 2) := dk_16 99 (dk_at dksX1_wearsOut_1 12 rfl rfl)
theorem dX1_wearsOut_36 : decode cX1_wearsOut 36 = .ok (.aload_n 0, 1) := dk_42 (dk_at dksX1_wearsOut_1 14 rfl rfl)
theorem dX1_wearsOut_37 : decode cX1_wearsOut 37 = .ok (.getfield 19, 3) := dk_180 0 19 (dk_at dksX1_wearsOut_1 15 rfl rfl)
theorem dX1_wearsOut_40 : decode cX1_wearsOut 40 = .ok (.getfield 96, 3) := dk_180 0 96 (dk_at dksX1_wearsOut_1 18 rfl rfl)
theorem dX1_wearsOut_43 : decode cX1_wearsOut 43 = .ok (.iload_n 1, 1) := dk_27 (dk_at dksX1_wearsOut_1 21 rfl rfl)
theorem dX1_wearsOut_44 : decode cX1_wearsOut 44 = .ok (.aaload, 1) := dk_50 (dk_at dksX1_wearsOut_1 22 rfl rfl)
theorem dX1_wearsOut_45 : decode cX1_wearsOut 45 = .ok (.getfield 179, 3) := dk_180 0 179 (dk_at dksX1_wearsOut_2 0 rfl rfl)
theorem dX1_wearsOut_48 : decode cX1_wearsOut 48 = .ok (.aload_n 0, 1) := dk_42 (dk_at dksX1_wearsOut_2 3 rfl rfl)
theorem dX1_wearsOut_49 : decode cX1_wearsOut 49 = .ok (.getfield 53, 3) := dk_180 0 53 (dk_at dksX1_wearsOut_2 4 rfl rfl)
theorem dX1_wearsOut_52 : decode cX1_wearsOut 52 = .ok (.iload_n 1, 1) := dk_27 (dk_at dksX1_wearsOut_2 7 rfl rfl)
theorem dX1_wearsOut_53 : decode cX1_wearsOut 53 = .ok (.iaload, 1) := dk_46 (dk_at dksX1_wearsOut_2 8 rfl rfl)
theorem dX1_wearsOut_54 : decode cX1_wearsOut 54 = .ok (.iadd, 1) := dk_96 (dk_at dksX1_wearsOut_2 9 rfl rfl)
theorem dX1_wearsOut_55 : decode cX1_wearsOut 55 = .ok (.invokestatic 233, 3) := dk_184 0 233 (dk_at dksX1_wearsOut_2 10 rfl rfl)
theorem dX1_wearsOut_58 : decode cX1_wearsOut 58 = .ok (.putfield 179, 3) := dk_181 0 179 (dk_at dksX1_wearsOut_2 13 rfl rfl)
theorem dX1_wearsOut_61 : decode cX1_wearsOut 61 = .ok (.iinc 1 1, 3) := dk_132 1 1 (dk_at dksX1_wearsOut_2 16 rfl rfl)
theorem dX1_wearsOut_64 : decode cX1_wearsOut 64 = .ok (.goto (-62), 3) := dk_167 255 194 (dk_at dksX1_wearsOut_2 19 rfl rfl)
theorem dX1_wearsOut_67 : decode cX1_wearsOut 67 = .ok (.return_, 1) := dk_177 (dk_at dksX1_wearsOut_2 22 rfl rfl)
abbrev cX1_loudest : ByteArray := prog_1_method_66_code
def yX1_loudest : MethodName := ⟨RX1, "loudest", "()I"⟩
def dkwX1_loudest_2 : List UInt8 := [163, 0, 6, 167, 0, 8, 21, 4, 61, 29, 60, 132, 3, 1, 167, 255, 201, 27, 172]
abbrev dktX1_loudest_2 : List UInt8 := dkwX1_loudest_2 ++ []
def dkwX1_loudest_1 : List UInt8 := [29, 50, 180, 0, 182, 2, 160, 0, 7, 3, 167, 0, 8, 42, 29, 182, 1, 80, 54, 4, 21, 4, 28]
abbrev dktX1_loudest_1 : List UInt8 := dkwX1_loudest_1 ++ dktX1_loudest_2
def dkwX1_loudest_0 : List UInt8 := [2, 60, 3, 61, 3, 62, 29, 42, 180, 0, 19, 180, 0, 85, 162, 0, 50, 42, 180, 0, 19, 180, 0, 96]
abbrev dktX1_loudest_0 : List UInt8 := dkwX1_loudest_0 ++ dktX1_loudest_1
theorem dksX1_loudest_0 : cX1_loudest.data.toList.drop 0 = dktX1_loudest_0 := by decide +kernel
theorem dksX1_loudest_1 : cX1_loudest.data.toList.drop 24 = dktX1_loudest_1 := dk_seg dksX1_loudest_0 24 rfl rfl
theorem dksX1_loudest_2 : cX1_loudest.data.toList.drop 47 = dktX1_loudest_2 := dk_seg dksX1_loudest_1 23 rfl rfl
theorem dX1_loudest_0 : decode cX1_loudest 0 = .ok (.iconst (-1), 1) := dk_2 (dk_at dksX1_loudest_0 0 rfl rfl)
theorem dX1_loudest_1 : decode cX1_loudest 1 = .ok (.istore_n 1, 1) := dk_60 (dk_at dksX1_loudest_0 1 rfl rfl)
theorem dX1_loudest_2 : decode cX1_loudest 2 = .ok (.iconst 0, 1) := dk_3 (dk_at dksX1_loudest_0 2 rfl rfl)
theorem dX1_loudest_3 : decode cX1_loudest 3 = .ok (.istore_n 2, 1) := dk_61 (dk_at dksX1_loudest_0 3 rfl rfl)
theorem dX1_loudest_4 : decode cX1_loudest 4 = .ok (.iconst 0, 1) := dk_3 (dk_at dksX1_loudest_0 4 rfl rfl)
theorem dX1_loudest_5 : decode cX1_loudest 5 = .ok (.istore_n 3, 1) := dk_62 (dk_at dksX1_loudest_0 5 rfl rfl)
theorem dX1_loudest_6 : decode cX1_loudest 6 = .ok (.iload_n 3, 1) := dk_29 (dk_at dksX1_loudest_0 6 rfl rfl)
theorem dX1_loudest_7 : decode cX1_loudest 7 = .ok (.aload_n 0, 1) := dk_42 (dk_at dksX1_loudest_0 7 rfl rfl)
theorem dX1_loudest_8 : decode cX1_loudest 8 = .ok (.getfield 19, 3) := dk_180 0 19 (dk_at dksX1_loudest_0 8 rfl rfl)
theorem dX1_loudest_11 : decode cX1_loudest 11 = .ok (.getfield 85, 3) := dk_180 0 85 (dk_at dksX1_loudest_0 11 rfl rfl)
theorem dX1_loudest_14 : decode cX1_loudest 14 = .ok (.if_icmp .ge 50, 3) := dk_162 0 50 (dk_at dksX1_loudest_0 14 rfl rfl)
theorem dX1_loudest_17 : decode cX1_loudest 17 = .ok (.aload_n 0, 1) := dk_42 (dk_at dksX1_loudest_0 17 rfl rfl)
theorem dX1_loudest_18 : decode cX1_loudest 18 = .ok (.getfield 19, 3) := dk_180 0 19 (dk_at dksX1_loudest_0 18 rfl rfl)
theorem dX1_loudest_21 : decode cX1_loudest 21 = .ok (.getfield 96, 3) := dk_180 0 96 (dk_at dksX1_loudest_0 21 rfl rfl)
theorem dX1_loudest_24 : decode cX1_loudest 24 = .ok (.iload_n 3, 1) := dk_29 (dk_at dksX1_loudest_1 0 rfl rfl)
theorem dX1_loudest_25 : decode cX1_loudest 25 = .ok (.aaload, 1) := dk_50 (dk_at dksX1_loudest_1 1 rfl rfl)
theorem dX1_loudest_26 : decode cX1_loudest 26 = .ok (.getfield 182, 3) := dk_180 0 182 (dk_at dksX1_loudest_1 2 rfl rfl)
theorem dX1_loudest_29 : decode cX1_loudest 29 = .ok (.iconst (-1), 1) := dk_2 (dk_at dksX1_loudest_1 5 rfl rfl)
theorem dX1_loudest_30 : decode cX1_loudest 30 = .ok (.if_icmp .ne 7, 3) := dk_160 0 7 (dk_at dksX1_loudest_1 6 rfl rfl)
theorem dX1_loudest_33 : decode cX1_loudest 33 = .ok (.iconst 0, 1) := dk_3 (dk_at dksX1_loudest_1 9 rfl rfl)
theorem dX1_loudest_34 : decode cX1_loudest 34 = .ok (.goto 8, 3) := dk_167 0 8 (dk_at dksX1_loudest_1 10 rfl rfl)
theorem dX1_loudest_37 : decode cX1_loudest 37 = .ok (.aload_n 0, 1) := dk_42 (dk_at dksX1_loudest_1 13 rfl rfl)
theorem dX1_loudest_38 : decode cX1_loudest 38 = .ok (.iload_n 3, 1) := dk_29 (dk_at dksX1_loudest_1 14 rfl rfl)
theorem dX1_loudest_39 : decode cX1_loudest 39 = .ok (.invokevirtual 336, 3) := dk_182 1 80 (dk_at dksX1_loudest_1 15 rfl rfl)
theorem dX1_loudest_42 : decode cX1_loudest 42 = .ok (.istore 4, 2) := dk_54 4 (dk_at dksX1_loudest_1 18 rfl rfl)
theorem dX1_loudest_44 : decode cX1_loudest 44 = .ok (.iload 4, 2) := dk_21 4 (dk_at dksX1_loudest_1 20 rfl rfl)
theorem dX1_loudest_46 : decode cX1_loudest 46 = .ok (.iload_n 2, 1) := dk_28 (dk_at dksX1_loudest_1 22 rfl rfl)
theorem dX1_loudest_47 : decode cX1_loudest 47 = .ok (.if_icmp .gt 6, 3) := dk_163 0 6 (dk_at dksX1_loudest_2 0 rfl rfl)
theorem dX1_loudest_50 : decode cX1_loudest 50 = .ok (.goto 8, 3) := dk_167 0 8 (dk_at dksX1_loudest_2 3 rfl rfl)
theorem dX1_loudest_53 : decode cX1_loudest 53 = .ok (.iload 4, 2) := dk_21 4 (dk_at dksX1_loudest_2 6 rfl rfl)
theorem dX1_loudest_55 : decode cX1_loudest 55 = .ok (.istore_n 2, 1) := dk_61 (dk_at dksX1_loudest_2 8 rfl rfl)
theorem dX1_loudest_56 : decode cX1_loudest 56 = .ok (.iload_n 3, 1) := dk_29 (dk_at dksX1_loudest_2 9 rfl rfl)
theorem dX1_loudest_57 : decode cX1_loudest 57 = .ok (.istore_n 1, 1) := dk_60 (dk_at dksX1_loudest_2 10 rfl rfl)
theorem dX1_loudest_58 : decode cX1_loudest 58 = .ok (.iinc 3 1, 3) := dk_132 3 1 (dk_at dksX1_loudest_2 11 rfl rfl)
theorem dX1_loudest_61 : decode cX1_loudest 61 = .ok (.goto (-55), 3) := dk_167 255 201 (dk_at dksX1_loudest_2 14 rfl rfl)
theorem dX1_loudest_64 : decode cX1_loudest 64 = .ok (.iload_n 1, 1) := dk_27 (dk_at dksX1_loudest_2 17 rfl rfl)
theorem dX1_loudest_65 : decode cX1_loudest 65 = .ok (.ireturn, 1) := dk_172 (dk_at dksX1_loudest_2 18 rfl rfl)
abbrev cX1_loud : ByteArray := prog_1_method_65_code
def yX1_loud : MethodName := ⟨RX1, "loud", "(I)I"⟩
def dkwX1_loud_3 : List UInt8 := [96, 61, 132, 3, 1, 167, 255, 185, 28, 172]
abbrev dktX1_loud_3 : List UInt8 := dkwX1_loud_3 ++ []
def dkwX1_loud_2 : List UInt8 := [182, 1, 27, 28, 42, 180, 0, 38, 180, 1, 34, 42, 180, 0, 19, 180, 0, 96, 27, 50, 180, 0, 182, 46]
abbrev dktX1_loud_2 : List UInt8 := dkwX1_loud_2 ++ dktX1_loud_3
def dkwX1_loud_1 : List UInt8 := [180, 0, 204, 153, 0, 6, 167, 0, 42, 42, 180, 0, 38, 42, 180, 0, 19, 180, 0, 103, 29, 50]
abbrev dktX1_loud_1 : List UInt8 := dkwX1_loud_1 ++ dktX1_loud_2
def dkwX1_loud_0 : List UInt8 := [3, 61, 3, 62, 29, 42, 180, 0, 19, 180, 0, 100, 162, 0, 66, 42, 180, 0, 19, 180, 0, 103, 29, 50]
abbrev dktX1_loud_0 : List UInt8 := dkwX1_loud_0 ++ dktX1_loud_1
theorem dksX1_loud_0 : cX1_loud.data.toList.drop 0 = dktX1_loud_0 := by decide +kernel
theorem dksX1_loud_1 : cX1_loud.data.toList.drop 24 = dktX1_loud_1 := dk_seg dksX1_loud_0 24 rfl rfl
theorem dksX1_loud_2 : cX1_loud.data.toList.drop 46 = dktX1_loud_2 := dk_seg dksX1_loud_1 22 rfl rfl
theorem dksX1_loud_3 : cX1_loud.data.toList.drop 70 = dktX1_loud_3 := dk_seg dksX1_loud_2 24 rfl rfl
theorem dX1_loud_0 : decode cX1_loud 0 = .ok (.iconst 0, 1) := dk_3 (dk_at dksX1_loud_0 0 rfl rfl)
theorem dX1_loud_1 : decode cX1_loud 1 = .ok (.istore_n 2, 1) := dk_61 (dk_at dksX1_loud_0 1 rfl rfl)
theorem dX1_loud_2 : decode cX1_loud 2 = .ok (.iconst 0, 1) := dk_3 (dk_at dksX1_loud_0 2 rfl rfl)
theorem dX1_loud_3 : decode cX1_loud 3 = .ok (.istore_n 3, 1) := dk_62 (dk_at dksX1_loud_0 3 rfl rfl)
theorem dX1_loud_4 : decode cX1_loud 4 = .ok (.iload_n 3, 1) := dk_29 (dk_at dksX1_loud_0 4 rfl rfl)
theorem dX1_loud_5 : decode cX1_loud 5 = .ok (.aload_n 0, 1) := dk_42 (dk_at dksX1_loud_0 5 rfl rfl)
theorem dX1_loud_6 : decode cX1_loud 6 = .ok (.getfield 19, 3) := dk_180 0 19 (dk_at dksX1_loud_0 6 rfl rfl)
theorem dX1_loud_9 : decode cX1_loud 9 = .ok (.getfield 100, 3) := dk_180 0 100 (dk_at dksX1_loud_0 9 rfl rfl)
theorem dX1_loud_12 : decode cX1_loud 12 = .ok (.if_icmp .ge 66, 3) := dk_162 0 66 (dk_at dksX1_loud_0 12 rfl rfl)
theorem dX1_loud_15 : decode cX1_loud 15 = .ok (.aload_n 0, 1) := dk_42 (dk_at dksX1_loud_0 15 rfl rfl)
theorem dX1_loud_16 : decode cX1_loud 16 = .ok (.getfield 19, 3) := dk_180 0 19 (dk_at dksX1_loud_0 16 rfl rfl)
theorem dX1_loud_19 : decode cX1_loud 19 = .ok (.getfield 103, 3) := dk_180 0 103 (dk_at dksX1_loud_0 19 rfl rfl)
theorem dX1_loud_22 : decode cX1_loud 22 = .ok (.iload_n 3, 1) := dk_29 (dk_at dksX1_loud_0 22 rfl rfl)
theorem dX1_loud_23 : decode cX1_loud 23 = .ok (.aaload, 1) := dk_50 (dk_at dksX1_loud_0 23 rfl rfl)
theorem dX1_loud_24 : decode cX1_loud 24 = .ok (.getfield 204, 3) := dk_180 0 204 (dk_at dksX1_loud_1 0 rfl rfl)
theorem dX1_loud_27 : decode cX1_loud 27 = .ok (.ifCond .eq 6, 3) := dk_153 0 6 (dk_at dksX1_loud_1 3 rfl rfl)
theorem dX1_loud_30 : decode cX1_loud 30 = .ok (.goto 42, 3) := dk_167 0 42 (dk_at dksX1_loud_1 6 rfl rfl)
theorem dX1_loud_33 : decode cX1_loud 33 = .ok (.aload_n 0, 1) := dk_42 (dk_at dksX1_loud_1 9 rfl rfl)
theorem dX1_loud_34 : decode cX1_loud 34 = .ok (.getfield 38, 3) := dk_180 0 38 (dk_at dksX1_loud_1 10 rfl rfl)
theorem dX1_loud_37 : decode cX1_loud 37 = .ok (.aload_n 0, 1) := dk_42 (dk_at dksX1_loud_1 13 rfl rfl)
theorem dX1_loud_38 : decode cX1_loud 38 = .ok (.getfield 19, 3) := dk_180 0 19 (dk_at dksX1_loud_1 14 rfl rfl)
theorem dX1_loud_41 : decode cX1_loud 41 = .ok (.getfield 103, 3) := dk_180 0 103 (dk_at dksX1_loud_1 17 rfl rfl)
theorem dX1_loud_44 : decode cX1_loud 44 = .ok (.iload_n 3, 1) := dk_29 (dk_at dksX1_loud_1 20 rfl rfl)
theorem dX1_loud_45 : decode cX1_loud 45 = .ok (.aaload, 1) := dk_50 (dk_at dksX1_loud_1 21 rfl rfl)
theorem dX1_loud_46 : decode cX1_loud 46 = .ok (.invokevirtual 283, 3) := dk_182 1 27 (dk_at dksX1_loud_2 0 rfl rfl)
theorem dX1_loud_49 : decode cX1_loud 49 = .ok (.iload_n 2, 1) := dk_28 (dk_at dksX1_loud_2 3 rfl rfl)
theorem dX1_loud_50 : decode cX1_loud 50 = .ok (.aload_n 0, 1) := dk_42 (dk_at dksX1_loud_2 4 rfl rfl)
theorem dX1_loud_51 : decode cX1_loud 51 = .ok (.getfield 38, 3) := dk_180 0 38 (dk_at dksX1_loud_2 5 rfl rfl)
theorem dX1_loud_54 : decode cX1_loud 54 = .ok (.getfield 290, 3) := dk_180 1 34 (dk_at dksX1_loud_2 8 rfl rfl)
theorem dX1_loud_57 : decode cX1_loud 57 = .ok (.aload_n 0, 1) := dk_42 (dk_at dksX1_loud_2 11 rfl rfl)
theorem dX1_loud_58 : decode cX1_loud 58 = .ok (.getfield 19, 3) := dk_180 0 19 (dk_at dksX1_loud_2 12 rfl rfl)
theorem dX1_loud_61 : decode cX1_loud 61 = .ok (.getfield 96, 3) := dk_180 0 96 (dk_at dksX1_loud_2 15 rfl rfl)
theorem dX1_loud_64 : decode cX1_loud 64 = .ok (.iload_n 1, 1) := dk_27 (dk_at dksX1_loud_2 18 rfl rfl)
theorem dX1_loud_65 : decode cX1_loud 65 = .ok (.aaload, 1) := dk_50 (dk_at dksX1_loud_2 19 rfl rfl)
theorem dX1_loud_66 : decode cX1_loud 66 = .ok (.getfield 182, 3) := dk_180 0 182 (dk_at dksX1_loud_2 20 rfl rfl)
theorem dX1_loud_69 : decode cX1_loud 69 = .ok (.iaload, 1) := dk_46 (dk_at dksX1_loud_2 23 rfl rfl)
theorem dX1_loud_70 : decode cX1_loud 70 = .ok (.iadd, 1) := dk_96 (dk_at dksX1_loud_3 0 rfl rfl)
theorem dX1_loud_71 : decode cX1_loud 71 = .ok (.istore_n 2, 1) := dk_61 (dk_at dksX1_loud_3 1 rfl rfl)
theorem dX1_loud_72 : decode cX1_loud 72 = .ok (.iinc 3 1, 3) := dk_132 3 1 (dk_at dksX1_loud_3 2 rfl rfl)
theorem dX1_loud_75 : decode cX1_loud 75 = .ok (.goto (-71), 3) := dk_167 255 185 (dk_at dksX1_loud_3 5 rfl rfl)
theorem dX1_loud_78 : decode cX1_loud 78 = .ok (.iload_n 2, 1) := dk_28 (dk_at dksX1_loud_3 8 rfl rfl)
theorem dX1_loud_79 : decode cX1_loud 79 = .ok (.ireturn, 1) := dk_172 (dk_at dksX1_loud_3 9 rfl rfl)
abbrev cX1_seed : ByteArray := prog_1_method_72_code
def yX1_seed : MethodName := ⟨RX1, "seed", "(I)I"⟩
def dkwX1_seed_0 : List UInt8 := [42, 180, 0, 19, 180, 1, 83, 61, 42, 180, 0, 19, 27, 181, 1, 83, 28, 172]
abbrev dktX1_seed_0 : List UInt8 := dkwX1_seed_0 ++ []
theorem dksX1_seed_0 : cX1_seed.data.toList.drop 0 = dktX1_seed_0 := by decide +kernel
theorem dX1_seed_0 : decode cX1_seed 0 = .ok (.aload_n 0, 1) := dk_42 (dk_at dksX1_seed_0 0 rfl rfl)
theorem dX1_seed_1 : decode cX1_seed 1 = .ok (.getfield 19, 3) := dk_180 0 19 (dk_at dksX1_seed_0 1 rfl rfl)
theorem dX1_seed_4 : decode cX1_seed 4 = .ok (.getfield 339, 3) := dk_180 1 83 (dk_at dksX1_seed_0 4 rfl rfl)
theorem dX1_seed_7 : decode cX1_seed 7 = .ok (.istore_n 2, 1) := dk_61 (dk_at dksX1_seed_0 7 rfl rfl)
theorem dX1_seed_8 : decode cX1_seed 8 = .ok (.aload_n 0, 1) := dk_42 (dk_at dksX1_seed_0 8 rfl rfl)
theorem dX1_seed_9 : decode cX1_seed 9 = .ok (.getfield 19, 3) := dk_180 0 19 (dk_at dksX1_seed_0 9 rfl rfl)
theorem dX1_seed_12 : decode cX1_seed 12 = .ok (.iload_n 1, 1) := dk_27 (dk_at dksX1_seed_0 12 rfl rfl)
theorem dX1_seed_13 : decode cX1_seed 13 = .ok (.putfield 339, 3) := dk_181 1 83 (dk_at dksX1_seed_0 13 rfl rfl)
theorem dX1_seed_16 : decode cX1_seed 16 = .ok (.iload_n 2, 1) := dk_28 (dk_at dksX1_seed_0 16 rfl rfl)
theorem dX1_seed_17 : decode cX1_seed 17 = .ok (.ireturn, 1) := dk_172 (dk_at dksX1_seed_0 17 rfl rfl)
abbrev cX1_undo : ByteArray := prog_1_method_73_code
def yX1_undo : MethodName := ⟨RX1, "undo", "()Z"⟩
def dkwX1_undo_2 : List UInt8 := [182, 0, 141, 4, 172]
abbrev dktX1_undo_2 : List UInt8 := dkwX1_undo_2 ++ []
def dkwX1_undo_1 : List UInt8 := [16, 12, 96, 4, 100, 16, 12, 112, 181, 0, 239, 42, 180, 0, 19, 42, 180, 0, 29, 42, 180, 0, 239, 50]
abbrev dktX1_undo_1 : List UInt8 := dkwX1_undo_1 ++ dktX1_undo_2
def dkwX1_undo_0 : List UInt8 := [42, 180, 0, 145, 154, 0, 5, 3, 172, 42, 89, 180, 0, 145, 4, 100, 181, 0, 145, 42, 42, 180, 0, 239]
abbrev dktX1_undo_0 : List UInt8 := dkwX1_undo_0 ++ dktX1_undo_1
theorem dksX1_undo_0 : cX1_undo.data.toList.drop 0 = dktX1_undo_0 := by decide +kernel
theorem dksX1_undo_1 : cX1_undo.data.toList.drop 24 = dktX1_undo_1 := dk_seg dksX1_undo_0 24 rfl rfl
theorem dksX1_undo_2 : cX1_undo.data.toList.drop 48 = dktX1_undo_2 := dk_seg dksX1_undo_1 24 rfl rfl
theorem dX1_undo_0 : decode cX1_undo 0 = .ok (.aload_n 0, 1) := dk_42 (dk_at dksX1_undo_0 0 rfl rfl)
theorem dX1_undo_1 : decode cX1_undo 1 = .ok (.getfield 145, 3) := dk_180 0 145 (dk_at dksX1_undo_0 1 rfl rfl)
theorem dX1_undo_4 : decode cX1_undo 4 = .ok (.ifCond .ne 5, 3) := dk_154 0 5 (dk_at dksX1_undo_0 4 rfl rfl)
theorem dX1_undo_7 : decode cX1_undo 7 = .ok (.iconst 0, 1) := dk_3 (dk_at dksX1_undo_0 7 rfl rfl)
theorem dX1_undo_8 : decode cX1_undo 8 = .ok (.ireturn, 1) := dk_172 (dk_at dksX1_undo_0 8 rfl rfl)
theorem dX1_undo_9 : decode cX1_undo 9 = .ok (.aload_n 0, 1) := dk_42 (dk_at dksX1_undo_0 9 rfl rfl)
theorem dX1_undo_10 : decode cX1_undo 10 = .ok (.dup, 1) := dk_89 (dk_at dksX1_undo_0 10 rfl rfl)
theorem dX1_undo_11 : decode cX1_undo 11 = .ok (.getfield 145, 3) := dk_180 0 145 (dk_at dksX1_undo_0 11 rfl rfl)
theorem dX1_undo_14 : decode cX1_undo 14 = .ok (.iconst 1, 1) := dk_4 (dk_at dksX1_undo_0 14 rfl rfl)
theorem dX1_undo_15 : decode cX1_undo 15 = .ok (.isub, 1) := dk_100 (dk_at dksX1_undo_0 15 rfl rfl)
theorem dX1_undo_16 : decode cX1_undo 16 = .ok (.putfield 145, 3) := dk_181 0 145 (dk_at dksX1_undo_0 16 rfl rfl)
theorem dX1_undo_19 : decode cX1_undo 19 = .ok (.aload_n 0, 1) := dk_42 (dk_at dksX1_undo_0 19 rfl rfl)
theorem dX1_undo_20 : decode cX1_undo 20 = .ok (.aload_n 0, 1) := dk_42 (dk_at dksX1_undo_0 20 rfl rfl)
theorem dX1_undo_21 : decode cX1_undo 21 = .ok (.getfield 239, 3) := dk_180 0 239 (dk_at dksX1_undo_0 21 rfl rfl)
theorem dX1_undo_24 : decode cX1_undo 24 = .ok (.bipush 12, 2) := dk_16 12 (dk_at dksX1_undo_1 0 rfl rfl)
theorem dX1_undo_26 : decode cX1_undo 26 = .ok (.iadd, 1) := dk_96 (dk_at dksX1_undo_1 2 rfl rfl)
theorem dX1_undo_27 : decode cX1_undo 27 = .ok (.iconst 1, 1) := dk_4 (dk_at dksX1_undo_1 3 rfl rfl)
theorem dX1_undo_28 : decode cX1_undo 28 = .ok (.isub, 1) := dk_100 (dk_at dksX1_undo_1 4 rfl rfl)
theorem dX1_undo_29 : decode cX1_undo 29 = .ok (.bipush 12, 2) := dk_16 12 (dk_at dksX1_undo_1 5 rfl rfl)
theorem dX1_undo_31 : decode cX1_undo 31 = .ok (.irem, 1) := dk_112 (dk_at dksX1_undo_1 7 rfl rfl)
theorem dX1_undo_32 : decode cX1_undo 32 = .ok (.putfield 239, 3) := dk_181 0 239 (dk_at dksX1_undo_1 8 rfl rfl)
theorem dX1_undo_35 : decode cX1_undo 35 = .ok (.aload_n 0, 1) := dk_42 (dk_at dksX1_undo_1 11 rfl rfl)
theorem dX1_undo_36 : decode cX1_undo 36 = .ok (.getfield 19, 3) := dk_180 0 19 (dk_at dksX1_undo_1 12 rfl rfl)
theorem dX1_undo_39 : decode cX1_undo 39 = .ok (.aload_n 0, 1) := dk_42 (dk_at dksX1_undo_1 15 rfl rfl)
theorem dX1_undo_40 : decode cX1_undo 40 = .ok (.getfield 29, 3) := dk_180 0 29 (dk_at dksX1_undo_1 16 rfl rfl)
theorem dX1_undo_43 : decode cX1_undo 43 = .ok (.aload_n 0, 1) := dk_42 (dk_at dksX1_undo_1 19 rfl rfl)
theorem dX1_undo_44 : decode cX1_undo 44 = .ok (.getfield 239, 3) := dk_180 0 239 (dk_at dksX1_undo_1 20 rfl rfl)
theorem dX1_undo_47 : decode cX1_undo 47 = .ok (.aaload, 1) := dk_50 (dk_at dksX1_undo_1 23 rfl rfl)
theorem dX1_undo_48 : decode cX1_undo 48 = .ok (.invokevirtual 141, 3) := dk_182 0 141 (dk_at dksX1_undo_2 0 rfl rfl)
theorem dX1_undo_51 : decode cX1_undo 51 = .ok (.iconst 1, 1) := dk_4 (dk_at dksX1_undo_2 3 rfl rfl)
theorem dX1_undo_52 : decode cX1_undo 52 = .ok (.ireturn, 1) := dk_172 (dk_at dksX1_undo_2 4 rfl rfl)
abbrev cX1_image : ByteArray := prog_1_method_74_code
def yX1_image : MethodName := ⟨RX1, "image", "()V"⟩
def dkwX1_image_0 : List UInt8 := [42, 180, 0, 23, 42, 180, 0, 19, 182, 0, 141, 42, 4, 181, 1, 97, 177]
abbrev dktX1_image_0 : List UInt8 := dkwX1_image_0 ++ []
theorem dksX1_image_0 : cX1_image.data.toList.drop 0 = dktX1_image_0 := by decide +kernel
theorem dX1_image_0 : decode cX1_image 0 = .ok (.aload_n 0, 1) := dk_42 (dk_at dksX1_image_0 0 rfl rfl)
theorem dX1_image_1 : decode cX1_image 1 = .ok (.getfield 23, 3) := dk_180 0 23 (dk_at dksX1_image_0 1 rfl rfl)
theorem dX1_image_4 : decode cX1_image 4 = .ok (.aload_n 0, 1) := dk_42 (dk_at dksX1_image_0 4 rfl rfl)
theorem dX1_image_5 : decode cX1_image 5 = .ok (.getfield 19, 3) := dk_180 0 19 (dk_at dksX1_image_0 5 rfl rfl)
theorem dX1_image_8 : decode cX1_image 8 = .ok (.invokevirtual 141, 3) := dk_182 0 141 (dk_at dksX1_image_0 8 rfl rfl)
theorem dX1_image_11 : decode cX1_image 11 = .ok (.aload_n 0, 1) := dk_42 (dk_at dksX1_image_0 11 rfl rfl)
theorem dX1_image_12 : decode cX1_image 12 = .ok (.iconst 1, 1) := dk_4 (dk_at dksX1_image_0 12 rfl rfl)
theorem dX1_image_13 : decode cX1_image 13 = .ok (.putfield 353, 3) := dk_181 1 97 (dk_at dksX1_image_0 13 rfl rfl)
theorem dX1_image_16 : decode cX1_image 16 = .ok (.return_, 1) := dk_177 (dk_at dksX1_image_0 16 rfl rfl)
abbrev cX1_back : ByteArray := prog_1_method_75_code
def yX1_back : MethodName := ⟨RX1, "back", "()Z"⟩
def dkwX1_back_1 : List UInt8 := [181, 0, 145, 4, 172]
abbrev dktX1_back_1 : List UInt8 := dkwX1_back_1 ++ []
def dkwX1_back_0 : List UInt8 := [42, 180, 1, 97, 154, 0, 5, 3, 172, 42, 180, 0, 19, 42, 180, 0, 23, 182, 0, 141, 42, 3]
abbrev dktX1_back_0 : List UInt8 := dkwX1_back_0 ++ dktX1_back_1
theorem dksX1_back_0 : cX1_back.data.toList.drop 0 = dktX1_back_0 := by decide +kernel
theorem dksX1_back_1 : cX1_back.data.toList.drop 22 = dktX1_back_1 := dk_seg dksX1_back_0 22 rfl rfl
theorem dX1_back_0 : decode cX1_back 0 = .ok (.aload_n 0, 1) := dk_42 (dk_at dksX1_back_0 0 rfl rfl)
theorem dX1_back_1 : decode cX1_back 1 = .ok (.getfield 353, 3) := dk_180 1 97 (dk_at dksX1_back_0 1 rfl rfl)
theorem dX1_back_4 : decode cX1_back 4 = .ok (.ifCond .ne 5, 3) := dk_154 0 5 (dk_at dksX1_back_0 4 rfl rfl)
theorem dX1_back_7 : decode cX1_back 7 = .ok (.iconst 0, 1) := dk_3 (dk_at dksX1_back_0 7 rfl rfl)
theorem dX1_back_8 : decode cX1_back 8 = .ok (.ireturn, 1) := dk_172 (dk_at dksX1_back_0 8 rfl rfl)
theorem dX1_back_9 : decode cX1_back 9 = .ok (.aload_n 0, 1) := dk_42 (dk_at dksX1_back_0 9 rfl rfl)
theorem dX1_back_10 : decode cX1_back 10 = .ok (.getfield 19, 3) := dk_180 0 19 (dk_at dksX1_back_0 10 rfl rfl)
theorem dX1_back_13 : decode cX1_back 13 = .ok (.aload_n 0, 1) := dk_42 (dk_at dksX1_back_0 13 rfl rfl)
theorem dX1_back_14 : decode cX1_back 14 = .ok (.getfield 23, 3) := dk_180 0 23 (dk_at dksX1_back_0 14 rfl rfl)
theorem dX1_back_17 : decode cX1_back 17 = .ok (.invokevirtual 141, 3) := dk_182 0 141 (dk_at dksX1_back_0 17 rfl rfl)
theorem dX1_back_20 : decode cX1_back 20 = .ok (.aload_n 0, 1) := dk_42 (dk_at dksX1_back_0 20 rfl rfl)
theorem dX1_back_21 : decode cX1_back 21 = .ok (.iconst 0, 1) := dk_3 (dk_at dksX1_back_0 21 rfl rfl)
theorem dX1_back_22 : decode cX1_back 22 = .ok (.putfield 145, 3) := dk_181 0 145 (dk_at dksX1_back_1 0 rfl rfl)
theorem dX1_back_25 : decode cX1_back 25 = .ok (.iconst 1, 1) := dk_4 (dk_at dksX1_back_1 3 rfl rfl)
theorem dX1_back_26 : decode cX1_back 26 = .ok (.ireturn, 1) := dk_172 (dk_at dksX1_back_1 4 rfl rfl)
abbrev cX1_count : ByteArray := prog_1_method_78_code
def yX1_count : MethodName := ⟨RX1, "count", "(I)I"⟩
def dkwX1_count_7 : List UInt8 := [180, 0, 145, 172, 2, 172]
abbrev dktX1_count_7 : List UInt8 := dkwX1_count_7 ++ []
def dkwX1_count_6 : List UInt8 := [182, 1, 10, 172, 42, 182, 1, 104, 172, 16, 60, 42, 180, 0, 19, 180, 1, 106, 184, 0, 233, 172, 42]
abbrev dktX1_count_6 : List UInt8 := dkwX1_count_6 ++ dktX1_count_7
def dkwX1_count_5 : List UInt8 := [180, 0, 19, 4, 182, 1, 10, 172, 42, 180, 0, 19, 5, 182, 1, 10, 172, 42, 180, 0, 19, 6]
abbrev dktX1_count_5 : List UInt8 := dkwX1_count_5 ++ dktX1_count_6
def dkwX1_count_4 : List UInt8 := [42, 180, 0, 19, 180, 1, 57, 172, 42, 182, 1, 101, 172, 42, 180, 0, 19, 3, 182, 1, 10, 172, 42]
abbrev dktX1_count_4 : List UInt8 := dkwX1_count_4 ++ dktX1_count_5
def dkwX1_count_3 : List UInt8 := [42, 180, 0, 19, 180, 0, 152, 172, 42, 180, 0, 19, 180, 1, 24, 172, 42, 180, 0, 19, 180, 1, 18, 172]
abbrev dktX1_count_3 : List UInt8 := dkwX1_count_3 ++ dktX1_count_4
def dkwX1_count_2 : List UInt8 := [42, 180, 0, 19, 180, 0, 85, 172, 42, 180, 0, 19, 180, 0, 100, 172, 42, 180, 0, 19, 180, 0, 135, 172]
abbrev dktX1_count_2 : List UInt8 := dkwX1_count_2 ++ dktX1_count_3
def dkwX1_count_1 : List UInt8 := [170, 0, 0, 0, 0, 0, 195, 0, 0, 0, 0, 0, 0, 0, 14, 0, 0, 0, 75, 0, 0, 0, 83, 0, 0, 0, 91, 0, 0, 0, 99, 0, 0, 0, 107, 0, 0, 0, 115, 0, 0, 0, 123, 0, 0, 0, 131, 0, 0, 0, 136, 0, 0, 0, 145, 0, 0, 0, 154, 0, 0, 0, 163, 0, 0, 0, 172, 0, 0, 0, 177, 0, 0, 0, 190]
abbrev dktX1_count_1 : List UInt8 := dkwX1_count_1 ++ dktX1_count_2
def dkwX1_count_0 : List UInt8 := [27]
abbrev dktX1_count_0 : List UInt8 := dkwX1_count_0 ++ dktX1_count_1
theorem dksX1_count_0 : cX1_count.data.toList.drop 0 = dktX1_count_0 := by decide +kernel
theorem dksX1_count_1 : cX1_count.data.toList.drop 1 = dktX1_count_1 := dk_seg dksX1_count_0 1 rfl rfl
theorem dksX1_count_2 : cX1_count.data.toList.drop 76 = dktX1_count_2 := dk_seg dksX1_count_1 75 rfl rfl
theorem dksX1_count_3 : cX1_count.data.toList.drop 100 = dktX1_count_3 := dk_seg dksX1_count_2 24 rfl rfl
theorem dksX1_count_4 : cX1_count.data.toList.drop 124 = dktX1_count_4 := dk_seg dksX1_count_3 24 rfl rfl
theorem dksX1_count_5 : cX1_count.data.toList.drop 147 = dktX1_count_5 := dk_seg dksX1_count_4 23 rfl rfl
theorem dksX1_count_6 : cX1_count.data.toList.drop 169 = dktX1_count_6 := dk_seg dksX1_count_5 22 rfl rfl
theorem dksX1_count_7 : cX1_count.data.toList.drop 192 = dktX1_count_7 := dk_seg dksX1_count_6 23 rfl rfl
theorem dX1_count_0 : decode cX1_count 0 = .ok (.iload_n 1, 1) := dk_27 (dk_at dksX1_count_0 0 rfl rfl)
theorem dX1_count_1 : decode cX1_count 1 = .ok (.tableswitch 195 0 14 #[75, 83, 91, 99, 107, 115, 123, 131, 136, 145, 154, 163, 172, 177, 190], 75) := by decide +kernel
theorem dX1_count_76 : decode cX1_count 76 = .ok (.aload_n 0, 1) := dk_42 (dk_at dksX1_count_2 0 rfl rfl)
theorem dX1_count_77 : decode cX1_count 77 = .ok (.getfield 19, 3) := dk_180 0 19 (dk_at dksX1_count_2 1 rfl rfl)
theorem dX1_count_80 : decode cX1_count 80 = .ok (.getfield 85, 3) := dk_180 0 85 (dk_at dksX1_count_2 4 rfl rfl)
theorem dX1_count_83 : decode cX1_count 83 = .ok (.ireturn, 1) := dk_172 (dk_at dksX1_count_2 7 rfl rfl)
theorem dX1_count_84 : decode cX1_count 84 = .ok (.aload_n 0, 1) := dk_42 (dk_at dksX1_count_2 8 rfl rfl)
theorem dX1_count_85 : decode cX1_count 85 = .ok (.getfield 19, 3) := dk_180 0 19 (dk_at dksX1_count_2 9 rfl rfl)
theorem dX1_count_88 : decode cX1_count 88 = .ok (.getfield 100, 3) := dk_180 0 100 (dk_at dksX1_count_2 12 rfl rfl)
theorem dX1_count_91 : decode cX1_count 91 = .ok (.ireturn, 1) := dk_172 (dk_at dksX1_count_2 15 rfl rfl)
theorem dX1_count_92 : decode cX1_count 92 = .ok (.aload_n 0, 1) := dk_42 (dk_at dksX1_count_2 16 rfl rfl)
theorem dX1_count_93 : decode cX1_count 93 = .ok (.getfield 19, 3) := dk_180 0 19 (dk_at dksX1_count_2 17 rfl rfl)
theorem dX1_count_96 : decode cX1_count 96 = .ok (.getfield 135, 3) := dk_180 0 135 (dk_at dksX1_count_2 20 rfl rfl)
theorem dX1_count_99 : decode cX1_count 99 = .ok (.ireturn, 1) := dk_172 (dk_at dksX1_count_2 23 rfl rfl)
theorem dX1_count_100 : decode cX1_count 100 = .ok (.aload_n 0, 1) := dk_42 (dk_at dksX1_count_3 0 rfl rfl)
theorem dX1_count_101 : decode cX1_count 101 = .ok (.getfield 19, 3) := dk_180 0 19 (dk_at dksX1_count_3 1 rfl rfl)
theorem dX1_count_104 : decode cX1_count 104 = .ok (.getfield 152, 3) := dk_180 0 152 (dk_at dksX1_count_3 4 rfl rfl)
theorem dX1_count_107 : decode cX1_count 107 = .ok (.ireturn, 1) := dk_172 (dk_at dksX1_count_3 7 rfl rfl)
theorem dX1_count_108 : decode cX1_count 108 = .ok (.aload_n 0, 1) := dk_42 (dk_at dksX1_count_3 8 rfl rfl)
theorem dX1_count_109 : decode cX1_count 109 = .ok (.getfield 19, 3) := dk_180 0 19 (dk_at dksX1_count_3 9 rfl rfl)
theorem dX1_count_112 : decode cX1_count 112 = .ok (.getfield 280, 3) := dk_180 1 24 (dk_at dksX1_count_3 12 rfl rfl)
theorem dX1_count_115 : decode cX1_count 115 = .ok (.ireturn, 1) := dk_172 (dk_at dksX1_count_3 15 rfl rfl)
theorem dX1_count_116 : decode cX1_count 116 = .ok (.aload_n 0, 1) := dk_42 (dk_at dksX1_count_3 16 rfl rfl)
theorem dX1_count_117 : decode cX1_count 117 = .ok (.getfield 19, 3) := dk_180 0 19 (dk_at dksX1_count_3 17 rfl rfl)
theorem dX1_count_120 : decode cX1_count 120 = .ok (.getfield 274, 3) := dk_180 1 18 (dk_at dksX1_count_3 20 rfl rfl)
theorem dX1_count_123 : decode cX1_count 123 = .ok (.ireturn, 1) := dk_172 (dk_at dksX1_count_3 23 rfl rfl)
theorem dX1_count_124 : decode cX1_count 124 = .ok (.aload_n 0, 1) := dk_42 (dk_at dksX1_count_4 0 rfl rfl)
theorem dX1_count_125 : decode cX1_count 125 = .ok (.getfield 19, 3) := dk_180 0 19 (dk_at dksX1_count_4 1 rfl rfl)
theorem dX1_count_128 : decode cX1_count 128 = .ok (.getfield 313, 3) := dk_180 1 57 (dk_at dksX1_count_4 4 rfl rfl)
theorem dX1_count_131 : decode cX1_count 131 = .ok (.ireturn, 1) := dk_172 (dk_at dksX1_count_4 7 rfl rfl)
theorem dX1_count_132 : decode cX1_count 132 = .ok (.aload_n 0, 1) := dk_42 (dk_at dksX1_count_4 8 rfl rfl)
theorem dX1_count_133 : decode cX1_count 133 = .ok (.invokevirtual 357, 3) := dk_182 1 101 (dk_at dksX1_count_4 9 rfl rfl)
theorem dX1_count_136 : decode cX1_count 136 = .ok (.ireturn, 1) := dk_172 (dk_at dksX1_count_4 12 rfl rfl)
theorem dX1_count_137 : decode cX1_count 137 = .ok (.aload_n 0, 1) := dk_42 (dk_at dksX1_count_4 13 rfl rfl)
theorem dX1_count_138 : decode cX1_count 138 = .ok (.getfield 19, 3) := dk_180 0 19 (dk_at dksX1_count_4 14 rfl rfl)
theorem dX1_count_141 : decode cX1_count 141 = .ok (.iconst 0, 1) := dk_3 (dk_at dksX1_count_4 17 rfl rfl)
theorem dX1_count_142 : decode cX1_count 142 = .ok (.invokevirtual 266, 3) := dk_182 1 10 (dk_at dksX1_count_4 18 rfl rfl)
theorem dX1_count_145 : decode cX1_count 145 = .ok (.ireturn, 1) := dk_172 (dk_at dksX1_count_4 21 rfl rfl)
theorem dX1_count_146 : decode cX1_count 146 = .ok (.aload_n 0, 1) := dk_42 (dk_at dksX1_count_4 22 rfl rfl)
theorem dX1_count_147 : decode cX1_count 147 = .ok (.getfield 19, 3) := dk_180 0 19 (dk_at dksX1_count_5 0 rfl rfl)
theorem dX1_count_150 : decode cX1_count 150 = .ok (.iconst 1, 1) := dk_4 (dk_at dksX1_count_5 3 rfl rfl)
theorem dX1_count_151 : decode cX1_count 151 = .ok (.invokevirtual 266, 3) := dk_182 1 10 (dk_at dksX1_count_5 4 rfl rfl)
theorem dX1_count_154 : decode cX1_count 154 = .ok (.ireturn, 1) := dk_172 (dk_at dksX1_count_5 7 rfl rfl)
theorem dX1_count_155 : decode cX1_count 155 = .ok (.aload_n 0, 1) := dk_42 (dk_at dksX1_count_5 8 rfl rfl)
theorem dX1_count_156 : decode cX1_count 156 = .ok (.getfield 19, 3) := dk_180 0 19 (dk_at dksX1_count_5 9 rfl rfl)
theorem dX1_count_159 : decode cX1_count 159 = .ok (.iconst 2, 1) := dk_5 (dk_at dksX1_count_5 12 rfl rfl)
theorem dX1_count_160 : decode cX1_count 160 = .ok (.invokevirtual 266, 3) := dk_182 1 10 (dk_at dksX1_count_5 13 rfl rfl)
theorem dX1_count_163 : decode cX1_count 163 = .ok (.ireturn, 1) := dk_172 (dk_at dksX1_count_5 16 rfl rfl)
theorem dX1_count_164 : decode cX1_count 164 = .ok (.aload_n 0, 1) := dk_42 (dk_at dksX1_count_5 17 rfl rfl)
theorem dX1_count_165 : decode cX1_count 165 = .ok (.getfield 19, 3) := dk_180 0 19 (dk_at dksX1_count_5 18 rfl rfl)
theorem dX1_count_168 : decode cX1_count 168 = .ok (.iconst 3, 1) := dk_6 (dk_at dksX1_count_5 21 rfl rfl)
theorem dX1_count_169 : decode cX1_count 169 = .ok (.invokevirtual 266, 3) := dk_182 1 10 (dk_at dksX1_count_6 0 rfl rfl)
theorem dX1_count_172 : decode cX1_count 172 = .ok (.ireturn, 1) := dk_172 (dk_at dksX1_count_6 3 rfl rfl)
theorem dX1_count_173 : decode cX1_count 173 = .ok (.aload_n 0, 1) := dk_42 (dk_at dksX1_count_6 4 rfl rfl)
theorem dX1_count_174 : decode cX1_count 174 = .ok (.invokevirtual 360, 3) := dk_182 1 104 (dk_at dksX1_count_6 5 rfl rfl)
theorem dX1_count_177 : decode cX1_count 177 = .ok (.ireturn, 1) := dk_172 (dk_at dksX1_count_6 8 rfl rfl)
theorem dX1_count_178 : decode cX1_count 178 = .ok (.bipush 60, 2) := dk_16 60 (dk_at dksX1_count_6 9 rfl rfl)
theorem dX1_count_180 : decode cX1_count 180 = .ok (.aload_n 0, 1) := dk_42 (dk_at dksX1_count_6 11 rfl rfl)
theorem dX1_count_181 : decode cX1_count 181 = .ok (.getfield 19, 3) := dk_180 0 19 (dk_at dksX1_count_6 12 rfl rfl)
theorem dX1_count_184 : decode cX1_count 184 = .ok (.getfield 362, 3) := dk_180 1 106 (dk_at dksX1_count_6 15 rfl rfl)
theorem dX1_count_187 : decode cX1_count 187 = .ok (.invokestatic 233, 3) := dk_184 0 233 (dk_at dksX1_count_6 18 rfl rfl)
theorem dX1_count_190 : decode cX1_count 190 = .ok (.ireturn, 1) := dk_172 (dk_at dksX1_count_6 21 rfl rfl)
theorem dX1_count_191 : decode cX1_count 191 = .ok (.aload_n 0, 1) := dk_42 (dk_at dksX1_count_6 22 rfl rfl)
theorem dX1_count_192 : decode cX1_count 192 = .ok (.getfield 145, 3) := dk_180 0 145 (dk_at dksX1_count_7 0 rfl rfl)
theorem dX1_count_195 : decode cX1_count 195 = .ok (.ireturn, 1) := dk_172 (dk_at dksX1_count_7 3 rfl rfl)
theorem dX1_count_196 : decode cX1_count 196 = .ok (.iconst (-1), 1) := dk_2 (dk_at dksX1_count_7 4 rfl rfl)
theorem dX1_count_197 : decode cX1_count 197 = .ok (.ireturn, 1) := dk_172 (dk_at dksX1_count_7 5 rfl rfl)
abbrev cX1_full : ByteArray := prog_1_method_77_code
def yX1_full : MethodName := ⟨RX1, "full", "()I"⟩
def dkwX1_full_1 : List UInt8 := [4, 28, 120, 167, 0, 4, 3, 128, 60, 132, 2, 1, 167, 255, 224, 27, 172]
abbrev dktX1_full_1 : List UInt8 := dkwX1_full_1 ++ []
def dkwX1_full_0 : List UInt8 := [3, 60, 3, 61, 28, 16, 10, 162, 0, 32, 27, 42, 180, 0, 19, 180, 0, 188, 28, 46, 2, 159, 0, 9]
abbrev dktX1_full_0 : List UInt8 := dkwX1_full_0 ++ dktX1_full_1
theorem dksX1_full_0 : cX1_full.data.toList.drop 0 = dktX1_full_0 := by decide +kernel
theorem dksX1_full_1 : cX1_full.data.toList.drop 24 = dktX1_full_1 := dk_seg dksX1_full_0 24 rfl rfl
theorem dX1_full_0 : decode cX1_full 0 = .ok (.iconst 0, 1) := dk_3 (dk_at dksX1_full_0 0 rfl rfl)
theorem dX1_full_1 : decode cX1_full 1 = .ok (.istore_n 1, 1) := dk_60 (dk_at dksX1_full_0 1 rfl rfl)
theorem dX1_full_2 : decode cX1_full 2 = .ok (.iconst 0, 1) := dk_3 (dk_at dksX1_full_0 2 rfl rfl)
theorem dX1_full_3 : decode cX1_full 3 = .ok (.istore_n 2, 1) := dk_61 (dk_at dksX1_full_0 3 rfl rfl)
theorem dX1_full_4 : decode cX1_full 4 = .ok (.iload_n 2, 1) := dk_28 (dk_at dksX1_full_0 4 rfl rfl)
theorem dX1_full_5 : decode cX1_full 5 = .ok (.bipush 10, 2) := dk_16 10 (dk_at dksX1_full_0 5 rfl rfl)
theorem dX1_full_7 : decode cX1_full 7 = .ok (.if_icmp .ge 32, 3) := dk_162 0 32 (dk_at dksX1_full_0 7 rfl rfl)
theorem dX1_full_10 : decode cX1_full 10 = .ok (.iload_n 1, 1) := dk_27 (dk_at dksX1_full_0 10 rfl rfl)
theorem dX1_full_11 : decode cX1_full 11 = .ok (.aload_n 0, 1) := dk_42 (dk_at dksX1_full_0 11 rfl rfl)
theorem dX1_full_12 : decode cX1_full 12 = .ok (.getfield 19, 3) := dk_180 0 19 (dk_at dksX1_full_0 12 rfl rfl)
theorem dX1_full_15 : decode cX1_full 15 = .ok (.getfield 188, 3) := dk_180 0 188 (dk_at dksX1_full_0 15 rfl rfl)
theorem dX1_full_18 : decode cX1_full 18 = .ok (.iload_n 2, 1) := dk_28 (dk_at dksX1_full_0 18 rfl rfl)
theorem dX1_full_19 : decode cX1_full 19 = .ok (.iaload, 1) := dk_46 (dk_at dksX1_full_0 19 rfl rfl)
theorem dX1_full_20 : decode cX1_full 20 = .ok (.iconst (-1), 1) := dk_2 (dk_at dksX1_full_0 20 rfl rfl)
theorem dX1_full_21 : decode cX1_full 21 = .ok (.if_icmp .eq 9, 3) := dk_159 0 9 (dk_at dksX1_full_0 21 rfl rfl)
theorem dX1_full_24 : decode cX1_full 24 = .ok (.iconst 1, 1) := dk_4 (dk_at dksX1_full_1 0 rfl rfl)
theorem dX1_full_25 : decode cX1_full 25 = .ok (.iload_n 2, 1) := dk_28 (dk_at dksX1_full_1 1 rfl rfl)
theorem dX1_full_26 : decode cX1_full 26 = .ok (.ishl, 1) := dk_120 (dk_at dksX1_full_1 2 rfl rfl)
theorem dX1_full_27 : decode cX1_full 27 = .ok (.goto 4, 3) := dk_167 0 4 (dk_at dksX1_full_1 3 rfl rfl)
theorem dX1_full_30 : decode cX1_full 30 = .ok (.iconst 0, 1) := dk_3 (dk_at dksX1_full_1 6 rfl rfl)
theorem dX1_full_31 : decode cX1_full 31 = .ok (.ior, 1) := dk_128 (dk_at dksX1_full_1 7 rfl rfl)
theorem dX1_full_32 : decode cX1_full 32 = .ok (.istore_n 1, 1) := dk_60 (dk_at dksX1_full_1 8 rfl rfl)
theorem dX1_full_33 : decode cX1_full 33 = .ok (.iinc 2 1, 3) := dk_132 2 1 (dk_at dksX1_full_1 9 rfl rfl)
theorem dX1_full_36 : decode cX1_full 36 = .ok (.goto (-32), 3) := dk_167 255 224 (dk_at dksX1_full_1 12 rfl rfl)
theorem dX1_full_39 : decode cX1_full 39 = .ok (.iload_n 1, 1) := dk_27 (dk_at dksX1_full_1 15 rfl rfl)
theorem dX1_full_40 : decode cX1_full 40 = .ok (.ireturn, 1) := dk_172 (dk_at dksX1_full_1 16 rfl rfl)
abbrev cX1_worn : ByteArray := prog_1_method_76_code
def yX1_worn : MethodName := ⟨RX1, "worn", "()I"⟩
def dkwX1_worn_1 : List UInt8 := [50, 180, 0, 179, 96, 60, 132, 2, 1, 167, 255, 227, 27, 172]
abbrev dktX1_worn_1 : List UInt8 := dkwX1_worn_1 ++ []
def dkwX1_worn_0 : List UInt8 := [3, 60, 3, 61, 28, 42, 180, 0, 19, 180, 0, 85, 162, 0, 24, 27, 42, 180, 0, 19, 180, 0, 96, 28]
abbrev dktX1_worn_0 : List UInt8 := dkwX1_worn_0 ++ dktX1_worn_1
theorem dksX1_worn_0 : cX1_worn.data.toList.drop 0 = dktX1_worn_0 := by decide +kernel
theorem dksX1_worn_1 : cX1_worn.data.toList.drop 24 = dktX1_worn_1 := dk_seg dksX1_worn_0 24 rfl rfl
theorem dX1_worn_0 : decode cX1_worn 0 = .ok (.iconst 0, 1) := dk_3 (dk_at dksX1_worn_0 0 rfl rfl)
theorem dX1_worn_1 : decode cX1_worn 1 = .ok (.istore_n 1, 1) := dk_60 (dk_at dksX1_worn_0 1 rfl rfl)
theorem dX1_worn_2 : decode cX1_worn 2 = .ok (.iconst 0, 1) := dk_3 (dk_at dksX1_worn_0 2 rfl rfl)
theorem dX1_worn_3 : decode cX1_worn 3 = .ok (.istore_n 2, 1) := dk_61 (dk_at dksX1_worn_0 3 rfl rfl)
theorem dX1_worn_4 : decode cX1_worn 4 = .ok (.iload_n 2, 1) := dk_28 (dk_at dksX1_worn_0 4 rfl rfl)
theorem dX1_worn_5 : decode cX1_worn 5 = .ok (.aload_n 0, 1) := dk_42 (dk_at dksX1_worn_0 5 rfl rfl)
theorem dX1_worn_6 : decode cX1_worn 6 = .ok (.getfield 19, 3) := dk_180 0 19 (dk_at dksX1_worn_0 6 rfl rfl)
theorem dX1_worn_9 : decode cX1_worn 9 = .ok (.getfield 85, 3) := dk_180 0 85 (dk_at dksX1_worn_0 9 rfl rfl)
theorem dX1_worn_12 : decode cX1_worn 12 = .ok (.if_icmp .ge 24, 3) := dk_162 0 24 (dk_at dksX1_worn_0 12 rfl rfl)
theorem dX1_worn_15 : decode cX1_worn 15 = .ok (.iload_n 1, 1) := dk_27 (dk_at dksX1_worn_0 15 rfl rfl)
theorem dX1_worn_16 : decode cX1_worn 16 = .ok (.aload_n 0, 1) := dk_42 (dk_at dksX1_worn_0 16 rfl rfl)
theorem dX1_worn_17 : decode cX1_worn 17 = .ok (.getfield 19, 3) := dk_180 0 19 (dk_at dksX1_worn_0 17 rfl rfl)
theorem dX1_worn_20 : decode cX1_worn 20 = .ok (.getfield 96, 3) := dk_180 0 96 (dk_at dksX1_worn_0 20 rfl rfl)
theorem dX1_worn_23 : decode cX1_worn 23 = .ok (.iload_n 2, 1) := dk_28 (dk_at dksX1_worn_0 23 rfl rfl)
theorem dX1_worn_24 : decode cX1_worn 24 = .ok (.aaload, 1) := dk_50 (dk_at dksX1_worn_1 0 rfl rfl)
theorem dX1_worn_25 : decode cX1_worn 25 = .ok (.getfield 179, 3) := dk_180 0 179 (dk_at dksX1_worn_1 1 rfl rfl)
theorem dX1_worn_28 : decode cX1_worn 28 = .ok (.iadd, 1) := dk_96 (dk_at dksX1_worn_1 4 rfl rfl)
theorem dX1_worn_29 : decode cX1_worn 29 = .ok (.istore_n 1, 1) := dk_60 (dk_at dksX1_worn_1 5 rfl rfl)
theorem dX1_worn_30 : decode cX1_worn 30 = .ok (.iinc 2 1, 3) := dk_132 2 1 (dk_at dksX1_worn_1 6 rfl rfl)
theorem dX1_worn_33 : decode cX1_worn 33 = .ok (.goto (-29), 3) := dk_167 255 227 (dk_at dksX1_worn_1 9 rfl rfl)
theorem dX1_worn_36 : decode cX1_worn 36 = .ok (.iload_n 1, 1) := dk_27 (dk_at dksX1_worn_1 12 rfl rfl)
theorem dX1_worn_37 : decode cX1_worn 37 = .ok (.ireturn, 1) := dk_172 (dk_at dksX1_worn_1 13 rfl rfl)
abbrev cX1_court : ByteArray := prog_1_method_16_code
def yX1_court : MethodName := ⟨RX1, "court", "()I"⟩
def dkwX1_court_3 : List UInt8 := [96, 181, 0, 135, 42, 3, 181, 0, 145, 42, 180, 0, 19, 180, 0, 135, 172]
abbrev dktX1_court_3 : List UInt8 := dkwX1_court_3 ++ []
def dkwX1_court_2 : List UInt8 := [167, 0, 4, 3, 184, 0, 138, 42, 180, 0, 19, 44, 182, 0, 141, 42, 180, 0, 19, 89, 180, 0, 135, 4]
abbrev dktX1_court_2 : List UInt8 := dkwX1_court_2 ++ dktX1_court_3
def dkwX1_court_1 : List UInt8 := [167, 0, 10, 78, 42, 45, 182, 0, 131, 191, 42, 180, 0, 19, 180, 0, 135, 16, 12, 162, 0, 7, 4]
abbrev dktX1_court_1 : List UInt8 := dkwX1_court_1 ++ dktX1_court_2
def dkwX1_court_0 : List UInt8 := [42, 182, 0, 123, 60, 42, 2, 181, 0, 63, 42, 180, 0, 10, 27, 42, 180, 0, 19, 182, 0, 127, 77]
abbrev dktX1_court_0 : List UInt8 := dkwX1_court_0 ++ dktX1_court_1
theorem dksX1_court_0 : cX1_court.data.toList.drop 0 = dktX1_court_0 := by decide +kernel
theorem dksX1_court_1 : cX1_court.data.toList.drop 23 = dktX1_court_1 := dk_seg dksX1_court_0 23 rfl rfl
theorem dksX1_court_2 : cX1_court.data.toList.drop 46 = dktX1_court_2 := dk_seg dksX1_court_1 23 rfl rfl
theorem dksX1_court_3 : cX1_court.data.toList.drop 70 = dktX1_court_3 := dk_seg dksX1_court_2 24 rfl rfl
theorem dX1_court_0 : decode cX1_court 0 = .ok (.aload_n 0, 1) := dk_42 (dk_at dksX1_court_0 0 rfl rfl)
theorem dX1_court_1 : decode cX1_court 1 = .ok (.invokevirtual 123, 3) := dk_182 0 123 (dk_at dksX1_court_0 1 rfl rfl)
theorem dX1_court_4 : decode cX1_court 4 = .ok (.istore_n 1, 1) := dk_60 (dk_at dksX1_court_0 4 rfl rfl)
theorem dX1_court_5 : decode cX1_court 5 = .ok (.aload_n 0, 1) := dk_42 (dk_at dksX1_court_0 5 rfl rfl)
theorem dX1_court_6 : decode cX1_court 6 = .ok (.iconst (-1), 1) := dk_2 (dk_at dksX1_court_0 6 rfl rfl)
theorem dX1_court_7 : decode cX1_court 7 = .ok (.putfield 63, 3) := dk_181 0 63 (dk_at dksX1_court_0 7 rfl rfl)
theorem dX1_court_10 : decode cX1_court 10 = .ok (.aload_n 0, 1) := dk_42 (dk_at dksX1_court_0 10 rfl rfl)
theorem dX1_court_11 : decode cX1_court 11 = .ok (.getfield 10, 3) := dk_180 0 10 (dk_at dksX1_court_0 11 rfl rfl)
theorem dX1_court_14 : decode cX1_court 14 = .ok (.iload_n 1, 1) := dk_27 (dk_at dksX1_court_0 14 rfl rfl)
theorem dX1_court_15 : decode cX1_court 15 = .ok (.aload_n 0, 1) := dk_42 (dk_at dksX1_court_0 15 rfl rfl)
theorem dX1_court_16 : decode cX1_court 16 = .ok (.getfield 19, 3) := dk_180 0 19 (dk_at dksX1_court_0 16 rfl rfl)
theorem dX1_court_19 : decode cX1_court 19 = .ok (.invokevirtual 127, 3) := dk_182 0 127 (dk_at dksX1_court_0 19 rfl rfl)
theorem dX1_court_22 : decode cX1_court 22 = .ok (.astore_n 2, 1) := dk_77 (dk_at dksX1_court_0 22 rfl rfl)
theorem dX1_court_23 : decode cX1_court 23 = .ok (.goto 10, 3) := dk_167 0 10 (dk_at dksX1_court_1 0 rfl rfl)
theorem dX1_court_26 : decode cX1_court 26 = .ok (.astore_n 3, 1) := dk_78 (dk_at dksX1_court_1 3 rfl rfl)
theorem dX1_court_27 : decode cX1_court 27 = .ok (.aload_n 0, 1) := dk_42 (dk_at dksX1_court_1 4 rfl rfl)
theorem dX1_court_28 : decode cX1_court 28 = .ok (.aload_n 3, 1) := dk_45 (dk_at dksX1_court_1 5 rfl rfl)
theorem dX1_court_29 : decode cX1_court 29 = .ok (.invokevirtual 131, 3) := dk_182 0 131 (dk_at dksX1_court_1 6 rfl rfl)
theorem dX1_court_32 : decode cX1_court 32 = .ok (.athrow, 1) := dk_191 (dk_at dksX1_court_1 9 rfl rfl)
theorem dX1_court_33 : decode cX1_court 33 = .ok (.aload_n 0, 1) := dk_42 (dk_at dksX1_court_1 10 rfl rfl)
theorem dX1_court_34 : decode cX1_court 34 = .ok (.getfield 19, 3) := dk_180 0 19 (dk_at dksX1_court_1 11 rfl rfl)
theorem dX1_court_37 : decode cX1_court 37 = .ok (.getfield 135, 3) := dk_180 0 135 (dk_at dksX1_court_1 14 rfl rfl)
theorem dX1_court_40 : decode cX1_court 40 = .ok (.bipush 12, 2) := dk_16 12 (dk_at dksX1_court_1 17 rfl rfl)
theorem dX1_court_42 : decode cX1_court 42 = .ok (.if_icmp .ge 7, 3) := dk_162 0 7 (dk_at dksX1_court_1 19 rfl rfl)
theorem dX1_court_45 : decode cX1_court 45 = .ok (.iconst 1, 1) := dk_4 (dk_at dksX1_court_1 22 rfl rfl)
theorem dX1_court_46 : decode cX1_court 46 = .ok (.goto 4, 3) := dk_167 0 4 (dk_at dksX1_court_2 0 rfl rfl)
theorem dX1_court_49 : decode cX1_court 49 = .ok (.iconst 0, 1) := dk_3 (dk_at dksX1_court_2 3 rfl rfl)
theorem dX1_court_50 : decode cX1_court 50 = .ok (.invokestatic 138, 3) := dk_184 0 138 (dk_at dksX1_court_2 4 rfl rfl)
theorem dX1_court_53 : decode cX1_court 53 = .ok (.aload_n 0, 1) := dk_42 (dk_at dksX1_court_2 7 rfl rfl)
theorem dX1_court_54 : decode cX1_court 54 = .ok (.getfield 19, 3) := dk_180 0 19 (dk_at dksX1_court_2 8 rfl rfl)
theorem dX1_court_57 : decode cX1_court 57 = .ok (.aload_n 2, 1) := dk_44 (dk_at dksX1_court_2 11 rfl rfl)
theorem dX1_court_58 : decode cX1_court 58 = .ok (.invokevirtual 141, 3) := dk_182 0 141 (dk_at dksX1_court_2 12 rfl rfl)
theorem dX1_court_61 : decode cX1_court 61 = .ok (.aload_n 0, 1) := dk_42 (dk_at dksX1_court_2 15 rfl rfl)
theorem dX1_court_62 : decode cX1_court 62 = .ok (.getfield 19, 3) := dk_180 0 19 (dk_at dksX1_court_2 16 rfl rfl)
theorem dX1_court_65 : decode cX1_court 65 = .ok (.dup, 1) := dk_89 (dk_at dksX1_court_2 19 rfl rfl)
theorem dX1_court_66 : decode cX1_court 66 = .ok (.getfield 135, 3) := dk_180 0 135 (dk_at dksX1_court_2 20 rfl rfl)
theorem dX1_court_69 : decode cX1_court 69 = .ok (.iconst 1, 1) := dk_4 (dk_at dksX1_court_2 23 rfl rfl)
theorem dX1_court_70 : decode cX1_court 70 = .ok (.iadd, 1) := dk_96 (dk_at dksX1_court_3 0 rfl rfl)
theorem dX1_court_71 : decode cX1_court 71 = .ok (.putfield 135, 3) := dk_181 0 135 (dk_at dksX1_court_3 1 rfl rfl)
theorem dX1_court_74 : decode cX1_court 74 = .ok (.aload_n 0, 1) := dk_42 (dk_at dksX1_court_3 4 rfl rfl)
theorem dX1_court_75 : decode cX1_court 75 = .ok (.iconst 0, 1) := dk_3 (dk_at dksX1_court_3 5 rfl rfl)
theorem dX1_court_76 : decode cX1_court 76 = .ok (.putfield 145, 3) := dk_181 0 145 (dk_at dksX1_court_3 6 rfl rfl)
theorem dX1_court_79 : decode cX1_court 79 = .ok (.aload_n 0, 1) := dk_42 (dk_at dksX1_court_3 9 rfl rfl)
theorem dX1_court_80 : decode cX1_court 80 = .ok (.getfield 19, 3) := dk_180 0 19 (dk_at dksX1_court_3 10 rfl rfl)
theorem dX1_court_83 : decode cX1_court 83 = .ok (.getfield 135, 3) := dk_180 0 135 (dk_at dksX1_court_3 13 rfl rfl)
theorem dX1_court_86 : decode cX1_court 86 = .ok (.ireturn, 1) := dk_172 (dk_at dksX1_court_3 16 rfl rfl)
abbrev cX1_took : ByteArray := prog_1_method_14_code
def yX1_took : MethodName := ⟨RX1, "took", "()I"⟩
def dkwX1_took_0 : List UInt8 := [42, 180, 0, 10, 180, 0, 111, 60, 42, 180, 0, 10, 3, 181, 0, 111, 27, 172]
abbrev dktX1_took_0 : List UInt8 := dkwX1_took_0 ++ []
theorem dksX1_took_0 : cX1_took.data.toList.drop 0 = dktX1_took_0 := by decide +kernel
theorem dX1_took_0 : decode cX1_took 0 = .ok (.aload_n 0, 1) := dk_42 (dk_at dksX1_took_0 0 rfl rfl)
theorem dX1_took_1 : decode cX1_took 1 = .ok (.getfield 10, 3) := dk_180 0 10 (dk_at dksX1_took_0 1 rfl rfl)
theorem dX1_took_4 : decode cX1_took 4 = .ok (.getfield 111, 3) := dk_180 0 111 (dk_at dksX1_took_0 4 rfl rfl)
theorem dX1_took_7 : decode cX1_took 7 = .ok (.istore_n 1, 1) := dk_60 (dk_at dksX1_took_0 7 rfl rfl)
theorem dX1_took_8 : decode cX1_took 8 = .ok (.aload_n 0, 1) := dk_42 (dk_at dksX1_took_0 8 rfl rfl)
theorem dX1_took_9 : decode cX1_took 9 = .ok (.getfield 10, 3) := dk_180 0 10 (dk_at dksX1_took_0 9 rfl rfl)
theorem dX1_took_12 : decode cX1_took 12 = .ok (.iconst 0, 1) := dk_3 (dk_at dksX1_took_0 12 rfl rfl)
theorem dX1_took_13 : decode cX1_took 13 = .ok (.putfield 111, 3) := dk_181 0 111 (dk_at dksX1_took_0 13 rfl rfl)
theorem dX1_took_16 : decode cX1_took 16 = .ok (.iload_n 1, 1) := dk_27 (dk_at dksX1_took_0 16 rfl rfl)
theorem dX1_took_17 : decode cX1_took 17 = .ok (.ireturn, 1) := dk_172 (dk_at dksX1_took_0 17 rfl rfl)
abbrev cX1_isWrong : ByteArray := prog_1_method_15_code
def yX1_isWrong : MethodName := ⟨RX1, "isWrong", "(LGhostAssize$Wrong;)Ljava/lang/IllegalArgumentException;"⟩
def dkwX1_isWrong_0 : List UInt8 := [42, 43, 180, 0, 118, 181, 0, 63, 187, 0, 70, 89, 183, 0, 72, 176]
abbrev dktX1_isWrong_0 : List UInt8 := dkwX1_isWrong_0 ++ []
theorem dksX1_isWrong_0 : cX1_isWrong.data.toList.drop 0 = dktX1_isWrong_0 := by decide +kernel
theorem dX1_isWrong_0 : decode cX1_isWrong 0 = .ok (.aload_n 0, 1) := dk_42 (dk_at dksX1_isWrong_0 0 rfl rfl)
theorem dX1_isWrong_1 : decode cX1_isWrong 1 = .ok (.aload_n 1, 1) := dk_43 (dk_at dksX1_isWrong_0 1 rfl rfl)
theorem dX1_isWrong_2 : decode cX1_isWrong 2 = .ok (.getfield 118, 3) := dk_180 0 118 (dk_at dksX1_isWrong_0 2 rfl rfl)
theorem dX1_isWrong_5 : decode cX1_isWrong 5 = .ok (.putfield 63, 3) := dk_181 0 63 (dk_at dksX1_isWrong_0 5 rfl rfl)
theorem dX1_isWrong_8 : decode cX1_isWrong 8 = .ok (.new 70, 3) := dk_187 0 70 (dk_at dksX1_isWrong_0 8 rfl rfl)
theorem dX1_isWrong_11 : decode cX1_isWrong 11 = .ok (.dup, 1) := dk_89 (dk_at dksX1_isWrong_0 11 rfl rfl)
theorem dX1_isWrong_12 : decode cX1_isWrong 12 = .ok (.invokespecial 72, 3) := dk_183 0 72 (dk_at dksX1_isWrong_0 12 rfl rfl)
theorem dX1_isWrong_15 : decode cX1_isWrong 15 = .ok (.areturn, 1) := dk_176 (dk_at dksX1_isWrong_0 15 rfl rfl)
abbrev cX1_mayBe : ByteArray := prog_1_method_3_code
def yX1_mayBe : MethodName := ⟨RX1, "mayBe", "(Z)V"⟩
def dkwX1_mayBe_0 : List UInt8 := [26, 154, 0, 11, 187, 0, 73, 89, 183, 0, 75, 191, 177]
abbrev dktX1_mayBe_0 : List UInt8 := dkwX1_mayBe_0 ++ []
theorem dksX1_mayBe_0 : cX1_mayBe.data.toList.drop 0 = dktX1_mayBe_0 := by decide +kernel
theorem dX1_mayBe_0 : decode cX1_mayBe 0 = .ok (.iload_n 0, 1) := dk_26 (dk_at dksX1_mayBe_0 0 rfl rfl)
theorem dX1_mayBe_1 : decode cX1_mayBe 1 = .ok (.ifCond .ne 11, 3) := dk_154 0 11 (dk_at dksX1_mayBe_0 1 rfl rfl)
theorem dX1_mayBe_4 : decode cX1_mayBe 4 = .ok (.new 73, 3) := dk_187 0 73 (dk_at dksX1_mayBe_0 4 rfl rfl)
theorem dX1_mayBe_7 : decode cX1_mayBe 7 = .ok (.dup, 1) := dk_89 (dk_at dksX1_mayBe_0 7 rfl rfl)
theorem dX1_mayBe_8 : decode cX1_mayBe 8 = .ok (.invokespecial 75, 3) := dk_183 0 75 (dk_at dksX1_mayBe_0 8 rfl rfl)
theorem dX1_mayBe_11 : decode cX1_mayBe 11 = .ok (.athrow, 1) := dk_191 (dk_at dksX1_mayBe_0 11 rfl rfl)
theorem dX1_mayBe_12 : decode cX1_mayBe 12 = .ok (.return_, 1) := dk_177 (dk_at dksX1_mayBe_0 12 rfl rfl)
abbrev cX1_law : ByteArray := prog_1_method_17_code
def yX1_law : MethodName := ⟨RX1, "law", "()I"⟩
def dkwX1_law_3 : List UInt8 := [172]
abbrev dktX1_law_3 : List UInt8 := dkwX1_law_3 ++ []
def dkwX1_law_2 : List UInt8 := [180, 0, 19, 180, 0, 159, 3, 16, 12, 184, 0, 161, 42, 3, 181, 0, 145, 42, 180, 0, 19, 180, 0, 152]
abbrev dktX1_law_2 : List UInt8 := dkwX1_law_2 ++ dktX1_law_3
def dkwX1_law_1 : List UInt8 := [181, 0, 152, 167, 0, 10, 77, 42, 44, 182, 0, 131, 191, 42, 180, 0, 10, 180, 0, 155, 3, 42]
abbrev dktX1_law_1 : List UInt8 := dkwX1_law_1 ++ dktX1_law_2
def dkwX1_law_0 : List UInt8 := [42, 182, 0, 123, 60, 42, 2, 181, 0, 63, 42, 180, 0, 19, 42, 180, 0, 10, 27, 182, 0, 148]
abbrev dktX1_law_0 : List UInt8 := dkwX1_law_0 ++ dktX1_law_1
theorem dksX1_law_0 : cX1_law.data.toList.drop 0 = dktX1_law_0 := by decide +kernel
theorem dksX1_law_1 : cX1_law.data.toList.drop 22 = dktX1_law_1 := dk_seg dksX1_law_0 22 rfl rfl
theorem dksX1_law_2 : cX1_law.data.toList.drop 44 = dktX1_law_2 := dk_seg dksX1_law_1 22 rfl rfl
theorem dksX1_law_3 : cX1_law.data.toList.drop 68 = dktX1_law_3 := dk_seg dksX1_law_2 24 rfl rfl
theorem dX1_law_0 : decode cX1_law 0 = .ok (.aload_n 0, 1) := dk_42 (dk_at dksX1_law_0 0 rfl rfl)
theorem dX1_law_1 : decode cX1_law 1 = .ok (.invokevirtual 123, 3) := dk_182 0 123 (dk_at dksX1_law_0 1 rfl rfl)
theorem dX1_law_4 : decode cX1_law 4 = .ok (.istore_n 1, 1) := dk_60 (dk_at dksX1_law_0 4 rfl rfl)
theorem dX1_law_5 : decode cX1_law 5 = .ok (.aload_n 0, 1) := dk_42 (dk_at dksX1_law_0 5 rfl rfl)
theorem dX1_law_6 : decode cX1_law 6 = .ok (.iconst (-1), 1) := dk_2 (dk_at dksX1_law_0 6 rfl rfl)
theorem dX1_law_7 : decode cX1_law 7 = .ok (.putfield 63, 3) := dk_181 0 63 (dk_at dksX1_law_0 7 rfl rfl)
theorem dX1_law_10 : decode cX1_law 10 = .ok (.aload_n 0, 1) := dk_42 (dk_at dksX1_law_0 10 rfl rfl)
theorem dX1_law_11 : decode cX1_law 11 = .ok (.getfield 19, 3) := dk_180 0 19 (dk_at dksX1_law_0 11 rfl rfl)
theorem dX1_law_14 : decode cX1_law 14 = .ok (.aload_n 0, 1) := dk_42 (dk_at dksX1_law_0 14 rfl rfl)
theorem dX1_law_15 : decode cX1_law 15 = .ok (.getfield 10, 3) := dk_180 0 10 (dk_at dksX1_law_0 15 rfl rfl)
theorem dX1_law_18 : decode cX1_law 18 = .ok (.iload_n 1, 1) := dk_27 (dk_at dksX1_law_0 18 rfl rfl)
theorem dX1_law_19 : decode cX1_law 19 = .ok (.invokevirtual 148, 3) := dk_182 0 148 (dk_at dksX1_law_0 19 rfl rfl)
theorem dX1_law_22 : decode cX1_law 22 = .ok (.putfield 152, 3) := dk_181 0 152 (dk_at dksX1_law_1 0 rfl rfl)
theorem dX1_law_25 : decode cX1_law 25 = .ok (.goto 10, 3) := dk_167 0 10 (dk_at dksX1_law_1 3 rfl rfl)
theorem dX1_law_28 : decode cX1_law 28 = .ok (.astore_n 2, 1) := dk_77 (dk_at dksX1_law_1 6 rfl rfl)
theorem dX1_law_29 : decode cX1_law 29 = .ok (.aload_n 0, 1) := dk_42 (dk_at dksX1_law_1 7 rfl rfl)
theorem dX1_law_30 : decode cX1_law 30 = .ok (.aload_n 2, 1) := dk_44 (dk_at dksX1_law_1 8 rfl rfl)
theorem dX1_law_31 : decode cX1_law 31 = .ok (.invokevirtual 131, 3) := dk_182 0 131 (dk_at dksX1_law_1 9 rfl rfl)
theorem dX1_law_34 : decode cX1_law 34 = .ok (.athrow, 1) := dk_191 (dk_at dksX1_law_1 12 rfl rfl)
theorem dX1_law_35 : decode cX1_law 35 = .ok (.aload_n 0, 1) := dk_42 (dk_at dksX1_law_1 13 rfl rfl)
theorem dX1_law_36 : decode cX1_law 36 = .ok (.getfield 10, 3) := dk_180 0 10 (dk_at dksX1_law_1 14 rfl rfl)
theorem dX1_law_39 : decode cX1_law 39 = .ok (.getfield 155, 3) := dk_180 0 155 (dk_at dksX1_law_1 17 rfl rfl)
theorem dX1_law_42 : decode cX1_law 42 = .ok (.iconst 0, 1) := dk_3 (dk_at dksX1_law_1 20 rfl rfl)
theorem dX1_law_43 : decode cX1_law 43 = .ok (.aload_n 0, 1) := dk_42 (dk_at dksX1_law_1 21 rfl rfl)
theorem dX1_law_44 : decode cX1_law 44 = .ok (.getfield 19, 3) := dk_180 0 19 (dk_at dksX1_law_2 0 rfl rfl)
theorem dX1_law_47 : decode cX1_law 47 = .ok (.getfield 159, 3) := dk_180 0 159 (dk_at dksX1_law_2 3 rfl rfl)
theorem dX1_law_50 : decode cX1_law 50 = .ok (.iconst 0, 1) := dk_3 (dk_at dksX1_law_2 6 rfl rfl)
theorem dX1_law_51 : decode cX1_law 51 = .ok (.bipush 12, 2) := dk_16 12 (dk_at dksX1_law_2 7 rfl rfl)
theorem dX1_law_53 : decode cX1_law 53 = .ok (.invokestatic 161, 3) := dk_184 0 161 (dk_at dksX1_law_2 9 rfl rfl)
theorem dX1_law_56 : decode cX1_law 56 = .ok (.aload_n 0, 1) := dk_42 (dk_at dksX1_law_2 12 rfl rfl)
theorem dX1_law_57 : decode cX1_law 57 = .ok (.iconst 0, 1) := dk_3 (dk_at dksX1_law_2 13 rfl rfl)
theorem dX1_law_58 : decode cX1_law 58 = .ok (.putfield 145, 3) := dk_181 0 145 (dk_at dksX1_law_2 14 rfl rfl)
theorem dX1_law_61 : decode cX1_law 61 = .ok (.aload_n 0, 1) := dk_42 (dk_at dksX1_law_2 17 rfl rfl)
theorem dX1_law_62 : decode cX1_law 62 = .ok (.getfield 19, 3) := dk_180 0 19 (dk_at dksX1_law_2 18 rfl rfl)
theorem dX1_law_65 : decode cX1_law 65 = .ok (.getfield 152, 3) := dk_180 0 152 (dk_at dksX1_law_2 21 rfl rfl)
theorem dX1_law_68 : decode cX1_law 68 = .ok (.ireturn, 1) := dk_172 (dk_at dksX1_law_3 0 rfl rfl)
abbrev cX1_prop : ByteArray := prog_1_method_19_code
def yX1_prop : MethodName := ⟨RX1, "prop", "(II)I"⟩
def dkwX1_prop_3 : List UInt8 := [183, 0, 81, 191]
abbrev dktX1_prop_3 : List UInt8 := dkwX1_prop_3 ++ []
def dkwX1_prop_2 : List UInt8 := [45, 180, 0, 171, 172, 45, 180, 0, 176, 172, 45, 180, 0, 179, 172, 45, 180, 0, 182, 172, 187, 0, 79, 89]
abbrev dktX1_prop_2 : List UInt8 := dkwX1_prop_2 ++ dktX1_prop_3
def dkwX1_prop_1 : List UInt8 := [170, 0, 0, 0, 49, 0, 0, 0, 0, 0, 0, 0, 3, 0, 0, 0, 29, 0, 0, 0, 34, 0, 0, 0, 39, 0, 0, 0, 44]
abbrev dktX1_prop_1 : List UInt8 := dkwX1_prop_1 ++ dktX1_prop_2
def dkwX1_prop_0 : List UInt8 := [42, 27, 182, 0, 167, 78, 28]
abbrev dktX1_prop_0 : List UInt8 := dkwX1_prop_0 ++ dktX1_prop_1
theorem dksX1_prop_0 : cX1_prop.data.toList.drop 0 = dktX1_prop_0 := by decide +kernel
theorem dksX1_prop_1 : cX1_prop.data.toList.drop 7 = dktX1_prop_1 := dk_seg dksX1_prop_0 7 rfl rfl
theorem dksX1_prop_2 : cX1_prop.data.toList.drop 36 = dktX1_prop_2 := dk_seg dksX1_prop_1 29 rfl rfl
theorem dksX1_prop_3 : cX1_prop.data.toList.drop 60 = dktX1_prop_3 := dk_seg dksX1_prop_2 24 rfl rfl
theorem dX1_prop_0 : decode cX1_prop 0 = .ok (.aload_n 0, 1) := dk_42 (dk_at dksX1_prop_0 0 rfl rfl)
theorem dX1_prop_1 : decode cX1_prop 1 = .ok (.iload_n 1, 1) := dk_27 (dk_at dksX1_prop_0 1 rfl rfl)
theorem dX1_prop_2 : decode cX1_prop 2 = .ok (.invokevirtual 167, 3) := dk_182 0 167 (dk_at dksX1_prop_0 2 rfl rfl)
theorem dX1_prop_5 : decode cX1_prop 5 = .ok (.astore_n 3, 1) := dk_78 (dk_at dksX1_prop_0 5 rfl rfl)
theorem dX1_prop_6 : decode cX1_prop 6 = .ok (.iload_n 2, 1) := dk_28 (dk_at dksX1_prop_0 6 rfl rfl)
theorem dX1_prop_7 : decode cX1_prop 7 = .ok (.tableswitch 49 0 3 #[29, 34, 39, 44], 29) := by decide +kernel
theorem dX1_prop_36 : decode cX1_prop 36 = .ok (.aload_n 3, 1) := dk_45 (dk_at dksX1_prop_2 0 rfl rfl)
theorem dX1_prop_37 : decode cX1_prop 37 = .ok (.getfield 171, 3) := dk_180 0 171 (dk_at dksX1_prop_2 1 rfl rfl)
theorem dX1_prop_40 : decode cX1_prop 40 = .ok (.ireturn, 1) := dk_172 (dk_at dksX1_prop_2 4 rfl rfl)
theorem dX1_prop_41 : decode cX1_prop 41 = .ok (.aload_n 3, 1) := dk_45 (dk_at dksX1_prop_2 5 rfl rfl)
theorem dX1_prop_42 : decode cX1_prop 42 = .ok (.getfield 176, 3) := dk_180 0 176 (dk_at dksX1_prop_2 6 rfl rfl)
theorem dX1_prop_45 : decode cX1_prop 45 = .ok (.ireturn, 1) := dk_172 (dk_at dksX1_prop_2 9 rfl rfl)
theorem dX1_prop_46 : decode cX1_prop 46 = .ok (.aload_n 3, 1) := dk_45 (dk_at dksX1_prop_2 10 rfl rfl)
theorem dX1_prop_47 : decode cX1_prop 47 = .ok (.getfield 179, 3) := dk_180 0 179 (dk_at dksX1_prop_2 11 rfl rfl)
theorem dX1_prop_50 : decode cX1_prop 50 = .ok (.ireturn, 1) := dk_172 (dk_at dksX1_prop_2 14 rfl rfl)
theorem dX1_prop_51 : decode cX1_prop 51 = .ok (.aload_n 3, 1) := dk_45 (dk_at dksX1_prop_2 15 rfl rfl)
theorem dX1_prop_52 : decode cX1_prop 52 = .ok (.getfield 182, 3) := dk_180 0 182 (dk_at dksX1_prop_2 16 rfl rfl)
theorem dX1_prop_55 : decode cX1_prop 55 = .ok (.ireturn, 1) := dk_172 (dk_at dksX1_prop_2 19 rfl rfl)
theorem dX1_prop_56 : decode cX1_prop 56 = .ok (.new 79, 3) := dk_187 0 79 (dk_at dksX1_prop_2 20 rfl rfl)
theorem dX1_prop_59 : decode cX1_prop 59 = .ok (.dup, 1) := dk_89 (dk_at dksX1_prop_2 23 rfl rfl)
theorem dX1_prop_60 : decode cX1_prop 60 = .ok (.invokespecial 81, 3) := dk_183 0 81 (dk_at dksX1_prop_3 0 rfl rfl)
theorem dX1_prop_63 : decode cX1_prop 63 = .ok (.athrow, 1) := dk_191 (dk_at dksX1_prop_3 3 rfl rfl)
abbrev cX1_propAt : ByteArray := prog_1_method_8_code
def yX1_propAt : MethodName := ⟨RX1, "propAt", "(I)LGhostAssize$Prop;"⟩
def dkwX1_propAt_1 : List UInt8 := [27, 50, 176]
abbrev dktX1_propAt_1 : List UInt8 := dkwX1_propAt_1 ++ []
def dkwX1_propAt_0 : List UInt8 := [27, 3, 42, 180, 0, 19, 180, 0, 85, 4, 100, 184, 0, 88, 184, 0, 92, 42, 180, 0, 19, 180, 0, 96]
abbrev dktX1_propAt_0 : List UInt8 := dkwX1_propAt_0 ++ dktX1_propAt_1
theorem dksX1_propAt_0 : cX1_propAt.data.toList.drop 0 = dktX1_propAt_0 := by decide +kernel
theorem dksX1_propAt_1 : cX1_propAt.data.toList.drop 24 = dktX1_propAt_1 := dk_seg dksX1_propAt_0 24 rfl rfl
theorem dX1_propAt_0 : decode cX1_propAt 0 = .ok (.iload_n 1, 1) := dk_27 (dk_at dksX1_propAt_0 0 rfl rfl)
theorem dX1_propAt_1 : decode cX1_propAt 1 = .ok (.iconst 0, 1) := dk_3 (dk_at dksX1_propAt_0 1 rfl rfl)
theorem dX1_propAt_2 : decode cX1_propAt 2 = .ok (.aload_n 0, 1) := dk_42 (dk_at dksX1_propAt_0 2 rfl rfl)
theorem dX1_propAt_3 : decode cX1_propAt 3 = .ok (.getfield 19, 3) := dk_180 0 19 (dk_at dksX1_propAt_0 3 rfl rfl)
theorem dX1_propAt_6 : decode cX1_propAt 6 = .ok (.getfield 85, 3) := dk_180 0 85 (dk_at dksX1_propAt_0 6 rfl rfl)
theorem dX1_propAt_9 : decode cX1_propAt 9 = .ok (.iconst 1, 1) := dk_4 (dk_at dksX1_propAt_0 9 rfl rfl)
theorem dX1_propAt_10 : decode cX1_propAt 10 = .ok (.isub, 1) := dk_100 (dk_at dksX1_propAt_0 10 rfl rfl)
theorem dX1_propAt_11 : decode cX1_propAt 11 = .ok (.invokestatic 88, 3) := dk_184 0 88 (dk_at dksX1_propAt_0 11 rfl rfl)
theorem dX1_propAt_14 : decode cX1_propAt 14 = .ok (.invokestatic 92, 3) := dk_184 0 92 (dk_at dksX1_propAt_0 14 rfl rfl)
theorem dX1_propAt_17 : decode cX1_propAt 17 = .ok (.aload_n 0, 1) := dk_42 (dk_at dksX1_propAt_0 17 rfl rfl)
theorem dX1_propAt_18 : decode cX1_propAt 18 = .ok (.getfield 19, 3) := dk_180 0 19 (dk_at dksX1_propAt_0 18 rfl rfl)
theorem dX1_propAt_21 : decode cX1_propAt 21 = .ok (.getfield 96, 3) := dk_180 0 96 (dk_at dksX1_propAt_0 21 rfl rfl)
theorem dX1_propAt_24 : decode cX1_propAt 24 = .ok (.iload_n 1, 1) := dk_27 (dk_at dksX1_propAt_1 0 rfl rfl)
theorem dX1_propAt_25 : decode cX1_propAt 25 = .ok (.aaload, 1) := dk_50 (dk_at dksX1_propAt_1 1 rfl rfl)
theorem dX1_propAt_26 : decode cX1_propAt 26 = .ok (.areturn, 1) := dk_176 (dk_at dksX1_propAt_1 2 rfl rfl)
abbrev cX1_mustBe : ByteArray := prog_1_method_4_code
def yX1_mustBe : MethodName := ⟨RX1, "mustBe", "(Z)V"⟩
def dkwX1_mustBe_0 : List UInt8 := [26, 154, 0, 11, 187, 0, 76, 89, 183, 0, 78, 191, 177]
abbrev dktX1_mustBe_0 : List UInt8 := dkwX1_mustBe_0 ++ []
theorem dksX1_mustBe_0 : cX1_mustBe.data.toList.drop 0 = dktX1_mustBe_0 := by decide +kernel
theorem dX1_mustBe_0 : decode cX1_mustBe 0 = .ok (.iload_n 0, 1) := dk_26 (dk_at dksX1_mustBe_0 0 rfl rfl)
theorem dX1_mustBe_1 : decode cX1_mustBe 1 = .ok (.ifCond .ne 11, 3) := dk_154 0 11 (dk_at dksX1_mustBe_0 1 rfl rfl)
theorem dX1_mustBe_4 : decode cX1_mustBe 4 = .ok (.new 76, 3) := dk_187 0 76 (dk_at dksX1_mustBe_0 4 rfl rfl)
theorem dX1_mustBe_7 : decode cX1_mustBe 7 = .ok (.dup, 1) := dk_89 (dk_at dksX1_mustBe_0 7 rfl rfl)
theorem dX1_mustBe_8 : decode cX1_mustBe 8 = .ok (.invokespecial 78, 3) := dk_183 0 78 (dk_at dksX1_mustBe_0 8 rfl rfl)
theorem dX1_mustBe_11 : decode cX1_mustBe 11 = .ok (.athrow, 1) := dk_191 (dk_at dksX1_mustBe_0 11 rfl rfl)
theorem dX1_mustBe_12 : decode cX1_mustBe 12 = .ok (.return_, 1) := dk_177 (dk_at dksX1_mustBe_0 12 rfl rfl)
abbrev cX1_slot : ByteArray := prog_1_method_20_code
def yX1_slot : MethodName := ⟨RX1, "slot", "(I)I"⟩
def dkwX1_slot_0 : List UInt8 := [27, 184, 0, 185, 42, 180, 0, 19, 180, 0, 188, 27, 46, 172]
abbrev dktX1_slot_0 : List UInt8 := dkwX1_slot_0 ++ []
theorem dksX1_slot_0 : cX1_slot.data.toList.drop 0 = dktX1_slot_0 := by decide +kernel
theorem dX1_slot_0 : decode cX1_slot 0 = .ok (.iload_n 1, 1) := dk_27 (dk_at dksX1_slot_0 0 rfl rfl)
theorem dX1_slot_1 : decode cX1_slot 1 = .ok (.invokestatic 185, 3) := dk_184 0 185 (dk_at dksX1_slot_0 1 rfl rfl)
theorem dX1_slot_4 : decode cX1_slot 4 = .ok (.aload_n 0, 1) := dk_42 (dk_at dksX1_slot_0 4 rfl rfl)
theorem dX1_slot_5 : decode cX1_slot 5 = .ok (.getfield 19, 3) := dk_180 0 19 (dk_at dksX1_slot_0 5 rfl rfl)
theorem dX1_slot_8 : decode cX1_slot 8 = .ok (.getfield 188, 3) := dk_180 0 188 (dk_at dksX1_slot_0 8 rfl rfl)
theorem dX1_slot_11 : decode cX1_slot 11 = .ok (.iload_n 1, 1) := dk_27 (dk_at dksX1_slot_0 11 rfl rfl)
theorem dX1_slot_12 : decode cX1_slot 12 = .ok (.iaload, 1) := dk_46 (dk_at dksX1_slot_0 12 rfl rfl)
theorem dX1_slot_13 : decode cX1_slot 13 = .ok (.ireturn, 1) := dk_172 (dk_at dksX1_slot_0 13 rfl rfl)
abbrev cX1_isSlot : ByteArray := prog_1_method_10_code
def yX1_isSlot : MethodName := ⟨RX1, "isSlot", "(I)V"⟩
def dkwX1_isSlot_0 : List UInt8 := [26, 3, 16, 9, 184, 0, 88, 184, 0, 92, 177]
abbrev dktX1_isSlot_0 : List UInt8 := dkwX1_isSlot_0 ++ []
theorem dksX1_isSlot_0 : cX1_isSlot.data.toList.drop 0 = dktX1_isSlot_0 := by decide +kernel
theorem dX1_isSlot_0 : decode cX1_isSlot 0 = .ok (.iload_n 0, 1) := dk_26 (dk_at dksX1_isSlot_0 0 rfl rfl)
theorem dX1_isSlot_1 : decode cX1_isSlot 1 = .ok (.iconst 0, 1) := dk_3 (dk_at dksX1_isSlot_0 1 rfl rfl)
theorem dX1_isSlot_2 : decode cX1_isSlot 2 = .ok (.bipush 9, 2) := dk_16 9 (dk_at dksX1_isSlot_0 2 rfl rfl)
theorem dX1_isSlot_4 : decode cX1_isSlot 4 = .ok (.invokestatic 88, 3) := dk_184 0 88 (dk_at dksX1_isSlot_0 4 rfl rfl)
theorem dX1_isSlot_7 : decode cX1_isSlot 7 = .ok (.invokestatic 92, 3) := dk_184 0 92 (dk_at dksX1_isSlot_0 7 rfl rfl)
theorem dX1_isSlot_10 : decode cX1_isSlot 10 = .ok (.return_, 1) := dk_177 (dk_at dksX1_isSlot_0 10 rfl rfl)
abbrev cX1_accused : ByteArray := prog_1_method_21_code
def yX1_accused : MethodName := ⟨RX1, "accused", "(II)I"⟩
def dkwX1_accused_3 : List UInt8 := [183, 0, 81, 191]
abbrev dktX1_accused_3 : List UInt8 := dkwX1_accused_3 ++ []
def dkwX1_accused_2 : List UInt8 := [45, 180, 0, 195, 172, 45, 180, 0, 198, 172, 45, 180, 0, 201, 172, 45, 180, 0, 204, 172, 187, 0, 79, 89]
abbrev dktX1_accused_2 : List UInt8 := dkwX1_accused_2 ++ dktX1_accused_3
def dkwX1_accused_1 : List UInt8 := [170, 0, 0, 0, 49, 0, 0, 0, 0, 0, 0, 0, 3, 0, 0, 0, 29, 0, 0, 0, 34, 0, 0, 0, 39, 0, 0, 0, 44]
abbrev dktX1_accused_1 : List UInt8 := dkwX1_accused_1 ++ dktX1_accused_2
def dkwX1_accused_0 : List UInt8 := [42, 27, 182, 0, 191, 78, 28]
abbrev dktX1_accused_0 : List UInt8 := dkwX1_accused_0 ++ dktX1_accused_1
theorem dksX1_accused_0 : cX1_accused.data.toList.drop 0 = dktX1_accused_0 := by decide +kernel
theorem dksX1_accused_1 : cX1_accused.data.toList.drop 7 = dktX1_accused_1 := dk_seg dksX1_accused_0 7 rfl rfl
theorem dksX1_accused_2 : cX1_accused.data.toList.drop 36 = dktX1_accused_2 := dk_seg dksX1_accused_1 29 rfl rfl
theorem dksX1_accused_3 : cX1_accused.data.toList.drop 60 = dktX1_accused_3 := dk_seg dksX1_accused_2 24 rfl rfl
theorem dX1_accused_0 : decode cX1_accused 0 = .ok (.aload_n 0, 1) := dk_42 (dk_at dksX1_accused_0 0 rfl rfl)
theorem dX1_accused_1 : decode cX1_accused 1 = .ok (.iload_n 1, 1) := dk_27 (dk_at dksX1_accused_0 1 rfl rfl)
theorem dX1_accused_2 : decode cX1_accused 2 = .ok (.invokevirtual 191, 3) := dk_182 0 191 (dk_at dksX1_accused_0 2 rfl rfl)
theorem dX1_accused_5 : decode cX1_accused 5 = .ok (.astore_n 3, 1) := dk_78 (dk_at dksX1_accused_0 5 rfl rfl)
theorem dX1_accused_6 : decode cX1_accused 6 = .ok (.iload_n 2, 1) := dk_28 (dk_at dksX1_accused_0 6 rfl rfl)
theorem dX1_accused_7 : decode cX1_accused 7 = .ok (.tableswitch 49 0 3 #[29, 34, 39, 44], 29) := by decide +kernel
theorem dX1_accused_36 : decode cX1_accused 36 = .ok (.aload_n 3, 1) := dk_45 (dk_at dksX1_accused_2 0 rfl rfl)
theorem dX1_accused_37 : decode cX1_accused 37 = .ok (.getfield 195, 3) := dk_180 0 195 (dk_at dksX1_accused_2 1 rfl rfl)
theorem dX1_accused_40 : decode cX1_accused 40 = .ok (.ireturn, 1) := dk_172 (dk_at dksX1_accused_2 4 rfl rfl)
theorem dX1_accused_41 : decode cX1_accused 41 = .ok (.aload_n 3, 1) := dk_45 (dk_at dksX1_accused_2 5 rfl rfl)
theorem dX1_accused_42 : decode cX1_accused 42 = .ok (.getfield 198, 3) := dk_180 0 198 (dk_at dksX1_accused_2 6 rfl rfl)
theorem dX1_accused_45 : decode cX1_accused 45 = .ok (.ireturn, 1) := dk_172 (dk_at dksX1_accused_2 9 rfl rfl)
theorem dX1_accused_46 : decode cX1_accused 46 = .ok (.aload_n 3, 1) := dk_45 (dk_at dksX1_accused_2 10 rfl rfl)
theorem dX1_accused_47 : decode cX1_accused 47 = .ok (.getfield 201, 3) := dk_180 0 201 (dk_at dksX1_accused_2 11 rfl rfl)
theorem dX1_accused_50 : decode cX1_accused 50 = .ok (.ireturn, 1) := dk_172 (dk_at dksX1_accused_2 14 rfl rfl)
theorem dX1_accused_51 : decode cX1_accused 51 = .ok (.aload_n 3, 1) := dk_45 (dk_at dksX1_accused_2 15 rfl rfl)
theorem dX1_accused_52 : decode cX1_accused 52 = .ok (.getfield 204, 3) := dk_180 0 204 (dk_at dksX1_accused_2 16 rfl rfl)
theorem dX1_accused_55 : decode cX1_accused 55 = .ok (.ireturn, 1) := dk_172 (dk_at dksX1_accused_2 19 rfl rfl)
theorem dX1_accused_56 : decode cX1_accused 56 = .ok (.new 79, 3) := dk_187 0 79 (dk_at dksX1_accused_2 20 rfl rfl)
theorem dX1_accused_59 : decode cX1_accused 59 = .ok (.dup, 1) := dk_89 (dk_at dksX1_accused_2 23 rfl rfl)
theorem dX1_accused_60 : decode cX1_accused 60 = .ok (.invokespecial 81, 3) := dk_183 0 81 (dk_at dksX1_accused_3 0 rfl rfl)
theorem dX1_accused_63 : decode cX1_accused 63 = .ok (.athrow, 1) := dk_191 (dk_at dksX1_accused_3 3 rfl rfl)
abbrev cX1_oneAt : ByteArray := prog_1_method_9_code
def yX1_oneAt : MethodName := ⟨RX1, "oneAt", "(I)LGhostAssize$One;"⟩
def dkwX1_oneAt_1 : List UInt8 := [27, 50, 176]
abbrev dktX1_oneAt_1 : List UInt8 := dkwX1_oneAt_1 ++ []
def dkwX1_oneAt_0 : List UInt8 := [27, 3, 42, 180, 0, 19, 180, 0, 100, 4, 100, 184, 0, 88, 184, 0, 92, 42, 180, 0, 19, 180, 0, 103]
abbrev dktX1_oneAt_0 : List UInt8 := dkwX1_oneAt_0 ++ dktX1_oneAt_1
theorem dksX1_oneAt_0 : cX1_oneAt.data.toList.drop 0 = dktX1_oneAt_0 := by decide +kernel
theorem dksX1_oneAt_1 : cX1_oneAt.data.toList.drop 24 = dktX1_oneAt_1 := dk_seg dksX1_oneAt_0 24 rfl rfl
theorem dX1_oneAt_0 : decode cX1_oneAt 0 = .ok (.iload_n 1, 1) := dk_27 (dk_at dksX1_oneAt_0 0 rfl rfl)
theorem dX1_oneAt_1 : decode cX1_oneAt 1 = .ok (.iconst 0, 1) := dk_3 (dk_at dksX1_oneAt_0 1 rfl rfl)
theorem dX1_oneAt_2 : decode cX1_oneAt 2 = .ok (.aload_n 0, 1) := dk_42 (dk_at dksX1_oneAt_0 2 rfl rfl)
theorem dX1_oneAt_3 : decode cX1_oneAt 3 = .ok (.getfield 19, 3) := dk_180 0 19 (dk_at dksX1_oneAt_0 3 rfl rfl)
theorem dX1_oneAt_6 : decode cX1_oneAt 6 = .ok (.getfield 100, 3) := dk_180 0 100 (dk_at dksX1_oneAt_0 6 rfl rfl)
theorem dX1_oneAt_9 : decode cX1_oneAt 9 = .ok (.iconst 1, 1) := dk_4 (dk_at dksX1_oneAt_0 9 rfl rfl)
theorem dX1_oneAt_10 : decode cX1_oneAt 10 = .ok (.isub, 1) := dk_100 (dk_at dksX1_oneAt_0 10 rfl rfl)
theorem dX1_oneAt_11 : decode cX1_oneAt 11 = .ok (.invokestatic 88, 3) := dk_184 0 88 (dk_at dksX1_oneAt_0 11 rfl rfl)
theorem dX1_oneAt_14 : decode cX1_oneAt 14 = .ok (.invokestatic 92, 3) := dk_184 0 92 (dk_at dksX1_oneAt_0 14 rfl rfl)
theorem dX1_oneAt_17 : decode cX1_oneAt 17 = .ok (.aload_n 0, 1) := dk_42 (dk_at dksX1_oneAt_0 17 rfl rfl)
theorem dX1_oneAt_18 : decode cX1_oneAt 18 = .ok (.getfield 19, 3) := dk_180 0 19 (dk_at dksX1_oneAt_0 18 rfl rfl)
theorem dX1_oneAt_21 : decode cX1_oneAt 21 = .ok (.getfield 103, 3) := dk_180 0 103 (dk_at dksX1_oneAt_0 21 rfl rfl)
theorem dX1_oneAt_24 : decode cX1_oneAt 24 = .ok (.iload_n 1, 1) := dk_27 (dk_at dksX1_oneAt_1 0 rfl rfl)
theorem dX1_oneAt_25 : decode cX1_oneAt 25 = .ok (.aaload, 1) := dk_50 (dk_at dksX1_oneAt_1 1 rfl rfl)
theorem dX1_oneAt_26 : decode cX1_oneAt 26 = .ok (.areturn, 1) := dk_176 (dk_at dksX1_oneAt_1 2 rfl rfl)
abbrev cX1_fright : ByteArray := prog_1_method_22_code
def yX1_fright : MethodName := ⟨RX1, "fright", "(IIIZ)I"⟩
def dkwX1_fright_2 : List UInt8 := [29, 182, 0, 214, 172]
abbrev dktX1_fright_2 : List UInt8 := dkwX1_fright_2 ++ []
def dkwX1_fright_1 : List UInt8 := [153, 0, 17, 42, 180, 0, 19, 25, 5, 28, 29, 182, 0, 210, 167, 0, 14, 42, 180, 0, 19, 25, 5, 28]
abbrev dktX1_fright_1 : List UInt8 := dkwX1_fright_1 ++ dktX1_fright_2
def dkwX1_fright_0 : List UInt8 := [42, 27, 182, 0, 191, 58, 5, 28, 184, 0, 185, 29, 3, 16, 99, 184, 0, 88, 184, 0, 207, 21, 4]
abbrev dktX1_fright_0 : List UInt8 := dkwX1_fright_0 ++ dktX1_fright_1
theorem dksX1_fright_0 : cX1_fright.data.toList.drop 0 = dktX1_fright_0 := by decide +kernel
theorem dksX1_fright_1 : cX1_fright.data.toList.drop 23 = dktX1_fright_1 := dk_seg dksX1_fright_0 23 rfl rfl
theorem dksX1_fright_2 : cX1_fright.data.toList.drop 47 = dktX1_fright_2 := dk_seg dksX1_fright_1 24 rfl rfl
theorem dX1_fright_0 : decode cX1_fright 0 = .ok (.aload_n 0, 1) := dk_42 (dk_at dksX1_fright_0 0 rfl rfl)
theorem dX1_fright_1 : decode cX1_fright 1 = .ok (.iload_n 1, 1) := dk_27 (dk_at dksX1_fright_0 1 rfl rfl)
theorem dX1_fright_2 : decode cX1_fright 2 = .ok (.invokevirtual 191, 3) := dk_182 0 191 (dk_at dksX1_fright_0 2 rfl rfl)
theorem dX1_fright_5 : decode cX1_fright 5 = .ok (.astore 5, 2) := dk_58 5 (dk_at dksX1_fright_0 5 rfl rfl)
theorem dX1_fright_7 : decode cX1_fright 7 = .ok (.iload_n 2, 1) := dk_28 (dk_at dksX1_fright_0 7 rfl rfl)
theorem dX1_fright_8 : decode cX1_fright 8 = .ok (.invokestatic 185, 3) := dk_184 0 185 (dk_at dksX1_fright_0 8 rfl rfl)
theorem dX1_fright_11 : decode cX1_fright 11 = .ok (.iload_n 3, 1) := dk_29 (dk_at dksX1_fright_0 11 rfl rfl)
theorem dX1_fright_12 : decode cX1_fright 12 = .ok (.iconst 0, 1) := dk_3 (dk_at dksX1_fright_0 12 rfl rfl)
theorem dX1_fright_13 : decode cX1_fright 13 = .ok (.bipush 99, 2) := dk_16 99 (dk_at dksX1_fright_0 13 rfl rfl)
theorem dX1_fright_15 : decode cX1_fright 15 = .ok (.invokestatic 88, 3) := dk_184 0 88 (dk_at dksX1_fright_0 15 rfl rfl)
theorem dX1_fright_18 : decode cX1_fright 18 = .ok (.invokestatic 207, 3) := dk_184 0 207 (dk_at dksX1_fright_0 18 rfl rfl)
theorem dX1_fright_21 : decode cX1_fright 21 = .ok (.iload 4, 2) := dk_21 4 (dk_at dksX1_fright_0 21 rfl rfl)
theorem dX1_fright_23 : decode cX1_fright 23 = .ok (.ifCond .eq 17, 3) := dk_153 0 17 (dk_at dksX1_fright_1 0 rfl rfl)
theorem dX1_fright_26 : decode cX1_fright 26 = .ok (.aload_n 0, 1) := dk_42 (dk_at dksX1_fright_1 3 rfl rfl)
theorem dX1_fright_27 : decode cX1_fright 27 = .ok (.getfield 19, 3) := dk_180 0 19 (dk_at dksX1_fright_1 4 rfl rfl)
theorem dX1_fright_30 : decode cX1_fright 30 = .ok (.aload 5, 2) := dk_25 5 (dk_at dksX1_fright_1 7 rfl rfl)
theorem dX1_fright_32 : decode cX1_fright 32 = .ok (.iload_n 2, 1) := dk_28 (dk_at dksX1_fright_1 9 rfl rfl)
theorem dX1_fright_33 : decode cX1_fright 33 = .ok (.iload_n 3, 1) := dk_29 (dk_at dksX1_fright_1 10 rfl rfl)
theorem dX1_fright_34 : decode cX1_fright 34 = .ok (.invokevirtual 210, 3) := dk_182 0 210 (dk_at dksX1_fright_1 11 rfl rfl)
theorem dX1_fright_37 : decode cX1_fright 37 = .ok (.goto 14, 3) := dk_167 0 14 (dk_at dksX1_fright_1 14 rfl rfl)
theorem dX1_fright_40 : decode cX1_fright 40 = .ok (.aload_n 0, 1) := dk_42 (dk_at dksX1_fright_1 17 rfl rfl)
theorem dX1_fright_41 : decode cX1_fright 41 = .ok (.getfield 19, 3) := dk_180 0 19 (dk_at dksX1_fright_1 18 rfl rfl)
theorem dX1_fright_44 : decode cX1_fright 44 = .ok (.aload 5, 2) := dk_25 5 (dk_at dksX1_fright_1 21 rfl rfl)
theorem dX1_fright_46 : decode cX1_fright 46 = .ok (.iload_n 2, 1) := dk_28 (dk_at dksX1_fright_1 23 rfl rfl)
theorem dX1_fright_47 : decode cX1_fright 47 = .ok (.iload_n 3, 1) := dk_29 (dk_at dksX1_fright_2 0 rfl rfl)
theorem dX1_fright_48 : decode cX1_fright 48 = .ok (.invokevirtual 214, 3) := dk_182 0 214 (dk_at dksX1_fright_2 1 rfl rfl)
theorem dX1_fright_51 : decode cX1_fright 51 = .ok (.ireturn, 1) := dk_172 (dk_at dksX1_fright_2 4 rfl rfl)
abbrev cX1_must : ByteArray := prog_1_method_2_code
def yX1_must : MethodName := ⟨RX1, "must", "(Z)V"⟩
def dkwX1_must_0 : List UInt8 := [26, 154, 0, 11, 187, 0, 70, 89, 183, 0, 72, 191, 177]
abbrev dktX1_must_0 : List UInt8 := dkwX1_must_0 ++ []
theorem dksX1_must_0 : cX1_must.data.toList.drop 0 = dktX1_must_0 := by decide +kernel
theorem dX1_must_0 : decode cX1_must 0 = .ok (.iload_n 0, 1) := dk_26 (dk_at dksX1_must_0 0 rfl rfl)
theorem dX1_must_1 : decode cX1_must 1 = .ok (.ifCond .ne 11, 3) := dk_154 0 11 (dk_at dksX1_must_0 1 rfl rfl)
theorem dX1_must_4 : decode cX1_must 4 = .ok (.new 70, 3) := dk_187 0 70 (dk_at dksX1_must_0 4 rfl rfl)
theorem dX1_must_7 : decode cX1_must 7 = .ok (.dup, 1) := dk_89 (dk_at dksX1_must_0 7 rfl rfl)
theorem dX1_must_8 : decode cX1_must 8 = .ok (.invokespecial 72, 3) := dk_183 0 72 (dk_at dksX1_must_0 8 rfl rfl)
theorem dX1_must_11 : decode cX1_must 11 = .ok (.athrow, 1) := dk_191 (dk_at dksX1_must_0 11 rfl rfl)
theorem dX1_must_12 : decode cX1_must 12 = .ok (.return_, 1) := dk_177 (dk_at dksX1_must_0 12 rfl rfl)
abbrev cX1_send : ByteArray := prog_1_method_26_code
def yX1_send : MethodName := ⟨RX1, "send", "(I)I"⟩
def dkwX1_send_4 : List UInt8 := [182, 0, 255, 42, 180, 0, 220, 172]
abbrev dktX1_send_4 : List UInt8 := dkwX1_send_4 ++ []
def dkwX1_send_3 : List UInt8 := [27, 42, 180, 0, 220, 2, 160, 0, 8, 16, 10, 167, 0, 7, 42, 180, 0, 220, 42, 180, 0, 230]
abbrev dktX1_send_3 : List UInt8 := dkwX1_send_3 ++ dktX1_send_4
def dkwX1_send_2 : List UInt8 := [181, 0, 201, 44, 42, 180, 0, 220, 2, 160, 0, 7, 5, 167, 0, 4, 4, 181, 0, 204, 42, 180, 0, 19]
abbrev dktX1_send_2 : List UInt8 := dkwX1_send_2 ++ dktX1_send_3
def dkwX1_send_1 : List UInt8 := [182, 0, 245, 42, 44, 4, 182, 0, 248, 42, 182, 0, 252, 44, 89, 180, 0, 201, 42, 180, 0, 217, 128]
abbrev dktX1_send_1 : List UInt8 := dkwX1_send_1 ++ dktX1_send_2
def dkwX1_send_0 : List UInt8 := [42, 27, 182, 0, 191, 77, 44, 180, 0, 204, 154, 0, 7, 4, 167, 0, 4, 3, 184, 0, 242, 42]
abbrev dktX1_send_0 : List UInt8 := dkwX1_send_0 ++ dktX1_send_1
theorem dksX1_send_0 : cX1_send.data.toList.drop 0 = dktX1_send_0 := by decide +kernel
theorem dksX1_send_1 : cX1_send.data.toList.drop 22 = dktX1_send_1 := dk_seg dksX1_send_0 22 rfl rfl
theorem dksX1_send_2 : cX1_send.data.toList.drop 45 = dktX1_send_2 := dk_seg dksX1_send_1 23 rfl rfl
theorem dksX1_send_3 : cX1_send.data.toList.drop 69 = dktX1_send_3 := dk_seg dksX1_send_2 24 rfl rfl
theorem dksX1_send_4 : cX1_send.data.toList.drop 91 = dktX1_send_4 := dk_seg dksX1_send_3 22 rfl rfl
theorem dX1_send_0 : decode cX1_send 0 = .ok (.aload_n 0, 1) := dk_42 (dk_at dksX1_send_0 0 rfl rfl)
theorem dX1_send_1 : decode cX1_send 1 = .ok (.iload_n 1, 1) := dk_27 (dk_at dksX1_send_0 1 rfl rfl)
theorem dX1_send_2 : decode cX1_send 2 = .ok (.invokevirtual 191, 3) := dk_182 0 191 (dk_at dksX1_send_0 2 rfl rfl)
theorem dX1_send_5 : decode cX1_send 5 = .ok (.astore_n 2, 1) := dk_77 (dk_at dksX1_send_0 5 rfl rfl)
theorem dX1_send_6 : decode cX1_send 6 = .ok (.aload_n 2, 1) := dk_44 (dk_at dksX1_send_0 6 rfl rfl)
theorem dX1_send_7 : decode cX1_send 7 = .ok (.getfield 204, 3) := dk_180 0 204 (dk_at dksX1_send_0 7 rfl rfl)
theorem dX1_send_10 : decode cX1_send 10 = .ok (.ifCond .ne 7, 3) := dk_154 0 7 (dk_at dksX1_send_0 10 rfl rfl)
theorem dX1_send_13 : decode cX1_send 13 = .ok (.iconst 1, 1) := dk_4 (dk_at dksX1_send_0 13 rfl rfl)
theorem dX1_send_14 : decode cX1_send 14 = .ok (.goto 4, 3) := dk_167 0 4 (dk_at dksX1_send_0 14 rfl rfl)
theorem dX1_send_17 : decode cX1_send 17 = .ok (.iconst 0, 1) := dk_3 (dk_at dksX1_send_0 17 rfl rfl)
theorem dX1_send_18 : decode cX1_send 18 = .ok (.invokestatic 242, 3) := dk_184 0 242 (dk_at dksX1_send_0 18 rfl rfl)
theorem dX1_send_21 : decode cX1_send 21 = .ok (.aload_n 0, 1) := dk_42 (dk_at dksX1_send_0 21 rfl rfl)
theorem dX1_send_22 : decode cX1_send 22 = .ok (.invokevirtual 245, 3) := dk_182 0 245 (dk_at dksX1_send_1 0 rfl rfl)
theorem dX1_send_25 : decode cX1_send 25 = .ok (.aload_n 0, 1) := dk_42 (dk_at dksX1_send_1 3 rfl rfl)
theorem dX1_send_26 : decode cX1_send 26 = .ok (.aload_n 2, 1) := dk_44 (dk_at dksX1_send_1 4 rfl rfl)
theorem dX1_send_27 : decode cX1_send 27 = .ok (.iconst 1, 1) := dk_4 (dk_at dksX1_send_1 5 rfl rfl)
theorem dX1_send_28 : decode cX1_send 28 = .ok (.invokevirtual 248, 3) := dk_182 0 248 (dk_at dksX1_send_1 6 rfl rfl)
theorem dX1_send_31 : decode cX1_send 31 = .ok (.aload_n 0, 1) := dk_42 (dk_at dksX1_send_1 9 rfl rfl)
theorem dX1_send_32 : decode cX1_send 32 = .ok (.invokevirtual 252, 3) := dk_182 0 252 (dk_at dksX1_send_1 10 rfl rfl)
theorem dX1_send_35 : decode cX1_send 35 = .ok (.aload_n 2, 1) := dk_44 (dk_at dksX1_send_1 13 rfl rfl)
theorem dX1_send_36 : decode cX1_send 36 = .ok (.dup, 1) := dk_89 (dk_at dksX1_send_1 14 rfl rfl)
theorem dX1_send_37 : decode cX1_send 37 = .ok (.getfield 201, 3) := dk_180 0 201 (dk_at dksX1_send_1 15 rfl rfl)
theorem dX1_send_40 : decode cX1_send 40 = .ok (.aload_n 0, 1) := dk_42 (dk_at dksX1_send_1 18 rfl rfl)
theorem dX1_send_41 : decode cX1_send 41 = .ok (.getfield 217, 3) := dk_180 0 217 (dk_at dksX1_send_1 19 rfl rfl)
theorem dX1_send_44 : decode cX1_send 44 = .ok (.ior, 1) := dk_128 (dk_at dksX1_send_1 22 rfl rfl)
theorem dX1_send_45 : decode cX1_send 45 = .ok (.putfield 201, 3) := dk_181 0 201 (dk_at dksX1_send_2 0 rfl rfl)
theorem dX1_send_48 : decode cX1_send 48 = .ok (.aload_n 2, 1) := dk_44 (dk_at dksX1_send_2 3 rfl rfl)
theorem dX1_send_49 : decode cX1_send 49 = .ok (.aload_n 0, 1) := dk_42 (dk_at dksX1_send_2 4 rfl rfl)
theorem dX1_send_50 : decode cX1_send 50 = .ok (.getfield 220, 3) := dk_180 0 220 (dk_at dksX1_send_2 5 rfl rfl)
theorem dX1_send_53 : decode cX1_send 53 = .ok (.iconst (-1), 1) := dk_2 (dk_at dksX1_send_2 8 rfl rfl)
theorem dX1_send_54 : decode cX1_send 54 = .ok (.if_icmp .ne 7, 3) := dk_160 0 7 (dk_at dksX1_send_2 9 rfl rfl)
theorem dX1_send_57 : decode cX1_send 57 = .ok (.iconst 2, 1) := dk_5 (dk_at dksX1_send_2 12 rfl rfl)
theorem dX1_send_58 : decode cX1_send 58 = .ok (.goto 4, 3) := dk_167 0 4 (dk_at dksX1_send_2 13 rfl rfl)
theorem dX1_send_61 : decode cX1_send 61 = .ok (.iconst 1, 1) := dk_4 (dk_at dksX1_send_2 16 rfl rfl)
theorem dX1_send_62 : decode cX1_send 62 = .ok (.putfield 204, 3) := dk_181 0 204 (dk_at dksX1_send_2 17 rfl rfl)
theorem dX1_send_65 : decode cX1_send 65 = .ok (.aload_n 0, 1) := dk_42 (dk_at dksX1_send_2 20 rfl rfl)
theorem dX1_send_66 : decode cX1_send 66 = .ok (.getfield 19, 3) := dk_180 0 19 (dk_at dksX1_send_2 21 rfl rfl)
theorem dX1_send_69 : decode cX1_send 69 = .ok (.iload_n 1, 1) := dk_27 (dk_at dksX1_send_3 0 rfl rfl)
theorem dX1_send_70 : decode cX1_send 70 = .ok (.aload_n 0, 1) := dk_42 (dk_at dksX1_send_3 1 rfl rfl)
theorem dX1_send_71 : decode cX1_send 71 = .ok (.getfield 220, 3) := dk_180 0 220 (dk_at dksX1_send_3 2 rfl rfl)
theorem dX1_send_74 : decode cX1_send 74 = .ok (.iconst (-1), 1) := dk_2 (dk_at dksX1_send_3 5 rfl rfl)
theorem dX1_send_75 : decode cX1_send 75 = .ok (.if_icmp .ne 8, 3) := dk_160 0 8 (dk_at dksX1_send_3 6 rfl rfl)
theorem dX1_send_78 : decode cX1_send 78 = .ok (.bipush 10, 2) := dk_16 10 (dk_at dksX1_send_3 9 rfl rfl)
theorem dX1_send_80 : decode cX1_send 80 = .ok (.goto 7, 3) := dk_167 0 7 (dk_at dksX1_send_3 11 rfl rfl)
theorem dX1_send_83 : decode cX1_send 83 = .ok (.aload_n 0, 1) := dk_42 (dk_at dksX1_send_3 14 rfl rfl)
theorem dX1_send_84 : decode cX1_send 84 = .ok (.getfield 220, 3) := dk_180 0 220 (dk_at dksX1_send_3 15 rfl rfl)
theorem dX1_send_87 : decode cX1_send 87 = .ok (.aload_n 0, 1) := dk_42 (dk_at dksX1_send_3 18 rfl rfl)
theorem dX1_send_88 : decode cX1_send 88 = .ok (.getfield 230, 3) := dk_180 0 230 (dk_at dksX1_send_3 19 rfl rfl)
theorem dX1_send_91 : decode cX1_send 91 = .ok (.invokevirtual 255, 3) := dk_182 0 255 (dk_at dksX1_send_4 0 rfl rfl)
theorem dX1_send_94 : decode cX1_send 94 = .ok (.aload_n 0, 1) := dk_42 (dk_at dksX1_send_4 3 rfl rfl)
theorem dX1_send_95 : decode cX1_send 95 = .ok (.getfield 220, 3) := dk_180 0 220 (dk_at dksX1_send_4 4 rfl rfl)
theorem dX1_send_98 : decode cX1_send 98 = .ok (.ireturn, 1) := dk_172 (dk_at dksX1_send_4 7 rfl rfl)
abbrev cX1_can : ByteArray := prog_1_method_6_code
def yX1_can : MethodName := ⟨RX1, "can", "(Z)V"⟩
def dkwX1_can_0 : List UInt8 := [26, 154, 0, 11, 187, 0, 82, 89, 183, 0, 84, 191, 177]
abbrev dktX1_can_0 : List UInt8 := dkwX1_can_0 ++ []
theorem dksX1_can_0 : cX1_can.data.toList.drop 0 = dktX1_can_0 := by decide +kernel
theorem dX1_can_0 : decode cX1_can 0 = .ok (.iload_n 0, 1) := dk_26 (dk_at dksX1_can_0 0 rfl rfl)
theorem dX1_can_1 : decode cX1_can 1 = .ok (.ifCond .ne 11, 3) := dk_154 0 11 (dk_at dksX1_can_0 1 rfl rfl)
theorem dX1_can_4 : decode cX1_can 4 = .ok (.new 82, 3) := dk_187 0 82 (dk_at dksX1_can_0 4 rfl rfl)
theorem dX1_can_7 : decode cX1_can 7 = .ok (.dup, 1) := dk_89 (dk_at dksX1_can_0 7 rfl rfl)
theorem dX1_can_8 : decode cX1_can 8 = .ok (.invokespecial 84, 3) := dk_183 0 84 (dk_at dksX1_can_0 8 rfl rfl)
theorem dX1_can_11 : decode cX1_can 11 = .ok (.athrow, 1) := dk_191 (dk_at dksX1_can_0 11 rfl rfl)
theorem dX1_can_12 : decode cX1_can 12 = .ok (.return_, 1) := dk_177 (dk_at dksX1_can_0 12 rfl rfl)
abbrev cX1_remembers : ByteArray := prog_1_method_25_code
def yX1_remembers : MethodName := ⟨RX1, "remembers", "()V"⟩
def dkwX1_remembers_1 : List UInt8 := [16, 12, 112, 181, 0, 239, 42, 16, 12, 42, 180, 0, 145, 4, 96, 184, 0, 233, 181, 0, 145, 177]
abbrev dktX1_remembers_1 : List UInt8 := dkwX1_remembers_1 ++ []
def dkwX1_remembers_0 : List UInt8 := [42, 180, 0, 29, 42, 180, 0, 239, 50, 42, 180, 0, 19, 182, 0, 141, 42, 42, 180, 0, 239, 4, 96]
abbrev dktX1_remembers_0 : List UInt8 := dkwX1_remembers_0 ++ dktX1_remembers_1
theorem dksX1_remembers_0 : cX1_remembers.data.toList.drop 0 = dktX1_remembers_0 := by decide +kernel
theorem dksX1_remembers_1 : cX1_remembers.data.toList.drop 23 = dktX1_remembers_1 := dk_seg dksX1_remembers_0 23 rfl rfl
theorem dX1_remembers_0 : decode cX1_remembers 0 = .ok (.aload_n 0, 1) := dk_42 (dk_at dksX1_remembers_0 0 rfl rfl)
theorem dX1_remembers_1 : decode cX1_remembers 1 = .ok (.getfield 29, 3) := dk_180 0 29 (dk_at dksX1_remembers_0 1 rfl rfl)
theorem dX1_remembers_4 : decode cX1_remembers 4 = .ok (.aload_n 0, 1) := dk_42 (dk_at dksX1_remembers_0 4 rfl rfl)
theorem dX1_remembers_5 : decode cX1_remembers 5 = .ok (.getfield 239, 3) := dk_180 0 239 (dk_at dksX1_remembers_0 5 rfl rfl)
theorem dX1_remembers_8 : decode cX1_remembers 8 = .ok (.aaload, 1) := dk_50 (dk_at dksX1_remembers_0 8 rfl rfl)
theorem dX1_remembers_9 : decode cX1_remembers 9 = .ok (.aload_n 0, 1) := dk_42 (dk_at dksX1_remembers_0 9 rfl rfl)
theorem dX1_remembers_10 : decode cX1_remembers 10 = .ok (.getfield 19, 3) := dk_180 0 19 (dk_at dksX1_remembers_0 10 rfl rfl)
theorem dX1_remembers_13 : decode cX1_remembers 13 = .ok (.invokevirtual 141, 3) := dk_182 0 141 (dk_at dksX1_remembers_0 13 rfl rfl)
theorem dX1_remembers_16 : decode cX1_remembers 16 = .ok (.aload_n 0, 1) := dk_42 (dk_at dksX1_remembers_0 16 rfl rfl)
theorem dX1_remembers_17 : decode cX1_remembers 17 = .ok (.aload_n 0, 1) := dk_42 (dk_at dksX1_remembers_0 17 rfl rfl)
theorem dX1_remembers_18 : decode cX1_remembers 18 = .ok (.getfield 239, 3) := dk_180 0 239 (dk_at dksX1_remembers_0 18 rfl rfl)
theorem dX1_remembers_21 : decode cX1_remembers 21 = .ok (.iconst 1, 1) := dk_4 (dk_at dksX1_remembers_0 21 rfl rfl)
theorem dX1_remembers_22 : decode cX1_remembers 22 = .ok (.iadd, 1) := dk_96 (dk_at dksX1_remembers_0 22 rfl rfl)
theorem dX1_remembers_23 : decode cX1_remembers 23 = .ok (.bipush 12, 2) := dk_16 12 (dk_at dksX1_remembers_1 0 rfl rfl)
theorem dX1_remembers_25 : decode cX1_remembers 25 = .ok (.irem, 1) := dk_112 (dk_at dksX1_remembers_1 2 rfl rfl)
theorem dX1_remembers_26 : decode cX1_remembers 26 = .ok (.putfield 239, 3) := dk_181 0 239 (dk_at dksX1_remembers_1 3 rfl rfl)
theorem dX1_remembers_29 : decode cX1_remembers 29 = .ok (.aload_n 0, 1) := dk_42 (dk_at dksX1_remembers_1 6 rfl rfl)
theorem dX1_remembers_30 : decode cX1_remembers 30 = .ok (.bipush 12, 2) := dk_16 12 (dk_at dksX1_remembers_1 7 rfl rfl)
theorem dX1_remembers_32 : decode cX1_remembers 32 = .ok (.aload_n 0, 1) := dk_42 (dk_at dksX1_remembers_1 9 rfl rfl)
theorem dX1_remembers_33 : decode cX1_remembers 33 = .ok (.getfield 145, 3) := dk_180 0 145 (dk_at dksX1_remembers_1 10 rfl rfl)
theorem dX1_remembers_36 : decode cX1_remembers 36 = .ok (.iconst 1, 1) := dk_4 (dk_at dksX1_remembers_1 13 rfl rfl)
theorem dX1_remembers_37 : decode cX1_remembers 37 = .ok (.iadd, 1) := dk_96 (dk_at dksX1_remembers_1 14 rfl rfl)
theorem dX1_remembers_38 : decode cX1_remembers 38 = .ok (.invokestatic 233, 3) := dk_184 0 233 (dk_at dksX1_remembers_1 15 rfl rfl)
theorem dX1_remembers_41 : decode cX1_remembers 41 = .ok (.putfield 145, 3) := dk_181 0 145 (dk_at dksX1_remembers_1 18 rfl rfl)
theorem dX1_remembers_44 : decode cX1_remembers 44 = .ok (.return_, 1) := dk_177 (dk_at dksX1_remembers_1 21 rfl rfl)
abbrev cX1_nail : ByteArray := prog_1_method_27_code
def yX1_nail : MethodName := ⟨RX1, "nail", "(II)V"⟩
def dkwX1_nail_2 : List UInt8 := [180, 0, 19, 27, 28, 182, 1, 3, 177]
abbrev dktX1_nail_2 : List UInt8 := dkwX1_nail_2 ++ []
def dkwX1_nail_1 : List UInt8 := [180, 0, 188, 28, 46, 2, 160, 0, 7, 4, 167, 0, 4, 3, 184, 0, 242, 42, 182, 0, 245, 42]
abbrev dktX1_nail_1 : List UInt8 := dkwX1_nail_1 ++ dktX1_nail_2
def dkwX1_nail_0 : List UInt8 := [42, 27, 182, 0, 167, 78, 28, 184, 0, 185, 45, 180, 0, 182, 2, 160, 0, 20, 42, 180, 0, 19]
abbrev dktX1_nail_0 : List UInt8 := dkwX1_nail_0 ++ dktX1_nail_1
theorem dksX1_nail_0 : cX1_nail.data.toList.drop 0 = dktX1_nail_0 := by decide +kernel
theorem dksX1_nail_1 : cX1_nail.data.toList.drop 22 = dktX1_nail_1 := dk_seg dksX1_nail_0 22 rfl rfl
theorem dksX1_nail_2 : cX1_nail.data.toList.drop 44 = dktX1_nail_2 := dk_seg dksX1_nail_1 22 rfl rfl
theorem dX1_nail_0 : decode cX1_nail 0 = .ok (.aload_n 0, 1) := dk_42 (dk_at dksX1_nail_0 0 rfl rfl)
theorem dX1_nail_1 : decode cX1_nail 1 = .ok (.iload_n 1, 1) := dk_27 (dk_at dksX1_nail_0 1 rfl rfl)
theorem dX1_nail_2 : decode cX1_nail 2 = .ok (.invokevirtual 167, 3) := dk_182 0 167 (dk_at dksX1_nail_0 2 rfl rfl)
theorem dX1_nail_5 : decode cX1_nail 5 = .ok (.astore_n 3, 1) := dk_78 (dk_at dksX1_nail_0 5 rfl rfl)
theorem dX1_nail_6 : decode cX1_nail 6 = .ok (.iload_n 2, 1) := dk_28 (dk_at dksX1_nail_0 6 rfl rfl)
theorem dX1_nail_7 : decode cX1_nail 7 = .ok (.invokestatic 185, 3) := dk_184 0 185 (dk_at dksX1_nail_0 7 rfl rfl)
theorem dX1_nail_10 : decode cX1_nail 10 = .ok (.aload_n 3, 1) := dk_45 (dk_at dksX1_nail_0 10 rfl rfl)
theorem dX1_nail_11 : decode cX1_nail 11 = .ok (.getfield 182, 3) := dk_180 0 182 (dk_at dksX1_nail_0 11 rfl rfl)
theorem dX1_nail_14 : decode cX1_nail 14 = .ok (.iconst (-1), 1) := dk_2 (dk_at dksX1_nail_0 14 rfl rfl)
theorem dX1_nail_15 : decode cX1_nail 15 = .ok (.if_icmp .ne 20, 3) := dk_160 0 20 (dk_at dksX1_nail_0 15 rfl rfl)
theorem dX1_nail_18 : decode cX1_nail 18 = .ok (.aload_n 0, 1) := dk_42 (dk_at dksX1_nail_0 18 rfl rfl)
theorem dX1_nail_19 : decode cX1_nail 19 = .ok (.getfield 19, 3) := dk_180 0 19 (dk_at dksX1_nail_0 19 rfl rfl)
theorem dX1_nail_22 : decode cX1_nail 22 = .ok (.getfield 188, 3) := dk_180 0 188 (dk_at dksX1_nail_1 0 rfl rfl)
theorem dX1_nail_25 : decode cX1_nail 25 = .ok (.iload_n 2, 1) := dk_28 (dk_at dksX1_nail_1 3 rfl rfl)
theorem dX1_nail_26 : decode cX1_nail 26 = .ok (.iaload, 1) := dk_46 (dk_at dksX1_nail_1 4 rfl rfl)
theorem dX1_nail_27 : decode cX1_nail 27 = .ok (.iconst (-1), 1) := dk_2 (dk_at dksX1_nail_1 5 rfl rfl)
theorem dX1_nail_28 : decode cX1_nail 28 = .ok (.if_icmp .ne 7, 3) := dk_160 0 7 (dk_at dksX1_nail_1 6 rfl rfl)
theorem dX1_nail_31 : decode cX1_nail 31 = .ok (.iconst 1, 1) := dk_4 (dk_at dksX1_nail_1 9 rfl rfl)
theorem dX1_nail_32 : decode cX1_nail 32 = .ok (.goto 4, 3) := dk_167 0 4 (dk_at dksX1_nail_1 10 rfl rfl)
theorem dX1_nail_35 : decode cX1_nail 35 = .ok (.iconst 0, 1) := dk_3 (dk_at dksX1_nail_1 13 rfl rfl)
theorem dX1_nail_36 : decode cX1_nail 36 = .ok (.invokestatic 242, 3) := dk_184 0 242 (dk_at dksX1_nail_1 14 rfl rfl)
theorem dX1_nail_39 : decode cX1_nail 39 = .ok (.aload_n 0, 1) := dk_42 (dk_at dksX1_nail_1 17 rfl rfl)
theorem dX1_nail_40 : decode cX1_nail 40 = .ok (.invokevirtual 245, 3) := dk_182 0 245 (dk_at dksX1_nail_1 18 rfl rfl)
theorem dX1_nail_43 : decode cX1_nail 43 = .ok (.aload_n 0, 1) := dk_42 (dk_at dksX1_nail_1 21 rfl rfl)
theorem dX1_nail_44 : decode cX1_nail 44 = .ok (.getfield 19, 3) := dk_180 0 19 (dk_at dksX1_nail_2 0 rfl rfl)
theorem dX1_nail_47 : decode cX1_nail 47 = .ok (.iload_n 1, 1) := dk_27 (dk_at dksX1_nail_2 3 rfl rfl)
theorem dX1_nail_48 : decode cX1_nail 48 = .ok (.iload_n 2, 1) := dk_28 (dk_at dksX1_nail_2 4 rfl rfl)
theorem dX1_nail_49 : decode cX1_nail 49 = .ok (.invokevirtual 259, 3) := dk_182 1 3 (dk_at dksX1_nail_2 5 rfl rfl)
theorem dX1_nail_52 : decode cX1_nail 52 = .ok (.return_, 1) := dk_177 (dk_at dksX1_nail_2 8 rfl rfl)
abbrev cX1_down : ByteArray := prog_1_method_28_code
def yX1_down : MethodName := ⟨RX1, "down", "(I)I"⟩
def dkwX1_down_2 : List UInt8 := [182, 1, 7, 28, 172]
abbrev dktX1_down_2 : List UInt8 := dkwX1_down_2 ++ []
def dkwX1_down_1 : List UInt8 := [184, 0, 242, 42, 182, 0, 245, 42, 180, 0, 19, 180, 0, 188, 27, 46, 61, 42, 180, 0, 19, 27]
abbrev dktX1_down_1 : List UInt8 := dkwX1_down_1 ++ dktX1_down_2
def dkwX1_down_0 : List UInt8 := [27, 184, 0, 185, 42, 180, 0, 19, 180, 0, 188, 27, 46, 2, 159, 0, 7, 4, 167, 0, 4, 3]
abbrev dktX1_down_0 : List UInt8 := dkwX1_down_0 ++ dktX1_down_1
theorem dksX1_down_0 : cX1_down.data.toList.drop 0 = dktX1_down_0 := by decide +kernel
theorem dksX1_down_1 : cX1_down.data.toList.drop 22 = dktX1_down_1 := dk_seg dksX1_down_0 22 rfl rfl
theorem dksX1_down_2 : cX1_down.data.toList.drop 44 = dktX1_down_2 := dk_seg dksX1_down_1 22 rfl rfl
theorem dX1_down_0 : decode cX1_down 0 = .ok (.iload_n 1, 1) := dk_27 (dk_at dksX1_down_0 0 rfl rfl)
theorem dX1_down_1 : decode cX1_down 1 = .ok (.invokestatic 185, 3) := dk_184 0 185 (dk_at dksX1_down_0 1 rfl rfl)
theorem dX1_down_4 : decode cX1_down 4 = .ok (.aload_n 0, 1) := dk_42 (dk_at dksX1_down_0 4 rfl rfl)
theorem dX1_down_5 : decode cX1_down 5 = .ok (.getfield 19, 3) := dk_180 0 19 (dk_at dksX1_down_0 5 rfl rfl)
theorem dX1_down_8 : decode cX1_down 8 = .ok (.getfield 188, 3) := dk_180 0 188 (dk_at dksX1_down_0 8 rfl rfl)
theorem dX1_down_11 : decode cX1_down 11 = .ok (.iload_n 1, 1) := dk_27 (dk_at dksX1_down_0 11 rfl rfl)
theorem dX1_down_12 : decode cX1_down 12 = .ok (.iaload, 1) := dk_46 (dk_at dksX1_down_0 12 rfl rfl)
theorem dX1_down_13 : decode cX1_down 13 = .ok (.iconst (-1), 1) := dk_2 (dk_at dksX1_down_0 13 rfl rfl)
theorem dX1_down_14 : decode cX1_down 14 = .ok (.if_icmp .eq 7, 3) := dk_159 0 7 (dk_at dksX1_down_0 14 rfl rfl)
theorem dX1_down_17 : decode cX1_down 17 = .ok (.iconst 1, 1) := dk_4 (dk_at dksX1_down_0 17 rfl rfl)
theorem dX1_down_18 : decode cX1_down 18 = .ok (.goto 4, 3) := dk_167 0 4 (dk_at dksX1_down_0 18 rfl rfl)
theorem dX1_down_21 : decode cX1_down 21 = .ok (.iconst 0, 1) := dk_3 (dk_at dksX1_down_0 21 rfl rfl)
theorem dX1_down_22 : decode cX1_down 22 = .ok (.invokestatic 242, 3) := dk_184 0 242 (dk_at dksX1_down_1 0 rfl rfl)
theorem dX1_down_25 : decode cX1_down 25 = .ok (.aload_n 0, 1) := dk_42 (dk_at dksX1_down_1 3 rfl rfl)
theorem dX1_down_26 : decode cX1_down 26 = .ok (.invokevirtual 245, 3) := dk_182 0 245 (dk_at dksX1_down_1 4 rfl rfl)
theorem dX1_down_29 : decode cX1_down 29 = .ok (.aload_n 0, 1) := dk_42 (dk_at dksX1_down_1 7 rfl rfl)
theorem dX1_down_30 : decode cX1_down 30 = .ok (.getfield 19, 3) := dk_180 0 19 (dk_at dksX1_down_1 8 rfl rfl)
theorem dX1_down_33 : decode cX1_down 33 = .ok (.getfield 188, 3) := dk_180 0 188 (dk_at dksX1_down_1 11 rfl rfl)
theorem dX1_down_36 : decode cX1_down 36 = .ok (.iload_n 1, 1) := dk_27 (dk_at dksX1_down_1 14 rfl rfl)
theorem dX1_down_37 : decode cX1_down 37 = .ok (.iaload, 1) := dk_46 (dk_at dksX1_down_1 15 rfl rfl)
theorem dX1_down_38 : decode cX1_down 38 = .ok (.istore_n 2, 1) := dk_61 (dk_at dksX1_down_1 16 rfl rfl)
theorem dX1_down_39 : decode cX1_down 39 = .ok (.aload_n 0, 1) := dk_42 (dk_at dksX1_down_1 17 rfl rfl)
theorem dX1_down_40 : decode cX1_down 40 = .ok (.getfield 19, 3) := dk_180 0 19 (dk_at dksX1_down_1 18 rfl rfl)
theorem dX1_down_43 : decode cX1_down 43 = .ok (.iload_n 1, 1) := dk_27 (dk_at dksX1_down_1 21 rfl rfl)
theorem dX1_down_44 : decode cX1_down 44 = .ok (.invokevirtual 263, 3) := dk_182 1 7 (dk_at dksX1_down_2 0 rfl rfl)
theorem dX1_down_47 : decode cX1_down 47 = .ok (.iload_n 2, 1) := dk_28 (dk_at dksX1_down_2 3 rfl rfl)
theorem dX1_down_48 : decode cX1_down 48 = .ok (.ireturn, 1) := dk_172 (dk_at dksX1_down_2 4 rfl rfl)
abbrev cX1_mend : ByteArray := prog_1_method_29_code
def yX1_mend : MethodName := ⟨RX1, "mend", "(I)I"⟩
def dkwX1_mend_0 : List UInt8 := [42, 27, 182, 0, 167, 77, 42, 182, 0, 245, 44, 180, 0, 179, 62, 44, 3, 181, 0, 179, 29, 172]
abbrev dktX1_mend_0 : List UInt8 := dkwX1_mend_0 ++ []
theorem dksX1_mend_0 : cX1_mend.data.toList.drop 0 = dktX1_mend_0 := by decide +kernel
theorem dX1_mend_0 : decode cX1_mend 0 = .ok (.aload_n 0, 1) := dk_42 (dk_at dksX1_mend_0 0 rfl rfl)
theorem dX1_mend_1 : decode cX1_mend 1 = .ok (.iload_n 1, 1) := dk_27 (dk_at dksX1_mend_0 1 rfl rfl)
theorem dX1_mend_2 : decode cX1_mend 2 = .ok (.invokevirtual 167, 3) := dk_182 0 167 (dk_at dksX1_mend_0 2 rfl rfl)
theorem dX1_mend_5 : decode cX1_mend 5 = .ok (.astore_n 2, 1) := dk_77 (dk_at dksX1_mend_0 5 rfl rfl)
theorem dX1_mend_6 : decode cX1_mend 6 = .ok (.aload_n 0, 1) := dk_42 (dk_at dksX1_mend_0 6 rfl rfl)
theorem dX1_mend_7 : decode cX1_mend 7 = .ok (.invokevirtual 245, 3) := dk_182 0 245 (dk_at dksX1_mend_0 7 rfl rfl)
theorem dX1_mend_10 : decode cX1_mend 10 = .ok (.aload_n 2, 1) := dk_44 (dk_at dksX1_mend_0 10 rfl rfl)
theorem dX1_mend_11 : decode cX1_mend 11 = .ok (.getfield 179, 3) := dk_180 0 179 (dk_at dksX1_mend_0 11 rfl rfl)
theorem dX1_mend_14 : decode cX1_mend 14 = .ok (.istore_n 3, 1) := dk_62 (dk_at dksX1_mend_0 14 rfl rfl)
theorem dX1_mend_15 : decode cX1_mend 15 = .ok (.aload_n 2, 1) := dk_44 (dk_at dksX1_mend_0 15 rfl rfl)
theorem dX1_mend_16 : decode cX1_mend 16 = .ok (.iconst 0, 1) := dk_3 (dk_at dksX1_mend_0 16 rfl rfl)
theorem dX1_mend_17 : decode cX1_mend 17 = .ok (.putfield 179, 3) := dk_181 0 179 (dk_at dksX1_mend_0 17 rfl rfl)
theorem dX1_mend_20 : decode cX1_mend 20 = .ok (.iload_n 3, 1) := dk_29 (dk_at dksX1_mend_0 20 rfl rfl)
theorem dX1_mend_21 : decode cX1_mend 21 = .ok (.ireturn, 1) := dk_172 (dk_at dksX1_mend_0 21 rfl rfl)
abbrev cX1_recall : ByteArray := prog_1_method_30_code
def yX1_recall : MethodName := ⟨RX1, "recall", "(I)V"⟩
def dkwX1_recall_1 : List UInt8 := [182, 0, 245, 44, 3, 181, 0, 204, 177]
abbrev dktX1_recall_1 : List UInt8 := dkwX1_recall_1 ++ []
def dkwX1_recall_0 : List UInt8 := [42, 27, 182, 0, 191, 77, 44, 180, 0, 204, 5, 160, 0, 7, 4, 167, 0, 4, 3, 184, 0, 242, 42]
abbrev dktX1_recall_0 : List UInt8 := dkwX1_recall_0 ++ dktX1_recall_1
theorem dksX1_recall_0 : cX1_recall.data.toList.drop 0 = dktX1_recall_0 := by decide +kernel
theorem dksX1_recall_1 : cX1_recall.data.toList.drop 23 = dktX1_recall_1 := dk_seg dksX1_recall_0 23 rfl rfl
theorem dX1_recall_0 : decode cX1_recall 0 = .ok (.aload_n 0, 1) := dk_42 (dk_at dksX1_recall_0 0 rfl rfl)
theorem dX1_recall_1 : decode cX1_recall 1 = .ok (.iload_n 1, 1) := dk_27 (dk_at dksX1_recall_0 1 rfl rfl)
theorem dX1_recall_2 : decode cX1_recall 2 = .ok (.invokevirtual 191, 3) := dk_182 0 191 (dk_at dksX1_recall_0 2 rfl rfl)
theorem dX1_recall_5 : decode cX1_recall 5 = .ok (.astore_n 2, 1) := dk_77 (dk_at dksX1_recall_0 5 rfl rfl)
theorem dX1_recall_6 : decode cX1_recall 6 = .ok (.aload_n 2, 1) := dk_44 (dk_at dksX1_recall_0 6 rfl rfl)
theorem dX1_recall_7 : decode cX1_recall 7 = .ok (.getfield 204, 3) := dk_180 0 204 (dk_at dksX1_recall_0 7 rfl rfl)
theorem dX1_recall_10 : decode cX1_recall 10 = .ok (.iconst 2, 1) := dk_5 (dk_at dksX1_recall_0 10 rfl rfl)
theorem dX1_recall_11 : decode cX1_recall 11 = .ok (.if_icmp .ne 7, 3) := dk_160 0 7 (dk_at dksX1_recall_0 11 rfl rfl)
theorem dX1_recall_14 : decode cX1_recall 14 = .ok (.iconst 1, 1) := dk_4 (dk_at dksX1_recall_0 14 rfl rfl)
theorem dX1_recall_15 : decode cX1_recall 15 = .ok (.goto 4, 3) := dk_167 0 4 (dk_at dksX1_recall_0 15 rfl rfl)
theorem dX1_recall_18 : decode cX1_recall 18 = .ok (.iconst 0, 1) := dk_3 (dk_at dksX1_recall_0 18 rfl rfl)
theorem dX1_recall_19 : decode cX1_recall 19 = .ok (.invokestatic 242, 3) := dk_184 0 242 (dk_at dksX1_recall_0 19 rfl rfl)
theorem dX1_recall_22 : decode cX1_recall 22 = .ok (.aload_n 0, 1) := dk_42 (dk_at dksX1_recall_0 22 rfl rfl)
theorem dX1_recall_23 : decode cX1_recall 23 = .ok (.invokevirtual 245, 3) := dk_182 0 245 (dk_at dksX1_recall_1 0 rfl rfl)
theorem dX1_recall_26 : decode cX1_recall 26 = .ok (.aload_n 2, 1) := dk_44 (dk_at dksX1_recall_1 3 rfl rfl)
theorem dX1_recall_27 : decode cX1_recall 27 = .ok (.iconst 0, 1) := dk_3 (dk_at dksX1_recall_1 4 rfl rfl)
theorem dX1_recall_28 : decode cX1_recall 28 = .ok (.putfield 204, 3) := dk_181 0 204 (dk_at dksX1_recall_1 5 rfl rfl)
theorem dX1_recall_31 : decode cX1_recall 31 = .ok (.return_, 1) := dk_177 (dk_at dksX1_recall_1 8 rfl rfl)
abbrev cX1_inside : ByteArray := prog_1_method_31_code
def yX1_inside : MethodName := ⟨RX1, "inside", "(I)I"⟩
def dkwX1_inside_1 : List UInt8 := [182, 0, 245, 44, 6, 181, 0, 204, 42, 180, 0, 19, 6, 182, 1, 10, 184, 1, 13, 172]
abbrev dktX1_inside_1 : List UInt8 := dkwX1_inside_1 ++ []
def dkwX1_inside_0 : List UInt8 := [42, 27, 182, 0, 191, 77, 44, 180, 0, 204, 154, 0, 7, 4, 167, 0, 4, 3, 184, 0, 242, 42]
abbrev dktX1_inside_0 : List UInt8 := dkwX1_inside_0 ++ dktX1_inside_1
theorem dksX1_inside_0 : cX1_inside.data.toList.drop 0 = dktX1_inside_0 := by decide +kernel
theorem dksX1_inside_1 : cX1_inside.data.toList.drop 22 = dktX1_inside_1 := dk_seg dksX1_inside_0 22 rfl rfl
theorem dX1_inside_0 : decode cX1_inside 0 = .ok (.aload_n 0, 1) := dk_42 (dk_at dksX1_inside_0 0 rfl rfl)
theorem dX1_inside_1 : decode cX1_inside 1 = .ok (.iload_n 1, 1) := dk_27 (dk_at dksX1_inside_0 1 rfl rfl)
theorem dX1_inside_2 : decode cX1_inside 2 = .ok (.invokevirtual 191, 3) := dk_182 0 191 (dk_at dksX1_inside_0 2 rfl rfl)
theorem dX1_inside_5 : decode cX1_inside 5 = .ok (.astore_n 2, 1) := dk_77 (dk_at dksX1_inside_0 5 rfl rfl)
theorem dX1_inside_6 : decode cX1_inside 6 = .ok (.aload_n 2, 1) := dk_44 (dk_at dksX1_inside_0 6 rfl rfl)
theorem dX1_inside_7 : decode cX1_inside 7 = .ok (.getfield 204, 3) := dk_180 0 204 (dk_at dksX1_inside_0 7 rfl rfl)
theorem dX1_inside_10 : decode cX1_inside 10 = .ok (.ifCond .ne 7, 3) := dk_154 0 7 (dk_at dksX1_inside_0 10 rfl rfl)
theorem dX1_inside_13 : decode cX1_inside 13 = .ok (.iconst 1, 1) := dk_4 (dk_at dksX1_inside_0 13 rfl rfl)
theorem dX1_inside_14 : decode cX1_inside 14 = .ok (.goto 4, 3) := dk_167 0 4 (dk_at dksX1_inside_0 14 rfl rfl)
theorem dX1_inside_17 : decode cX1_inside 17 = .ok (.iconst 0, 1) := dk_3 (dk_at dksX1_inside_0 17 rfl rfl)
theorem dX1_inside_18 : decode cX1_inside 18 = .ok (.invokestatic 242, 3) := dk_184 0 242 (dk_at dksX1_inside_0 18 rfl rfl)
theorem dX1_inside_21 : decode cX1_inside 21 = .ok (.aload_n 0, 1) := dk_42 (dk_at dksX1_inside_0 21 rfl rfl)
theorem dX1_inside_22 : decode cX1_inside 22 = .ok (.invokevirtual 245, 3) := dk_182 0 245 (dk_at dksX1_inside_1 0 rfl rfl)
theorem dX1_inside_25 : decode cX1_inside 25 = .ok (.aload_n 2, 1) := dk_44 (dk_at dksX1_inside_1 3 rfl rfl)
theorem dX1_inside_26 : decode cX1_inside 26 = .ok (.iconst 3, 1) := dk_6 (dk_at dksX1_inside_1 4 rfl rfl)
theorem dX1_inside_27 : decode cX1_inside 27 = .ok (.putfield 204, 3) := dk_181 0 204 (dk_at dksX1_inside_1 5 rfl rfl)
theorem dX1_inside_30 : decode cX1_inside 30 = .ok (.aload_n 0, 1) := dk_42 (dk_at dksX1_inside_1 8 rfl rfl)
theorem dX1_inside_31 : decode cX1_inside 31 = .ok (.getfield 19, 3) := dk_180 0 19 (dk_at dksX1_inside_1 9 rfl rfl)
theorem dX1_inside_34 : decode cX1_inside 34 = .ok (.iconst 3, 1) := dk_6 (dk_at dksX1_inside_1 12 rfl rfl)
theorem dX1_inside_35 : decode cX1_inside 35 = .ok (.invokevirtual 266, 3) := dk_182 1 10 (dk_at dksX1_inside_1 13 rfl rfl)
theorem dX1_inside_38 : decode cX1_inside 38 = .ok (.invokestatic 269, 3) := dk_184 1 13 (dk_at dksX1_inside_1 16 rfl rfl)
theorem dX1_inside_41 : decode cX1_inside 41 = .ok (.ireturn, 1) := dk_172 (dk_at dksX1_inside_1 19 rfl rfl)
abbrev cX1_calm : ByteArray := prog_1_method_32_code
def yX1_calm : MethodName := ⟨RX1, "calm", "(I)I"⟩
def dkwX1_calm_1 : List UInt8 := [180, 0, 19, 27, 181, 1, 18, 28, 172]
abbrev dktX1_calm_1 : List UInt8 := dkwX1_calm_1 ++ []
def dkwX1_calm_0 : List UInt8 := [27, 3, 16, 9, 184, 0, 88, 184, 0, 207, 42, 182, 0, 245, 42, 180, 0, 19, 180, 1, 18, 61, 42]
abbrev dktX1_calm_0 : List UInt8 := dkwX1_calm_0 ++ dktX1_calm_1
theorem dksX1_calm_0 : cX1_calm.data.toList.drop 0 = dktX1_calm_0 := by decide +kernel
theorem dksX1_calm_1 : cX1_calm.data.toList.drop 23 = dktX1_calm_1 := dk_seg dksX1_calm_0 23 rfl rfl
theorem dX1_calm_0 : decode cX1_calm 0 = .ok (.iload_n 1, 1) := dk_27 (dk_at dksX1_calm_0 0 rfl rfl)
theorem dX1_calm_1 : decode cX1_calm 1 = .ok (.iconst 0, 1) := dk_3 (dk_at dksX1_calm_0 1 rfl rfl)
theorem dX1_calm_2 : decode cX1_calm 2 = .ok (.bipush 9, 2) := dk_16 9 (dk_at dksX1_calm_0 2 rfl rfl)
theorem dX1_calm_4 : decode cX1_calm 4 = .ok (.invokestatic 88, 3) := dk_184 0 88 (dk_at dksX1_calm_0 4 rfl rfl)
theorem dX1_calm_7 : decode cX1_calm 7 = .ok (.invokestatic 207, 3) := dk_184 0 207 (dk_at dksX1_calm_0 7 rfl rfl)
theorem dX1_calm_10 : decode cX1_calm 10 = .ok (.aload_n 0, 1) := dk_42 (dk_at dksX1_calm_0 10 rfl rfl)
theorem dX1_calm_11 : decode cX1_calm 11 = .ok (.invokevirtual 245, 3) := dk_182 0 245 (dk_at dksX1_calm_0 11 rfl rfl)
theorem dX1_calm_14 : decode cX1_calm 14 = .ok (.aload_n 0, 1) := dk_42 (dk_at dksX1_calm_0 14 rfl rfl)
theorem dX1_calm_15 : decode cX1_calm 15 = .ok (.getfield 19, 3) := dk_180 0 19 (dk_at dksX1_calm_0 15 rfl rfl)
theorem dX1_calm_18 : decode cX1_calm 18 = .ok (.getfield 274, 3) := dk_180 1 18 (dk_at dksX1_calm_0 18 rfl rfl)
theorem dX1_calm_21 : decode cX1_calm 21 = .ok (.istore_n 2, 1) := dk_61 (dk_at dksX1_calm_0 21 rfl rfl)
theorem dX1_calm_22 : decode cX1_calm 22 = .ok (.aload_n 0, 1) := dk_42 (dk_at dksX1_calm_0 22 rfl rfl)
theorem dX1_calm_23 : decode cX1_calm 23 = .ok (.getfield 19, 3) := dk_180 0 19 (dk_at dksX1_calm_1 0 rfl rfl)
theorem dX1_calm_26 : decode cX1_calm 26 = .ok (.iload_n 1, 1) := dk_27 (dk_at dksX1_calm_1 3 rfl rfl)
theorem dX1_calm_27 : decode cX1_calm 27 = .ok (.putfield 274, 3) := dk_181 1 18 (dk_at dksX1_calm_1 4 rfl rfl)
theorem dX1_calm_30 : decode cX1_calm 30 = .ok (.iload_n 2, 1) := dk_28 (dk_at dksX1_calm_1 7 rfl rfl)
theorem dX1_calm_31 : decode cX1_calm 31 = .ok (.ireturn, 1) := dk_172 (dk_at dksX1_calm_1 8 rfl rfl)
abbrev cX1_mornings : ByteArray := prog_1_method_33_code
def yX1_mornings : MethodName := ⟨RX1, "mornings", "(I)I"⟩
def dkwX1_mornings_4 : List UInt8 := [42, 180, 0, 19, 180, 1, 24, 27, 96, 184, 0, 233, 181, 1, 24, 28, 172]
abbrev dktX1_mornings_4 : List UInt8 := dkwX1_mornings_4 ++ []
def dkwX1_mornings_3 : List UInt8 := [181, 0, 179, 28, 25, 4, 180, 0, 179, 96, 61, 132, 3, 1, 167, 255, 188, 42, 180, 0, 19, 17, 39, 15]
abbrev dktX1_mornings_3 : List UInt8 := dkwX1_mornings_3 ++ dktX1_mornings_4
def dkwX1_mornings_2 : List UInt8 := [180, 0, 19, 180, 0, 188, 29, 46, 50, 58, 4, 25, 4, 3, 25, 4, 180, 0, 179, 27, 100, 184, 1, 21]
abbrev dktX1_mornings_2 : List UInt8 := dkwX1_mornings_2 ++ dktX1_mornings_3
def dkwX1_mornings_1 : List UInt8 := [42, 180, 0, 19, 180, 0, 188, 29, 46, 2, 160, 0, 6, 167, 0, 46, 42, 180, 0, 19, 180, 0, 96, 42]
abbrev dktX1_mornings_1 : List UInt8 := dkwX1_mornings_1 ++ dktX1_mornings_2
def dkwX1_mornings_0 : List UInt8 := [27, 4, 16, 60, 184, 0, 88, 184, 0, 207, 42, 182, 0, 245, 3, 61, 3, 62, 29, 16, 10, 162, 0, 68]
abbrev dktX1_mornings_0 : List UInt8 := dkwX1_mornings_0 ++ dktX1_mornings_1
theorem dksX1_mornings_0 : cX1_mornings.data.toList.drop 0 = dktX1_mornings_0 := by decide +kernel
theorem dksX1_mornings_1 : cX1_mornings.data.toList.drop 24 = dktX1_mornings_1 := dk_seg dksX1_mornings_0 24 rfl rfl
theorem dksX1_mornings_2 : cX1_mornings.data.toList.drop 48 = dktX1_mornings_2 := dk_seg dksX1_mornings_1 24 rfl rfl
theorem dksX1_mornings_3 : cX1_mornings.data.toList.drop 72 = dktX1_mornings_3 := dk_seg dksX1_mornings_2 24 rfl rfl
theorem dksX1_mornings_4 : cX1_mornings.data.toList.drop 96 = dktX1_mornings_4 := dk_seg dksX1_mornings_3 24 rfl rfl
theorem dX1_mornings_0 : decode cX1_mornings 0 = .ok (.iload_n 1, 1) := dk_27 (dk_at dksX1_mornings_0 0 rfl rfl)
theorem dX1_mornings_1 : decode cX1_mornings 1 = .ok (.iconst 1, 1) := dk_4 (dk_at dksX1_mornings_0 1 rfl rfl)
theorem dX1_mornings_2 : decode cX1_mornings 2 = .ok (.bipush 60, 2) := dk_16 60 (dk_at dksX1_mornings_0 2 rfl rfl)
theorem dX1_mornings_4 : decode cX1_mornings 4 = .ok (.invokestatic 88, 3) := dk_184 0 88 (dk_at dksX1_mornings_0 4 rfl rfl)
theorem dX1_mornings_7 : decode cX1_mornings 7 = .ok (.invokestatic 207, 3) := dk_184 0 207 (dk_at dksX1_mornings_0 7 rfl rfl)
theorem dX1_mornings_10 : decode cX1_mornings 10 = .ok (.aload_n 0, 1) := dk_42 (dk_at dksX1_mornings_0 10 rfl rfl)
theorem dX1_mornings_11 : decode cX1_mornings 11 = .ok (.invokevirtual 245, 3) := dk_182 0 245 (dk_at dksX1_mornings_0 11 rfl rfl)
theorem dX1_mornings_14 : decode cX1_mornings 14 = .ok (.iconst 0, 1) := dk_3 (dk_at dksX1_mornings_0 14 rfl rfl)
theorem dX1_mornings_15 : decode cX1_mornings 15 = .ok (.istore_n 2, 1) := dk_61 (dk_at dksX1_mornings_0 15 rfl rfl)
theorem dX1_mornings_16 : decode cX1_mornings 16 = .ok (.iconst 0, 1) := dk_3 (dk_at dksX1_mornings_0 16 rfl rfl)
theorem dX1_mornings_17 : decode cX1_mornings 17 = .ok (.istore_n 3, 1) := dk_62 (dk_at dksX1_mornings_0 17 rfl rfl)
theorem dX1_mornings_18 : decode cX1_mornings 18 = .ok (.iload_n 3, 1) := dk_29 (dk_at dksX1_mornings_0 18 rfl rfl)
theorem dX1_mornings_19 : decode cX1_mornings 19 = .ok (.bipush 10, 2) := dk_16 10 (dk_at dksX1_mornings_0 19 rfl rfl)
theorem dX1_mornings_21 : decode cX1_mornings 21 = .ok (.if_icmp .ge 68, 3) := dk_162 0 68 (dk_at dksX1_mornings_0 21 rfl rfl)
theorem dX1_mornings_24 : decode cX1_mornings 24 = .ok (.aload_n 0, 1) := dk_42 (dk_at dksX1_mornings_1 0 rfl rfl)
theorem dX1_mornings_25 : decode cX1_mornings 25 = .ok (.getfield 19, 3) := dk_180 0 19 (dk_at dksX1_mornings_1 1 rfl rfl)
theorem dX1_mornings_28 : decode cX1_mornings 28 = .ok (.getfield 188, 3) := dk_180 0 188 (dk_at dksX1_mornings_1 4 rfl rfl)
theorem dX1_mornings_31 : decode cX1_mornings 31 = .ok (.iload_n 3, 1) := dk_29 (dk_at dksX1_mornings_1 7 rfl rfl)
theorem dX1_mornings_32 : decode cX1_mornings 32 = .ok (.iaload, 1) := dk_46 (dk_at dksX1_mornings_1 8 rfl rfl)
theorem dX1_mornings_33 : decode cX1_mornings 33 = .ok (.iconst (-1), 1) := dk_2 (dk_at dksX1_mornings_1 9 rfl rfl)
theorem dX1_mornings_34 : decode cX1_mornings 34 = .ok (.if_icmp .ne 6, 3) := dk_160 0 6 (dk_at dksX1_mornings_1 10 rfl rfl)
theorem dX1_mornings_37 : decode cX1_mornings 37 = .ok (.goto 46, 3) := dk_167 0 46 (dk_at dksX1_mornings_1 13 rfl rfl)
theorem dX1_mornings_40 : decode cX1_mornings 40 = .ok (.aload_n 0, 1) := dk_42 (dk_at dksX1_mornings_1 16 rfl rfl)
theorem dX1_mornings_41 : decode cX1_mornings 41 = .ok (.getfield 19, 3) := dk_180 0 19 (dk_at dksX1_mornings_1 17 rfl rfl)
theorem dX1_mornings_44 : decode cX1_mornings 44 = .ok (.getfield 96, 3) := dk_180 0 96 (dk_at dksX1_mornings_1 20 rfl rfl)
theorem dX1_mornings_47 : decode cX1_mornings 47 = .ok (.aload_n 0, 1) := dk_42 (dk_at dksX1_mornings_1 23 rfl rfl)
theorem dX1_mornings_48 : decode cX1_mornings 48 = .ok (.getfield 19, 3) := dk_180 0 19 (dk_at dksX1_mornings_2 0 rfl rfl)
theorem dX1_mornings_51 : decode cX1_mornings 51 = .ok (.getfield 188, 3) := dk_180 0 188 (dk_at dksX1_mornings_2 3 rfl rfl)
theorem dX1_mornings_54 : decode cX1_mornings 54 = .ok (.iload_n 3, 1) := dk_29 (dk_at dksX1_mornings_2 6 rfl rfl)
theorem dX1_mornings_55 : decode cX1_mornings 55 = .ok (.iaload, 1) := dk_46 (dk_at dksX1_mornings_2 7 rfl rfl)
theorem dX1_mornings_56 : decode cX1_mornings 56 = .ok (.aaload, 1) := dk_50 (dk_at dksX1_mornings_2 8 rfl rfl)
theorem dX1_mornings_57 : decode cX1_mornings 57 = .ok (.astore 4, 2) := dk_58 4 (dk_at dksX1_mornings_2 9 rfl rfl)
theorem dX1_mornings_59 : decode cX1_mornings 59 = .ok (.aload 4, 2) := dk_25 4 (dk_at dksX1_mornings_2 11 rfl rfl)
theorem dX1_mornings_61 : decode cX1_mornings 61 = .ok (.iconst 0, 1) := dk_3 (dk_at dksX1_mornings_2 13 rfl rfl)
theorem dX1_mornings_62 : decode cX1_mornings 62 = .ok (.aload 4, 2) := dk_25 4 (dk_at dksX1_mornings_2 14 rfl rfl)
theorem dX1_mornings_64 : decode cX1_mornings 64 = .ok (.getfield 179, 3) := dk_180 0 179 (dk_at dksX1_mornings_2 16 rfl rfl)
theorem dX1_mornings_67 : decode cX1_mornings 67 = .ok (.iload_n 1, 1) := dk_27 (dk_at dksX1_mornings_2 19 rfl rfl)
theorem dX1_mornings_68 : decode cX1_mornings 68 = .ok (.isub, 1) := dk_100 (dk_at dksX1_mornings_2 20 rfl rfl)
theorem dX1_mornings_69 : decode cX1_mornings 69 = .ok (.invokestatic 277, 3) := dk_184 1 21 (dk_at dksX1_mornings_2 21 rfl rfl)
theorem dX1_mornings_72 : decode cX1_mornings 72 = .ok (.putfield 179, 3) := dk_181 0 179 (dk_at dksX1_mornings_3 0 rfl rfl)
theorem dX1_mornings_75 : decode cX1_mornings 75 = .ok (.iload_n 2, 1) := dk_28 (dk_at dksX1_mornings_3 3 rfl rfl)
theorem dX1_mornings_76 : decode cX1_mornings 76 = .ok (.aload 4, 2) := dk_25 4 (dk_at dksX1_mornings_3 4 rfl rfl)
theorem dX1_mornings_78 : decode cX1_mornings 78 = .ok (.getfield 179, 3) := dk_180 0 179 (dk_at dksX1_mornings_3 6 rfl rfl)
theorem dX1_mornings_81 : decode cX1_mornings 81 = .ok (.iadd, 1) := dk_96 (dk_at dksX1_mornings_3 9 rfl rfl)
theorem dX1_mornings_82 : decode cX1_mornings 82 = .ok (.istore_n 2, 1) := dk_61 (dk_at dksX1_mornings_3 10 rfl rfl)
theorem dX1_mornings_83 : decode cX1_mornings 83 = .ok (.iinc 3 1, 3) := dk_132 3 1 (dk_at dksX1_mornings_3 11 rfl rfl)
theorem dX1_mornings_86 : decode cX1_mornings 86 = .ok (.goto (-68), 3) := dk_167 255 188 (dk_at dksX1_mornings_3 14 rfl rfl)
theorem dX1_mornings_89 : decode cX1_mornings 89 = .ok (.aload_n 0, 1) := dk_42 (dk_at dksX1_mornings_3 17 rfl rfl)
theorem dX1_mornings_90 : decode cX1_mornings 90 = .ok (.getfield 19, 3) := dk_180 0 19 (dk_at dksX1_mornings_3 18 rfl rfl)
theorem dX1_mornings_93 : decode cX1_mornings 93 = .ok (.sipush 9999, 3) := dk_17 39 15 (dk_at dksX1_mornings_3 21 rfl rfl)
theorem dX1_mornings_96 : decode cX1_mornings 96 = .ok (.aload_n 0, 1) := dk_42 (dk_at dksX1_mornings_4 0 rfl rfl)
theorem dX1_mornings_97 : decode cX1_mornings 97 = .ok (.getfield 19, 3) := dk_180 0 19 (dk_at dksX1_mornings_4 1 rfl rfl)
theorem dX1_mornings_100 : decode cX1_mornings 100 = .ok (.getfield 280, 3) := dk_180 1 24 (dk_at dksX1_mornings_4 4 rfl rfl)
theorem dX1_mornings_103 : decode cX1_mornings 103 = .ok (.iload_n 1, 1) := dk_27 (dk_at dksX1_mornings_4 7 rfl rfl)
theorem dX1_mornings_104 : decode cX1_mornings 104 = .ok (.iadd, 1) := dk_96 (dk_at dksX1_mornings_4 8 rfl rfl)
theorem dX1_mornings_105 : decode cX1_mornings 105 = .ok (.invokestatic 233, 3) := dk_184 0 233 (dk_at dksX1_mornings_4 9 rfl rfl)
theorem dX1_mornings_108 : decode cX1_mornings 108 = .ok (.putfield 280, 3) := dk_181 1 24 (dk_at dksX1_mornings_4 12 rfl rfl)
theorem dX1_mornings_111 : decode cX1_mornings 111 = .ok (.iload_n 2, 1) := dk_28 (dk_at dksX1_mornings_4 15 rfl rfl)
theorem dX1_mornings_112 : decode cX1_mornings 112 = .ok (.ireturn, 1) := dk_172 (dk_at dksX1_mornings_4 16 rfl rfl)
abbrev cX1_straight : ByteArray := prog_1_method_34_code
def yX1_straight : MethodName := ⟨RX1, "straight", "(I)I"⟩
def dkwX1_straight_0 : List UInt8 := [42, 42, 27, 182, 0, 191, 3, 182, 0, 248, 42, 180, 0, 220, 172]
abbrev dktX1_straight_0 : List UInt8 := dkwX1_straight_0 ++ []
theorem dksX1_straight_0 : cX1_straight.data.toList.drop 0 = dktX1_straight_0 := by decide +kernel
theorem dX1_straight_0 : decode cX1_straight 0 = .ok (.aload_n 0, 1) := dk_42 (dk_at dksX1_straight_0 0 rfl rfl)
theorem dX1_straight_1 : decode cX1_straight 1 = .ok (.aload_n 0, 1) := dk_42 (dk_at dksX1_straight_0 1 rfl rfl)
theorem dX1_straight_2 : decode cX1_straight 2 = .ok (.iload_n 1, 1) := dk_27 (dk_at dksX1_straight_0 2 rfl rfl)
theorem dX1_straight_3 : decode cX1_straight 3 = .ok (.invokevirtual 191, 3) := dk_182 0 191 (dk_at dksX1_straight_0 3 rfl rfl)
theorem dX1_straight_6 : decode cX1_straight 6 = .ok (.iconst 0, 1) := dk_3 (dk_at dksX1_straight_0 6 rfl rfl)
theorem dX1_straight_7 : decode cX1_straight 7 = .ok (.invokevirtual 248, 3) := dk_182 0 248 (dk_at dksX1_straight_0 7 rfl rfl)
theorem dX1_straight_10 : decode cX1_straight 10 = .ok (.aload_n 0, 1) := dk_42 (dk_at dksX1_straight_0 10 rfl rfl)
theorem dX1_straight_11 : decode cX1_straight 11 = .ok (.getfield 220, 3) := dk_180 0 220 (dk_at dksX1_straight_0 11 rfl rfl)
theorem dX1_straight_14 : decode cX1_straight 14 = .ok (.ireturn, 1) := dk_172 (dk_at dksX1_straight_0 14 rfl rfl)
abbrev cX1_tense : ByteArray := prog_1_method_35_code
def yX1_tense : MethodName := ⟨RX1, "tense", "(II)I"⟩
def dkwX1_tense_2 : List UInt8 := [132, 5, 1, 167, 255, 221, 21, 4, 172]
abbrev dktX1_tense_2 : List UInt8 := dkwX1_tense_2 ++ []
def dkwX1_tense_1 : List UInt8 := [45, 180, 0, 198, 164, 0, 5, 2, 172, 42, 180, 0, 19, 45, 21, 5, 21, 4, 4, 182, 0, 226, 54, 4]
abbrev dktX1_tense_1 : List UInt8 := dkwX1_tense_1 ++ dktX1_tense_2
def dkwX1_tense_0 : List UInt8 := [42, 27, 182, 0, 191, 78, 28, 184, 0, 185, 3, 54, 4, 3, 54, 5, 21, 5, 28, 163, 0, 35, 21, 4]
abbrev dktX1_tense_0 : List UInt8 := dkwX1_tense_0 ++ dktX1_tense_1
theorem dksX1_tense_0 : cX1_tense.data.toList.drop 0 = dktX1_tense_0 := by decide +kernel
theorem dksX1_tense_1 : cX1_tense.data.toList.drop 24 = dktX1_tense_1 := dk_seg dksX1_tense_0 24 rfl rfl
theorem dksX1_tense_2 : cX1_tense.data.toList.drop 48 = dktX1_tense_2 := dk_seg dksX1_tense_1 24 rfl rfl
theorem dX1_tense_0 : decode cX1_tense 0 = .ok (.aload_n 0, 1) := dk_42 (dk_at dksX1_tense_0 0 rfl rfl)
theorem dX1_tense_1 : decode cX1_tense 1 = .ok (.iload_n 1, 1) := dk_27 (dk_at dksX1_tense_0 1 rfl rfl)
theorem dX1_tense_2 : decode cX1_tense 2 = .ok (.invokevirtual 191, 3) := dk_182 0 191 (dk_at dksX1_tense_0 2 rfl rfl)
theorem dX1_tense_5 : decode cX1_tense 5 = .ok (.astore_n 3, 1) := dk_78 (dk_at dksX1_tense_0 5 rfl rfl)
theorem dX1_tense_6 : decode cX1_tense 6 = .ok (.iload_n 2, 1) := dk_28 (dk_at dksX1_tense_0 6 rfl rfl)
theorem dX1_tense_7 : decode cX1_tense 7 = .ok (.invokestatic 185, 3) := dk_184 0 185 (dk_at dksX1_tense_0 7 rfl rfl)
theorem dX1_tense_10 : decode cX1_tense 10 = .ok (.iconst 0, 1) := dk_3 (dk_at dksX1_tense_0 10 rfl rfl)
theorem dX1_tense_11 : decode cX1_tense 11 = .ok (.istore 4, 2) := dk_54 4 (dk_at dksX1_tense_0 11 rfl rfl)
theorem dX1_tense_13 : decode cX1_tense 13 = .ok (.iconst 0, 1) := dk_3 (dk_at dksX1_tense_0 13 rfl rfl)
theorem dX1_tense_14 : decode cX1_tense 14 = .ok (.istore 5, 2) := dk_54 5 (dk_at dksX1_tense_0 14 rfl rfl)
theorem dX1_tense_16 : decode cX1_tense 16 = .ok (.iload 5, 2) := dk_21 5 (dk_at dksX1_tense_0 16 rfl rfl)
theorem dX1_tense_18 : decode cX1_tense 18 = .ok (.iload_n 2, 1) := dk_28 (dk_at dksX1_tense_0 18 rfl rfl)
theorem dX1_tense_19 : decode cX1_tense 19 = .ok (.if_icmp .gt 35, 3) := dk_163 0 35 (dk_at dksX1_tense_0 19 rfl rfl)
theorem dX1_tense_22 : decode cX1_tense 22 = .ok (.iload 4, 2) := dk_21 4 (dk_at dksX1_tense_0 22 rfl rfl)
theorem dX1_tense_24 : decode cX1_tense 24 = .ok (.aload_n 3, 1) := dk_45 (dk_at dksX1_tense_1 0 rfl rfl)
theorem dX1_tense_25 : decode cX1_tense 25 = .ok (.getfield 198, 3) := dk_180 0 198 (dk_at dksX1_tense_1 1 rfl rfl)
theorem dX1_tense_28 : decode cX1_tense 28 = .ok (.if_icmp .le 5, 3) := dk_164 0 5 (dk_at dksX1_tense_1 4 rfl rfl)
theorem dX1_tense_31 : decode cX1_tense 31 = .ok (.iconst (-1), 1) := dk_2 (dk_at dksX1_tense_1 7 rfl rfl)
theorem dX1_tense_32 : decode cX1_tense 32 = .ok (.ireturn, 1) := dk_172 (dk_at dksX1_tense_1 8 rfl rfl)
theorem dX1_tense_33 : decode cX1_tense 33 = .ok (.aload_n 0, 1) := dk_42 (dk_at dksX1_tense_1 9 rfl rfl)
theorem dX1_tense_34 : decode cX1_tense 34 = .ok (.getfield 19, 3) := dk_180 0 19 (dk_at dksX1_tense_1 10 rfl rfl)
theorem dX1_tense_37 : decode cX1_tense 37 = .ok (.aload_n 3, 1) := dk_45 (dk_at dksX1_tense_1 13 rfl rfl)
theorem dX1_tense_38 : decode cX1_tense 38 = .ok (.iload 5, 2) := dk_21 5 (dk_at dksX1_tense_1 14 rfl rfl)
theorem dX1_tense_40 : decode cX1_tense 40 = .ok (.iload 4, 2) := dk_21 4 (dk_at dksX1_tense_1 16 rfl rfl)
theorem dX1_tense_42 : decode cX1_tense 42 = .ok (.iconst 1, 1) := dk_4 (dk_at dksX1_tense_1 18 rfl rfl)
theorem dX1_tense_43 : decode cX1_tense 43 = .ok (.invokevirtual 226, 3) := dk_182 0 226 (dk_at dksX1_tense_1 19 rfl rfl)
theorem dX1_tense_46 : decode cX1_tense 46 = .ok (.istore 4, 2) := dk_54 4 (dk_at dksX1_tense_1 22 rfl rfl)
theorem dX1_tense_48 : decode cX1_tense 48 = .ok (.iinc 5 1, 3) := dk_132 5 1 (dk_at dksX1_tense_2 0 rfl rfl)
theorem dX1_tense_51 : decode cX1_tense 51 = .ok (.goto (-35), 3) := dk_167 255 221 (dk_at dksX1_tense_2 3 rfl rfl)
theorem dX1_tense_54 : decode cX1_tense 54 = .ok (.iload 4, 2) := dk_21 4 (dk_at dksX1_tense_2 6 rfl rfl)
theorem dX1_tense_56 : decode cX1_tense 56 = .ok (.ireturn, 1) := dk_172 (dk_at dksX1_tense_2 8 rfl rfl)
abbrev cX1_ways : ByteArray := prog_1_method_36_code
def yX1_ways : MethodName := ⟨RX1, "ways", "(I)I"⟩
def dkwX1_ways_0 : List UInt8 := [42, 180, 0, 38, 42, 27, 182, 0, 191, 182, 1, 27, 42, 180, 0, 38, 180, 1, 31, 172]
abbrev dktX1_ways_0 : List UInt8 := dkwX1_ways_0 ++ []
theorem dksX1_ways_0 : cX1_ways.data.toList.drop 0 = dktX1_ways_0 := by decide +kernel
theorem dX1_ways_0 : decode cX1_ways 0 = .ok (.aload_n 0, 1) := dk_42 (dk_at dksX1_ways_0 0 rfl rfl)
theorem dX1_ways_1 : decode cX1_ways 1 = .ok (.getfield 38, 3) := dk_180 0 38 (dk_at dksX1_ways_0 1 rfl rfl)
theorem dX1_ways_4 : decode cX1_ways 4 = .ok (.aload_n 0, 1) := dk_42 (dk_at dksX1_ways_0 4 rfl rfl)
theorem dX1_ways_5 : decode cX1_ways 5 = .ok (.iload_n 1, 1) := dk_27 (dk_at dksX1_ways_0 5 rfl rfl)
theorem dX1_ways_6 : decode cX1_ways 6 = .ok (.invokevirtual 191, 3) := dk_182 0 191 (dk_at dksX1_ways_0 6 rfl rfl)
theorem dX1_ways_9 : decode cX1_ways 9 = .ok (.invokevirtual 283, 3) := dk_182 1 27 (dk_at dksX1_ways_0 9 rfl rfl)
theorem dX1_ways_12 : decode cX1_ways 12 = .ok (.aload_n 0, 1) := dk_42 (dk_at dksX1_ways_0 12 rfl rfl)
theorem dX1_ways_13 : decode cX1_ways 13 = .ok (.getfield 38, 3) := dk_180 0 38 (dk_at dksX1_ways_0 13 rfl rfl)
theorem dX1_ways_16 : decode cX1_ways 16 = .ok (.getfield 287, 3) := dk_180 1 31 (dk_at dksX1_ways_0 16 rfl rfl)
theorem dX1_ways_19 : decode cX1_ways 19 = .ok (.ireturn, 1) := dk_172 (dk_at dksX1_ways_0 19 rfl rfl)
abbrev cX1_at : ByteArray := prog_1_method_37_code
def yX1_at : MethodName := ⟨RX1, "at", "(II)I"⟩
def dkwX1_at_1 : List UInt8 := [180, 1, 34, 28, 46, 172]
abbrev dktX1_at_1 : List UInt8 := dkwX1_at_1 ++ []
def dkwX1_at_0 : List UInt8 := [42, 27, 182, 0, 191, 78, 28, 184, 0, 185, 42, 180, 0, 38, 45, 182, 1, 27, 42, 180, 0, 38]
abbrev dktX1_at_0 : List UInt8 := dkwX1_at_0 ++ dktX1_at_1
theorem dksX1_at_0 : cX1_at.data.toList.drop 0 = dktX1_at_0 := by decide +kernel
theorem dksX1_at_1 : cX1_at.data.toList.drop 22 = dktX1_at_1 := dk_seg dksX1_at_0 22 rfl rfl
theorem dX1_at_0 : decode cX1_at 0 = .ok (.aload_n 0, 1) := dk_42 (dk_at dksX1_at_0 0 rfl rfl)
theorem dX1_at_1 : decode cX1_at 1 = .ok (.iload_n 1, 1) := dk_27 (dk_at dksX1_at_0 1 rfl rfl)
theorem dX1_at_2 : decode cX1_at 2 = .ok (.invokevirtual 191, 3) := dk_182 0 191 (dk_at dksX1_at_0 2 rfl rfl)
theorem dX1_at_5 : decode cX1_at 5 = .ok (.astore_n 3, 1) := dk_78 (dk_at dksX1_at_0 5 rfl rfl)
theorem dX1_at_6 : decode cX1_at 6 = .ok (.iload_n 2, 1) := dk_28 (dk_at dksX1_at_0 6 rfl rfl)
theorem dX1_at_7 : decode cX1_at 7 = .ok (.invokestatic 185, 3) := dk_184 0 185 (dk_at dksX1_at_0 7 rfl rfl)
theorem dX1_at_10 : decode cX1_at 10 = .ok (.aload_n 0, 1) := dk_42 (dk_at dksX1_at_0 10 rfl rfl)
theorem dX1_at_11 : decode cX1_at 11 = .ok (.getfield 38, 3) := dk_180 0 38 (dk_at dksX1_at_0 11 rfl rfl)
theorem dX1_at_14 : decode cX1_at 14 = .ok (.aload_n 3, 1) := dk_45 (dk_at dksX1_at_0 14 rfl rfl)
theorem dX1_at_15 : decode cX1_at 15 = .ok (.invokevirtual 283, 3) := dk_182 1 27 (dk_at dksX1_at_0 15 rfl rfl)
theorem dX1_at_18 : decode cX1_at 18 = .ok (.aload_n 0, 1) := dk_42 (dk_at dksX1_at_0 18 rfl rfl)
theorem dX1_at_19 : decode cX1_at 19 = .ok (.getfield 38, 3) := dk_180 0 38 (dk_at dksX1_at_0 19 rfl rfl)
theorem dX1_at_22 : decode cX1_at 22 = .ok (.getfield 290, 3) := dk_180 1 34 (dk_at dksX1_at_1 0 rfl rfl)
theorem dX1_at_25 : decode cX1_at 25 = .ok (.iload_n 2, 1) := dk_28 (dk_at dksX1_at_1 3 rfl rfl)
theorem dX1_at_26 : decode cX1_at 26 = .ok (.iaload, 1) := dk_46 (dk_at dksX1_at_1 4 rfl rfl)
theorem dX1_at_27 : decode cX1_at 27 = .ok (.ireturn, 1) := dk_172 (dk_at dksX1_at_1 5 rfl rfl)
abbrev cX1_odds : ByteArray := prog_1_method_39_code
def yX1_odds : MethodName := ⟨RX1, "odds", "(I)I"⟩
def dkwX1_odds_0 : List UInt8 := [42, 27, 182, 0, 191, 87, 42, 27, 182, 1, 40, 172]
abbrev dktX1_odds_0 : List UInt8 := dkwX1_odds_0 ++ []
theorem dksX1_odds_0 : cX1_odds.data.toList.drop 0 = dktX1_odds_0 := by decide +kernel
theorem dX1_odds_0 : decode cX1_odds 0 = .ok (.aload_n 0, 1) := dk_42 (dk_at dksX1_odds_0 0 rfl rfl)
theorem dX1_odds_1 : decode cX1_odds 1 = .ok (.iload_n 1, 1) := dk_27 (dk_at dksX1_odds_0 1 rfl rfl)
theorem dX1_odds_2 : decode cX1_odds 2 = .ok (.invokevirtual 191, 3) := dk_182 0 191 (dk_at dksX1_odds_0 2 rfl rfl)
theorem dX1_odds_5 : decode cX1_odds 5 = .ok (.pop, 1) := dk_87 (dk_at dksX1_odds_0 5 rfl rfl)
theorem dX1_odds_6 : decode cX1_odds 6 = .ok (.aload_n 0, 1) := dk_42 (dk_at dksX1_odds_0 6 rfl rfl)
theorem dX1_odds_7 : decode cX1_odds 7 = .ok (.iload_n 1, 1) := dk_27 (dk_at dksX1_odds_0 7 rfl rfl)
theorem dX1_odds_8 : decode cX1_odds 8 = .ok (.invokevirtual 296, 3) := dk_182 1 40 (dk_at dksX1_odds_0 8 rfl rfl)
theorem dX1_odds_11 : decode cX1_odds 11 = .ok (.ireturn, 1) := dk_172 (dk_at dksX1_odds_0 11 rfl rfl)
abbrev cX1_found : ByteArray := prog_1_method_46_code
def yX1_found : MethodName := ⟨RX1, "found", "(IZ)I"⟩
def dkwX1_found_2 : List UInt8 := [167, 0, 5, 21, 4, 126, 54, 4, 132, 5, 1, 167, 255, 224, 21, 4, 172]
abbrev dktX1_found_2 : List UInt8 := dkwX1_found_2 ++ []
def dkwX1_found_1 : List UInt8 := [3, 54, 5, 21, 5, 16, 64, 162, 0, 31, 21, 4, 42, 180, 0, 59, 21, 5, 51, 153, 0, 8, 21, 5]
abbrev dktX1_found_1 : List UInt8 := dkwX1_found_1 ++ dktX1_found_2
def dkwX1_found_0 : List UInt8 := [42, 27, 182, 1, 50, 62, 28, 154, 0, 5, 29, 172, 29, 154, 0, 7, 3, 167, 0, 5, 16, 63, 54, 4]
abbrev dktX1_found_0 : List UInt8 := dkwX1_found_0 ++ dktX1_found_1
theorem dksX1_found_0 : cX1_found.data.toList.drop 0 = dktX1_found_0 := by decide +kernel
theorem dksX1_found_1 : cX1_found.data.toList.drop 24 = dktX1_found_1 := dk_seg dksX1_found_0 24 rfl rfl
theorem dksX1_found_2 : cX1_found.data.toList.drop 48 = dktX1_found_2 := dk_seg dksX1_found_1 24 rfl rfl
theorem dX1_found_0 : decode cX1_found 0 = .ok (.aload_n 0, 1) := dk_42 (dk_at dksX1_found_0 0 rfl rfl)
theorem dX1_found_1 : decode cX1_found 1 = .ok (.iload_n 1, 1) := dk_27 (dk_at dksX1_found_0 1 rfl rfl)
theorem dX1_found_2 : decode cX1_found 2 = .ok (.invokevirtual 306, 3) := dk_182 1 50 (dk_at dksX1_found_0 2 rfl rfl)
theorem dX1_found_5 : decode cX1_found 5 = .ok (.istore_n 3, 1) := dk_62 (dk_at dksX1_found_0 5 rfl rfl)
theorem dX1_found_6 : decode cX1_found 6 = .ok (.iload_n 2, 1) := dk_28 (dk_at dksX1_found_0 6 rfl rfl)
theorem dX1_found_7 : decode cX1_found 7 = .ok (.ifCond .ne 5, 3) := dk_154 0 5 (dk_at dksX1_found_0 7 rfl rfl)
theorem dX1_found_10 : decode cX1_found 10 = .ok (.iload_n 3, 1) := dk_29 (dk_at dksX1_found_0 10 rfl rfl)
theorem dX1_found_11 : decode cX1_found 11 = .ok (.ireturn, 1) := dk_172 (dk_at dksX1_found_0 11 rfl rfl)
theorem dX1_found_12 : decode cX1_found 12 = .ok (.iload_n 3, 1) := dk_29 (dk_at dksX1_found_0 12 rfl rfl)
theorem dX1_found_13 : decode cX1_found 13 = .ok (.ifCond .ne 7, 3) := dk_154 0 7 (dk_at dksX1_found_0 13 rfl rfl)
theorem dX1_found_16 : decode cX1_found 16 = .ok (.iconst 0, 1) := dk_3 (dk_at dksX1_found_0 16 rfl rfl)
theorem dX1_found_17 : decode cX1_found 17 = .ok (.goto 5, 3) := dk_167 0 5 (dk_at dksX1_found_0 17 rfl rfl)
theorem dX1_found_20 : decode cX1_found 20 = .ok (.bipush 63, 2) := dk_16 63 (dk_at dksX1_found_0 20 rfl rfl)
theorem dX1_found_22 : decode cX1_found 22 = .ok (.istore 4, 2) := dk_54 4 (dk_at dksX1_found_0 22 rfl rfl)
theorem dX1_found_24 : decode cX1_found 24 = .ok (.iconst 0, 1) := dk_3 (dk_at dksX1_found_1 0 rfl rfl)
theorem dX1_found_25 : decode cX1_found 25 = .ok (.istore 5, 2) := dk_54 5 (dk_at dksX1_found_1 1 rfl rfl)
theorem dX1_found_27 : decode cX1_found 27 = .ok (.iload 5, 2) := dk_21 5 (dk_at dksX1_found_1 3 rfl rfl)
theorem dX1_found_29 : decode cX1_found 29 = .ok (.bipush 64, 2) := dk_16 64 (dk_at dksX1_found_1 5 rfl rfl)
theorem dX1_found_31 : decode cX1_found 31 = .ok (.if_icmp .ge 31, 3) := dk_162 0 31 (dk_at dksX1_found_1 7 rfl rfl)
theorem dX1_found_34 : decode cX1_found 34 = .ok (.iload 4, 2) := dk_21 4 (dk_at dksX1_found_1 10 rfl rfl)
theorem dX1_found_36 : decode cX1_found 36 = .ok (.aload_n 0, 1) := dk_42 (dk_at dksX1_found_1 12 rfl rfl)
theorem dX1_found_37 : decode cX1_found 37 = .ok (.getfield 59, 3) := dk_180 0 59 (dk_at dksX1_found_1 13 rfl rfl)
theorem dX1_found_40 : decode cX1_found 40 = .ok (.iload 5, 2) := dk_21 5 (dk_at dksX1_found_1 16 rfl rfl)
theorem dX1_found_42 : decode cX1_found 42 = .ok (.baload, 1) := dk_51 (dk_at dksX1_found_1 18 rfl rfl)
theorem dX1_found_43 : decode cX1_found 43 = .ok (.ifCond .eq 8, 3) := dk_153 0 8 (dk_at dksX1_found_1 19 rfl rfl)
theorem dX1_found_46 : decode cX1_found 46 = .ok (.iload 5, 2) := dk_21 5 (dk_at dksX1_found_1 22 rfl rfl)
theorem dX1_found_48 : decode cX1_found 48 = .ok (.goto 5, 3) := dk_167 0 5 (dk_at dksX1_found_2 0 rfl rfl)
theorem dX1_found_51 : decode cX1_found 51 = .ok (.iload 4, 2) := dk_21 4 (dk_at dksX1_found_2 3 rfl rfl)
theorem dX1_found_53 : decode cX1_found 53 = .ok (.iand, 1) := dk_126 (dk_at dksX1_found_2 5 rfl rfl)
theorem dX1_found_54 : decode cX1_found 54 = .ok (.istore 4, 2) := dk_54 4 (dk_at dksX1_found_2 6 rfl rfl)
theorem dX1_found_56 : decode cX1_found 56 = .ok (.iinc 5 1, 3) := dk_132 5 1 (dk_at dksX1_found_2 8 rfl rfl)
theorem dX1_found_59 : decode cX1_found 59 = .ok (.goto (-32), 3) := dk_167 255 224 (dk_at dksX1_found_2 11 rfl rfl)
theorem dX1_found_62 : decode cX1_found 62 = .ok (.iload 4, 2) := dk_21 4 (dk_at dksX1_found_2 14 rfl rfl)
theorem dX1_found_64 : decode cX1_found 64 = .ok (.ireturn, 1) := dk_172 (dk_at dksX1_found_2 16 rfl rfl)
abbrev cX1_hears : ByteArray := prog_1_method_45_code
def yX1_hears : MethodName := ⟨RX1, "hears", "(I)I"⟩
def dkwX1_hears_12 : List UInt8 := [167, 255, 67, 21, 4, 172]
abbrev dktX1_hears_12 : List UInt8 := dkwX1_hears_12 ++ []
def dkwX1_hears_11 : List UInt8 := [21, 4, 42, 180, 0, 59, 21, 5, 51, 153, 0, 7, 4, 167, 0, 4, 3, 96, 54, 4, 132, 5, 1]
abbrev dktX1_hears_11 : List UInt8 := dkwX1_hears_11 ++ dktX1_hears_12
def dkwX1_hears_10 : List UInt8 := [21, 7, 4, 96, 51, 17, 0, 255, 126, 160, 0, 7, 4, 167, 0, 4, 3, 84, 132, 7, 2, 167, 255, 185]
abbrev dktX1_hears_10 : List UInt8 := dkwX1_hears_10 ++ dktX1_hears_11
def dkwX1_hears_9 : List UInt8 := [16, 10, 21, 5, 104, 42, 180, 0, 10, 180, 0, 107, 21, 7, 51, 96, 46, 42, 180, 0, 10, 180, 0, 107]
abbrev dktX1_hears_9 : List UInt8 := dkwX1_hears_9 ++ dktX1_hears_10
def dkwX1_hears_8 : List UInt8 := [28, 162, 0, 71, 42, 180, 0, 59, 21, 5, 51, 153, 0, 61, 42, 180, 0, 59, 21, 5, 42, 180, 0, 56]
abbrev dktX1_hears_8 : List UInt8 := dkwX1_hears_8 ++ dktX1_hears_9
def dkwX1_hears_7 : List UInt8 := [182, 0, 226, 54, 6, 132, 7, 1, 167, 255, 200, 42, 180, 0, 59, 21, 5, 4, 84, 3, 54, 7, 21, 7]
abbrev dktX1_hears_7 : List UInt8 := dkwX1_hears_7 ++ dktX1_hears_8
def dkwX1_hears_6 : List UInt8 := [180, 0, 45, 21, 7, 21, 6, 182, 0, 214, 79, 42, 180, 0, 19, 42, 180, 0, 45, 21, 7, 21, 6, 4]
abbrev dktX1_hears_6 : List UInt8 := dkwX1_hears_6 ++ dktX1_hears_7
def dkwX1_hears_5 : List UInt8 := [16, 10, 162, 0, 55, 42, 180, 0, 56, 16, 10, 21, 5, 104, 21, 7, 96, 42, 180, 0, 19, 42]
abbrev dktX1_hears_5 : List UInt8 := dkwX1_hears_5 ++ dktX1_hears_6
def dkwX1_hears_4 : List UInt8 := [21, 5, 16, 64, 162, 0, 188, 42, 180, 0, 45, 21, 5, 181, 0, 195, 3, 54, 6, 3, 54, 7, 21, 7]
abbrev dktX1_hears_4 : List UInt8 := dkwX1_hears_4 ++ dktX1_hears_5
def dkwX1_hears_3 : List UInt8 := [132, 4, 2, 167, 255, 218, 29, 184, 0, 207, 42, 180, 0, 45, 27, 181, 0, 198, 3, 54, 4, 3, 54, 5]
abbrev dktX1_hears_3 : List UInt8 := dkwX1_hears_3 ++ dktX1_hears_4
def dkwX1_hears_2 : List UInt8 := [180, 0, 10, 180, 0, 107, 21, 4, 51, 17, 0, 255, 126, 16, 10, 162, 0, 7, 4, 167, 0, 4, 3, 62]
abbrev dktX1_hears_2 : List UInt8 := dkwX1_hears_2 ++ dktX1_hears_3
def dkwX1_hears_1 : List UInt8 := [153, 0, 7, 4, 167, 0, 4, 3, 62, 3, 54, 4, 21, 4, 28, 162, 0, 38, 29, 153, 0, 34, 42]
abbrev dktX1_hears_1 : List UInt8 := dkwX1_hears_1 ++ dktX1_hears_2
def dkwX1_hears_0 : List UInt8 := [42, 182, 0, 123, 61, 28, 5, 112, 154, 0, 23, 28, 16, 40, 163, 0, 17, 27, 4, 16, 60, 184, 0, 88]
abbrev dktX1_hears_0 : List UInt8 := dkwX1_hears_0 ++ dktX1_hears_1
theorem dksX1_hears_0 : cX1_hears.data.toList.drop 0 = dktX1_hears_0 := by decide +kernel
theorem dksX1_hears_1 : cX1_hears.data.toList.drop 24 = dktX1_hears_1 := dk_seg dksX1_hears_0 24 rfl rfl
theorem dksX1_hears_2 : cX1_hears.data.toList.drop 47 = dktX1_hears_2 := dk_seg dksX1_hears_1 23 rfl rfl
theorem dksX1_hears_3 : cX1_hears.data.toList.drop 71 = dktX1_hears_3 := dk_seg dksX1_hears_2 24 rfl rfl
theorem dksX1_hears_4 : cX1_hears.data.toList.drop 95 = dktX1_hears_4 := dk_seg dksX1_hears_3 24 rfl rfl
theorem dksX1_hears_5 : cX1_hears.data.toList.drop 119 = dktX1_hears_5 := dk_seg dksX1_hears_4 24 rfl rfl
theorem dksX1_hears_6 : cX1_hears.data.toList.drop 141 = dktX1_hears_6 := dk_seg dksX1_hears_5 22 rfl rfl
theorem dksX1_hears_7 : cX1_hears.data.toList.drop 165 = dktX1_hears_7 := dk_seg dksX1_hears_6 24 rfl rfl
theorem dksX1_hears_8 : cX1_hears.data.toList.drop 189 = dktX1_hears_8 := dk_seg dksX1_hears_7 24 rfl rfl
theorem dksX1_hears_9 : cX1_hears.data.toList.drop 213 = dktX1_hears_9 := dk_seg dksX1_hears_8 24 rfl rfl
theorem dksX1_hears_10 : cX1_hears.data.toList.drop 237 = dktX1_hears_10 := dk_seg dksX1_hears_9 24 rfl rfl
theorem dksX1_hears_11 : cX1_hears.data.toList.drop 261 = dktX1_hears_11 := dk_seg dksX1_hears_10 24 rfl rfl
theorem dksX1_hears_12 : cX1_hears.data.toList.drop 284 = dktX1_hears_12 := dk_seg dksX1_hears_11 23 rfl rfl
theorem dX1_hears_0 : decode cX1_hears 0 = .ok (.aload_n 0, 1) := dk_42 (dk_at dksX1_hears_0 0 rfl rfl)
theorem dX1_hears_1 : decode cX1_hears 1 = .ok (.invokevirtual 123, 3) := dk_182 0 123 (dk_at dksX1_hears_0 1 rfl rfl)
theorem dX1_hears_4 : decode cX1_hears 4 = .ok (.istore_n 2, 1) := dk_61 (dk_at dksX1_hears_0 4 rfl rfl)
theorem dX1_hears_5 : decode cX1_hears 5 = .ok (.iload_n 2, 1) := dk_28 (dk_at dksX1_hears_0 5 rfl rfl)
theorem dX1_hears_6 : decode cX1_hears 6 = .ok (.iconst 2, 1) := dk_5 (dk_at dksX1_hears_0 6 rfl rfl)
theorem dX1_hears_7 : decode cX1_hears 7 = .ok (.irem, 1) := dk_112 (dk_at dksX1_hears_0 7 rfl rfl)
theorem dX1_hears_8 : decode cX1_hears 8 = .ok (.ifCond .ne 23, 3) := dk_154 0 23 (dk_at dksX1_hears_0 8 rfl rfl)
theorem dX1_hears_11 : decode cX1_hears 11 = .ok (.iload_n 2, 1) := dk_28 (dk_at dksX1_hears_0 11 rfl rfl)
theorem dX1_hears_12 : decode cX1_hears 12 = .ok (.bipush 40, 2) := dk_16 40 (dk_at dksX1_hears_0 12 rfl rfl)
theorem dX1_hears_14 : decode cX1_hears 14 = .ok (.if_icmp .gt 17, 3) := dk_163 0 17 (dk_at dksX1_hears_0 14 rfl rfl)
theorem dX1_hears_17 : decode cX1_hears 17 = .ok (.iload_n 1, 1) := dk_27 (dk_at dksX1_hears_0 17 rfl rfl)
theorem dX1_hears_18 : decode cX1_hears 18 = .ok (.iconst 1, 1) := dk_4 (dk_at dksX1_hears_0 18 rfl rfl)
theorem dX1_hears_19 : decode cX1_hears 19 = .ok (.bipush 60, 2) := dk_16 60 (dk_at dksX1_hears_0 19 rfl rfl)
theorem dX1_hears_21 : decode cX1_hears 21 = .ok (.invokestatic 88, 3) := dk_184 0 88 (dk_at dksX1_hears_0 21 rfl rfl)
theorem dX1_hears_24 : decode cX1_hears 24 = .ok (.ifCond .eq 7, 3) := dk_153 0 7 (dk_at dksX1_hears_1 0 rfl rfl)
theorem dX1_hears_27 : decode cX1_hears 27 = .ok (.iconst 1, 1) := dk_4 (dk_at dksX1_hears_1 3 rfl rfl)
theorem dX1_hears_28 : decode cX1_hears 28 = .ok (.goto 4, 3) := dk_167 0 4 (dk_at dksX1_hears_1 4 rfl rfl)
theorem dX1_hears_31 : decode cX1_hears 31 = .ok (.iconst 0, 1) := dk_3 (dk_at dksX1_hears_1 7 rfl rfl)
theorem dX1_hears_32 : decode cX1_hears 32 = .ok (.istore_n 3, 1) := dk_62 (dk_at dksX1_hears_1 8 rfl rfl)
theorem dX1_hears_33 : decode cX1_hears 33 = .ok (.iconst 0, 1) := dk_3 (dk_at dksX1_hears_1 9 rfl rfl)
theorem dX1_hears_34 : decode cX1_hears 34 = .ok (.istore 4, 2) := dk_54 4 (dk_at dksX1_hears_1 10 rfl rfl)
theorem dX1_hears_36 : decode cX1_hears 36 = .ok (.iload 4, 2) := dk_21 4 (dk_at dksX1_hears_1 12 rfl rfl)
theorem dX1_hears_38 : decode cX1_hears 38 = .ok (.iload_n 2, 1) := dk_28 (dk_at dksX1_hears_1 14 rfl rfl)
theorem dX1_hears_39 : decode cX1_hears 39 = .ok (.if_icmp .ge 38, 3) := dk_162 0 38 (dk_at dksX1_hears_1 15 rfl rfl)
theorem dX1_hears_42 : decode cX1_hears 42 = .ok (.iload_n 3, 1) := dk_29 (dk_at dksX1_hears_1 18 rfl rfl)
theorem dX1_hears_43 : decode cX1_hears 43 = .ok (.ifCond .eq 34, 3) := dk_153 0 34 (dk_at dksX1_hears_1 19 rfl rfl)
theorem dX1_hears_46 : decode cX1_hears 46 = .ok (.aload_n 0, 1) := dk_42 (dk_at dksX1_hears_1 22 rfl rfl)
theorem dX1_hears_47 : decode cX1_hears 47 = .ok (.getfield 10, 3) := dk_180 0 10 (dk_at dksX1_hears_2 0 rfl rfl)
theorem dX1_hears_50 : decode cX1_hears 50 = .ok (.getfield 107, 3) := dk_180 0 107 (dk_at dksX1_hears_2 3 rfl rfl)
theorem dX1_hears_53 : decode cX1_hears 53 = .ok (.iload 4, 2) := dk_21 4 (dk_at dksX1_hears_2 6 rfl rfl)
theorem dX1_hears_55 : decode cX1_hears 55 = .ok (.baload, 1) := dk_51 (dk_at dksX1_hears_2 8 rfl rfl)
theorem dX1_hears_56 : decode cX1_hears 56 = .ok (.sipush 255, 3) := dk_17 0 255 (dk_at dksX1_hears_2 9 rfl rfl)
theorem dX1_hears_59 : decode cX1_hears 59 = .ok (.iand, 1) := dk_126 (dk_at dksX1_hears_2 12 rfl rfl)
theorem dX1_hears_60 : decode cX1_hears 60 = .ok (.bipush 10, 2) := dk_16 10 (dk_at dksX1_hears_2 13 rfl rfl)
theorem dX1_hears_62 : decode cX1_hears 62 = .ok (.if_icmp .ge 7, 3) := dk_162 0 7 (dk_at dksX1_hears_2 15 rfl rfl)
theorem dX1_hears_65 : decode cX1_hears 65 = .ok (.iconst 1, 1) := dk_4 (dk_at dksX1_hears_2 18 rfl rfl)
theorem dX1_hears_66 : decode cX1_hears 66 = .ok (.goto 4, 3) := dk_167 0 4 (dk_at dksX1_hears_2 19 rfl rfl)
theorem dX1_hears_69 : decode cX1_hears 69 = .ok (.iconst 0, 1) := dk_3 (dk_at dksX1_hears_2 22 rfl rfl)
theorem dX1_hears_70 : decode cX1_hears 70 = .ok (.istore_n 3, 1) := dk_62 (dk_at dksX1_hears_2 23 rfl rfl)
theorem dX1_hears_71 : decode cX1_hears 71 = .ok (.iinc 4 2, 3) := dk_132 4 2 (dk_at dksX1_hears_3 0 rfl rfl)
theorem dX1_hears_74 : decode cX1_hears 74 = .ok (.goto (-38), 3) := dk_167 255 218 (dk_at dksX1_hears_3 3 rfl rfl)
theorem dX1_hears_77 : decode cX1_hears 77 = .ok (.iload_n 3, 1) := dk_29 (dk_at dksX1_hears_3 6 rfl rfl)
theorem dX1_hears_78 : decode cX1_hears 78 = .ok (.invokestatic 207, 3) := dk_184 0 207 (dk_at dksX1_hears_3 7 rfl rfl)
theorem dX1_hears_81 : decode cX1_hears 81 = .ok (.aload_n 0, 1) := dk_42 (dk_at dksX1_hears_3 10 rfl rfl)
theorem dX1_hears_82 : decode cX1_hears 82 = .ok (.getfield 45, 3) := dk_180 0 45 (dk_at dksX1_hears_3 11 rfl rfl)
theorem dX1_hears_85 : decode cX1_hears 85 = .ok (.iload_n 1, 1) := dk_27 (dk_at dksX1_hears_3 14 rfl rfl)
theorem dX1_hears_86 : decode cX1_hears 86 = .ok (.putfield 198, 3) := dk_181 0 198 (dk_at dksX1_hears_3 15 rfl rfl)
theorem dX1_hears_89 : decode cX1_hears 89 = .ok (.iconst 0, 1) := dk_3 (dk_at dksX1_hears_3 18 rfl rfl)
theorem dX1_hears_90 : decode cX1_hears 90 = .ok (.istore 4, 2) := dk_54 4 (dk_at dksX1_hears_3 19 rfl rfl)
theorem dX1_hears_92 : decode cX1_hears 92 = .ok (.iconst 0, 1) := dk_3 (dk_at dksX1_hears_3 21 rfl rfl)
theorem dX1_hears_93 : decode cX1_hears 93 = .ok (.istore 5, 2) := dk_54 5 (dk_at dksX1_hears_3 22 rfl rfl)
theorem dX1_hears_95 : decode cX1_hears 95 = .ok (.iload 5, 2) := dk_21 5 (dk_at dksX1_hears_4 0 rfl rfl)
theorem dX1_hears_97 : decode cX1_hears 97 = .ok (.bipush 64, 2) := dk_16 64 (dk_at dksX1_hears_4 2 rfl rfl)
theorem dX1_hears_99 : decode cX1_hears 99 = .ok (.if_icmp .ge 188, 3) := dk_162 0 188 (dk_at dksX1_hears_4 4 rfl rfl)
theorem dX1_hears_102 : decode cX1_hears 102 = .ok (.aload_n 0, 1) := dk_42 (dk_at dksX1_hears_4 7 rfl rfl)
theorem dX1_hears_103 : decode cX1_hears 103 = .ok (.getfield 45, 3) := dk_180 0 45 (dk_at dksX1_hears_4 8 rfl rfl)
theorem dX1_hears_106 : decode cX1_hears 106 = .ok (.iload 5, 2) := dk_21 5 (dk_at dksX1_hears_4 11 rfl rfl)
theorem dX1_hears_108 : decode cX1_hears 108 = .ok (.putfield 195, 3) := dk_181 0 195 (dk_at dksX1_hears_4 13 rfl rfl)
theorem dX1_hears_111 : decode cX1_hears 111 = .ok (.iconst 0, 1) := dk_3 (dk_at dksX1_hears_4 16 rfl rfl)
theorem dX1_hears_112 : decode cX1_hears 112 = .ok (.istore 6, 2) := dk_54 6 (dk_at dksX1_hears_4 17 rfl rfl)
theorem dX1_hears_114 : decode cX1_hears 114 = .ok (.iconst 0, 1) := dk_3 (dk_at dksX1_hears_4 19 rfl rfl)
theorem dX1_hears_115 : decode cX1_hears 115 = .ok (.istore 7, 2) := dk_54 7 (dk_at dksX1_hears_4 20 rfl rfl)
theorem dX1_hears_117 : decode cX1_hears 117 = .ok (.iload 7, 2) := dk_21 7 (dk_at dksX1_hears_4 22 rfl rfl)
theorem dX1_hears_119 : decode cX1_hears 119 = .ok (.bipush 10, 2) := dk_16 10 (dk_at dksX1_hears_5 0 rfl rfl)
theorem dX1_hears_121 : decode cX1_hears 121 = .ok (.if_icmp .ge 55, 3) := dk_162 0 55 (dk_at dksX1_hears_5 2 rfl rfl)
theorem dX1_hears_124 : decode cX1_hears 124 = .ok (.aload_n 0, 1) := dk_42 (dk_at dksX1_hears_5 5 rfl rfl)
theorem dX1_hears_125 : decode cX1_hears 125 = .ok (.getfield 56, 3) := dk_180 0 56 (dk_at dksX1_hears_5 6 rfl rfl)
theorem dX1_hears_128 : decode cX1_hears 128 = .ok (.bipush 10, 2) := dk_16 10 (dk_at dksX1_hears_5 9 rfl rfl)
theorem dX1_hears_130 : decode cX1_hears 130 = .ok (.iload 5, 2) := dk_21 5 (dk_at dksX1_hears_5 11 rfl rfl)
theorem dX1_hears_132 : decode cX1_hears 132 = .ok (.imul, 1) := dk_104 (dk_at dksX1_hears_5 13 rfl rfl)
theorem dX1_hears_133 : decode cX1_hears 133 = .ok (.iload 7, 2) := dk_21 7 (dk_at dksX1_hears_5 14 rfl rfl)
theorem dX1_hears_135 : decode cX1_hears 135 = .ok (.iadd, 1) := dk_96 (dk_at dksX1_hears_5 16 rfl rfl)
theorem dX1_hears_136 : decode cX1_hears 136 = .ok (.aload_n 0, 1) := dk_42 (dk_at dksX1_hears_5 17 rfl rfl)
theorem dX1_hears_137 : decode cX1_hears 137 = .ok (.getfield 19, 3) := dk_180 0 19 (dk_at dksX1_hears_5 18 rfl rfl)
theorem dX1_hears_140 : decode cX1_hears 140 = .ok (.aload_n 0, 1) := dk_42 (dk_at dksX1_hears_5 21 rfl rfl)
theorem dX1_hears_141 : decode cX1_hears 141 = .ok (.getfield 45, 3) := dk_180 0 45 (dk_at dksX1_hears_6 0 rfl rfl)
theorem dX1_hears_144 : decode cX1_hears 144 = .ok (.iload 7, 2) := dk_21 7 (dk_at dksX1_hears_6 3 rfl rfl)
theorem dX1_hears_146 : decode cX1_hears 146 = .ok (.iload 6, 2) := dk_21 6 (dk_at dksX1_hears_6 5 rfl rfl)
theorem dX1_hears_148 : decode cX1_hears 148 = .ok (.invokevirtual 214, 3) := dk_182 0 214 (dk_at dksX1_hears_6 7 rfl rfl)
theorem dX1_hears_151 : decode cX1_hears 151 = .ok (.iastore, 1) := dk_79 (dk_at dksX1_hears_6 10 rfl rfl)
theorem dX1_hears_152 : decode cX1_hears 152 = .ok (.aload_n 0, 1) := dk_42 (dk_at dksX1_hears_6 11 rfl rfl)
theorem dX1_hears_153 : decode cX1_hears 153 = .ok (.getfield 19, 3) := dk_180 0 19 (dk_at dksX1_hears_6 12 rfl rfl)
theorem dX1_hears_156 : decode cX1_hears 156 = .ok (.aload_n 0, 1) := dk_42 (dk_at dksX1_hears_6 15 rfl rfl)
theorem dX1_hears_157 : decode cX1_hears 157 = .ok (.getfield 45, 3) := dk_180 0 45 (dk_at dksX1_hears_6 16 rfl rfl)
theorem dX1_hears_160 : decode cX1_hears 160 = .ok (.iload 7, 2) := dk_21 7 (dk_at dksX1_hears_6 19 rfl rfl)
theorem dX1_hears_162 : decode cX1_hears 162 = .ok (.iload 6, 2) := dk_21 6 (dk_at dksX1_hears_6 21 rfl rfl)
theorem dX1_hears_164 : decode cX1_hears 164 = .ok (.iconst 1, 1) := dk_4 (dk_at dksX1_hears_6 23 rfl rfl)
theorem dX1_hears_165 : decode cX1_hears 165 = .ok (.invokevirtual 226, 3) := dk_182 0 226 (dk_at dksX1_hears_7 0 rfl rfl)
theorem dX1_hears_168 : decode cX1_hears 168 = .ok (.istore 6, 2) := dk_54 6 (dk_at dksX1_hears_7 3 rfl rfl)
theorem dX1_hears_170 : decode cX1_hears 170 = .ok (.iinc 7 1, 3) := dk_132 7 1 (dk_at dksX1_hears_7 5 rfl rfl)
theorem dX1_hears_173 : decode cX1_hears 173 = .ok (.goto (-56), 3) := dk_167 255 200 (dk_at dksX1_hears_7 8 rfl rfl)
theorem dX1_hears_176 : decode cX1_hears 176 = .ok (.aload_n 0, 1) := dk_42 (dk_at dksX1_hears_7 11 rfl rfl)
theorem dX1_hears_177 : decode cX1_hears 177 = .ok (.getfield 59, 3) := dk_180 0 59 (dk_at dksX1_hears_7 12 rfl rfl)
theorem dX1_hears_180 : decode cX1_hears 180 = .ok (.iload 5, 2) := dk_21 5 (dk_at dksX1_hears_7 15 rfl rfl)
theorem dX1_hears_182 : decode cX1_hears 182 = .ok (.iconst 1, 1) := dk_4 (dk_at dksX1_hears_7 17 rfl rfl)
theorem dX1_hears_183 : decode cX1_hears 183 = .ok (.bastore, 1) := dk_84 (dk_at dksX1_hears_7 18 rfl rfl)
theorem dX1_hears_184 : decode cX1_hears 184 = .ok (.iconst 0, 1) := dk_3 (dk_at dksX1_hears_7 19 rfl rfl)
theorem dX1_hears_185 : decode cX1_hears 185 = .ok (.istore 7, 2) := dk_54 7 (dk_at dksX1_hears_7 20 rfl rfl)
theorem dX1_hears_187 : decode cX1_hears 187 = .ok (.iload 7, 2) := dk_21 7 (dk_at dksX1_hears_7 22 rfl rfl)
theorem dX1_hears_189 : decode cX1_hears 189 = .ok (.iload_n 2, 1) := dk_28 (dk_at dksX1_hears_8 0 rfl rfl)
theorem dX1_hears_190 : decode cX1_hears 190 = .ok (.if_icmp .ge 71, 3) := dk_162 0 71 (dk_at dksX1_hears_8 1 rfl rfl)
theorem dX1_hears_193 : decode cX1_hears 193 = .ok (.aload_n 0, 1) := dk_42 (dk_at dksX1_hears_8 4 rfl rfl)
theorem dX1_hears_194 : decode cX1_hears 194 = .ok (.getfield 59, 3) := dk_180 0 59 (dk_at dksX1_hears_8 5 rfl rfl)
theorem dX1_hears_197 : decode cX1_hears 197 = .ok (.iload 5, 2) := dk_21 5 (dk_at dksX1_hears_8 8 rfl rfl)
theorem dX1_hears_199 : decode cX1_hears 199 = .ok (.baload, 1) := dk_51 (dk_at dksX1_hears_8 10 rfl rfl)
theorem dX1_hears_200 : decode cX1_hears 200 = .ok (.ifCond .eq 61, 3) := dk_153 0 61 (dk_at dksX1_hears_8 11 rfl rfl)
theorem dX1_hears_203 : decode cX1_hears 203 = .ok (.aload_n 0, 1) := dk_42 (dk_at dksX1_hears_8 14 rfl rfl)
theorem dX1_hears_204 : decode cX1_hears 204 = .ok (.getfield 59, 3) := dk_180 0 59 (dk_at dksX1_hears_8 15 rfl rfl)
theorem dX1_hears_207 : decode cX1_hears 207 = .ok (.iload 5, 2) := dk_21 5 (dk_at dksX1_hears_8 18 rfl rfl)
theorem dX1_hears_209 : decode cX1_hears 209 = .ok (.aload_n 0, 1) := dk_42 (dk_at dksX1_hears_8 20 rfl rfl)
theorem dX1_hears_210 : decode cX1_hears 210 = .ok (.getfield 56, 3) := dk_180 0 56 (dk_at dksX1_hears_8 21 rfl rfl)
theorem dX1_hears_213 : decode cX1_hears 213 = .ok (.bipush 10, 2) := dk_16 10 (dk_at dksX1_hears_9 0 rfl rfl)
theorem dX1_hears_215 : decode cX1_hears 215 = .ok (.iload 5, 2) := dk_21 5 (dk_at dksX1_hears_9 2 rfl rfl)
theorem dX1_hears_217 : decode cX1_hears 217 = .ok (.imul, 1) := dk_104 (dk_at dksX1_hears_9 4 rfl rfl)
theorem dX1_hears_218 : decode cX1_hears 218 = .ok (.aload_n 0, 1) := dk_42 (dk_at dksX1_hears_9 5 rfl rfl)
theorem dX1_hears_219 : decode cX1_hears 219 = .ok (.getfield 10, 3) := dk_180 0 10 (dk_at dksX1_hears_9 6 rfl rfl)
theorem dX1_hears_222 : decode cX1_hears 222 = .ok (.getfield 107, 3) := dk_180 0 107 (dk_at dksX1_hears_9 9 rfl rfl)
theorem dX1_hears_225 : decode cX1_hears 225 = .ok (.iload 7, 2) := dk_21 7 (dk_at dksX1_hears_9 12 rfl rfl)
theorem dX1_hears_227 : decode cX1_hears 227 = .ok (.baload, 1) := dk_51 (dk_at dksX1_hears_9 14 rfl rfl)
theorem dX1_hears_228 : decode cX1_hears 228 = .ok (.iadd, 1) := dk_96 (dk_at dksX1_hears_9 15 rfl rfl)
theorem dX1_hears_229 : decode cX1_hears 229 = .ok (.iaload, 1) := dk_46 (dk_at dksX1_hears_9 16 rfl rfl)
theorem dX1_hears_230 : decode cX1_hears 230 = .ok (.aload_n 0, 1) := dk_42 (dk_at dksX1_hears_9 17 rfl rfl)
theorem dX1_hears_231 : decode cX1_hears 231 = .ok (.getfield 10, 3) := dk_180 0 10 (dk_at dksX1_hears_9 18 rfl rfl)
theorem dX1_hears_234 : decode cX1_hears 234 = .ok (.getfield 107, 3) := dk_180 0 107 (dk_at dksX1_hears_9 21 rfl rfl)
theorem dX1_hears_237 : decode cX1_hears 237 = .ok (.iload 7, 2) := dk_21 7 (dk_at dksX1_hears_10 0 rfl rfl)
theorem dX1_hears_239 : decode cX1_hears 239 = .ok (.iconst 1, 1) := dk_4 (dk_at dksX1_hears_10 2 rfl rfl)
theorem dX1_hears_240 : decode cX1_hears 240 = .ok (.iadd, 1) := dk_96 (dk_at dksX1_hears_10 3 rfl rfl)
theorem dX1_hears_241 : decode cX1_hears 241 = .ok (.baload, 1) := dk_51 (dk_at dksX1_hears_10 4 rfl rfl)
theorem dX1_hears_242 : decode cX1_hears 242 = .ok (.sipush 255, 3) := dk_17 0 255 (dk_at dksX1_hears_10 5 rfl rfl)
theorem dX1_hears_245 : decode cX1_hears 245 = .ok (.iand, 1) := dk_126 (dk_at dksX1_hears_10 8 rfl rfl)
theorem dX1_hears_246 : decode cX1_hears 246 = .ok (.if_icmp .ne 7, 3) := dk_160 0 7 (dk_at dksX1_hears_10 9 rfl rfl)
theorem dX1_hears_249 : decode cX1_hears 249 = .ok (.iconst 1, 1) := dk_4 (dk_at dksX1_hears_10 12 rfl rfl)
theorem dX1_hears_250 : decode cX1_hears 250 = .ok (.goto 4, 3) := dk_167 0 4 (dk_at dksX1_hears_10 13 rfl rfl)
theorem dX1_hears_253 : decode cX1_hears 253 = .ok (.iconst 0, 1) := dk_3 (dk_at dksX1_hears_10 16 rfl rfl)
theorem dX1_hears_254 : decode cX1_hears 254 = .ok (.bastore, 1) := dk_84 (dk_at dksX1_hears_10 17 rfl rfl)
theorem dX1_hears_255 : decode cX1_hears 255 = .ok (.iinc 7 2, 3) := dk_132 7 2 (dk_at dksX1_hears_10 18 rfl rfl)
theorem dX1_hears_258 : decode cX1_hears 258 = .ok (.goto (-71), 3) := dk_167 255 185 (dk_at dksX1_hears_10 21 rfl rfl)
theorem dX1_hears_261 : decode cX1_hears 261 = .ok (.iload 4, 2) := dk_21 4 (dk_at dksX1_hears_11 0 rfl rfl)
theorem dX1_hears_263 : decode cX1_hears 263 = .ok (.aload_n 0, 1) := dk_42 (dk_at dksX1_hears_11 2 rfl rfl)
theorem dX1_hears_264 : decode cX1_hears 264 = .ok (.getfield 59, 3) := dk_180 0 59 (dk_at dksX1_hears_11 3 rfl rfl)
theorem dX1_hears_267 : decode cX1_hears 267 = .ok (.iload 5, 2) := dk_21 5 (dk_at dksX1_hears_11 6 rfl rfl)
theorem dX1_hears_269 : decode cX1_hears 269 = .ok (.baload, 1) := dk_51 (dk_at dksX1_hears_11 8 rfl rfl)
theorem dX1_hears_270 : decode cX1_hears 270 = .ok (.ifCond .eq 7, 3) := dk_153 0 7 (dk_at dksX1_hears_11 9 rfl rfl)
theorem dX1_hears_273 : decode cX1_hears 273 = .ok (.iconst 1, 1) := dk_4 (dk_at dksX1_hears_11 12 rfl rfl)
theorem dX1_hears_274 : decode cX1_hears 274 = .ok (.goto 4, 3) := dk_167 0 4 (dk_at dksX1_hears_11 13 rfl rfl)
theorem dX1_hears_277 : decode cX1_hears 277 = .ok (.iconst 0, 1) := dk_3 (dk_at dksX1_hears_11 16 rfl rfl)
theorem dX1_hears_278 : decode cX1_hears 278 = .ok (.iadd, 1) := dk_96 (dk_at dksX1_hears_11 17 rfl rfl)
theorem dX1_hears_279 : decode cX1_hears 279 = .ok (.istore 4, 2) := dk_54 4 (dk_at dksX1_hears_11 18 rfl rfl)
theorem dX1_hears_281 : decode cX1_hears 281 = .ok (.iinc 5 1, 3) := dk_132 5 1 (dk_at dksX1_hears_11 20 rfl rfl)
theorem dX1_hears_284 : decode cX1_hears 284 = .ok (.goto (-189), 3) := dk_167 255 67 (dk_at dksX1_hears_12 0 rfl rfl)
theorem dX1_hears_287 : decode cX1_hears 287 = .ok (.iload 4, 2) := dk_21 4 (dk_at dksX1_hears_12 3 rfl rfl)
theorem dX1_hears_289 : decode cX1_hears 289 = .ok (.ireturn, 1) := dk_172 (dk_at dksX1_hears_12 5 rfl rfl)
abbrev cX1_ask : ByteArray := prog_1_method_48_code
def yX1_ask : MethodName := ⟨RX1, "ask", "(I)I"⟩
def dkwX1_ask_3 : List UInt8 := [62, 132, 5, 1, 167, 255, 196, 29, 172]
abbrev dktX1_ask_3 : List UInt8 := dkwX1_ask_3 ++ []
def dkwX1_ask_2 : List UInt8 := [42, 21, 5, 182, 1, 54, 54, 6, 21, 6, 21, 4, 161, 0, 6, 167, 0, 10, 21, 6, 54, 4, 21, 5]
abbrev dktX1_ask_2 : List UInt8 := dkwX1_ask_2 ++ dktX1_ask_3
def dkwX1_ask_1 : List UInt8 := [4, 164, 0, 54, 42, 180, 0, 19, 180, 0, 188, 21, 5, 46, 2, 160, 0, 9, 19, 1, 53, 167, 0, 9]
abbrev dktX1_ask_1 : List UInt8 := dkwX1_ask_1 ++ dktX1_ask_2
def dkwX1_ask_0 : List UInt8 := [42, 27, 182, 1, 50, 61, 2, 62, 19, 1, 53, 54, 4, 3, 54, 5, 21, 5, 16, 10, 162, 0, 59, 28]
abbrev dktX1_ask_0 : List UInt8 := dkwX1_ask_0 ++ dktX1_ask_1
theorem dksX1_ask_0 : cX1_ask.data.toList.drop 0 = dktX1_ask_0 := by decide +kernel
theorem dksX1_ask_1 : cX1_ask.data.toList.drop 24 = dktX1_ask_1 := dk_seg dksX1_ask_0 24 rfl rfl
theorem dksX1_ask_2 : cX1_ask.data.toList.drop 48 = dktX1_ask_2 := dk_seg dksX1_ask_1 24 rfl rfl
theorem dksX1_ask_3 : cX1_ask.data.toList.drop 72 = dktX1_ask_3 := dk_seg dksX1_ask_2 24 rfl rfl
theorem dX1_ask_0 : decode cX1_ask 0 = .ok (.aload_n 0, 1) := dk_42 (dk_at dksX1_ask_0 0 rfl rfl)
theorem dX1_ask_1 : decode cX1_ask 1 = .ok (.iload_n 1, 1) := dk_27 (dk_at dksX1_ask_0 1 rfl rfl)
theorem dX1_ask_2 : decode cX1_ask 2 = .ok (.invokevirtual 306, 3) := dk_182 1 50 (dk_at dksX1_ask_0 2 rfl rfl)
theorem dX1_ask_5 : decode cX1_ask 5 = .ok (.istore_n 2, 1) := dk_61 (dk_at dksX1_ask_0 5 rfl rfl)
theorem dX1_ask_6 : decode cX1_ask 6 = .ok (.iconst (-1), 1) := dk_2 (dk_at dksX1_ask_0 6 rfl rfl)
theorem dX1_ask_7 : decode cX1_ask 7 = .ok (.istore_n 3, 1) := dk_62 (dk_at dksX1_ask_0 7 rfl rfl)
theorem dX1_ask_8 : decode cX1_ask 8 = .ok (.ldc_w 309, 3) := dk_19 1 53 (dk_at dksX1_ask_0 8 rfl rfl)
theorem dX1_ask_11 : decode cX1_ask 11 = .ok (.istore 4, 2) := dk_54 4 (dk_at dksX1_ask_0 11 rfl rfl)
theorem dX1_ask_13 : decode cX1_ask 13 = .ok (.iconst 0, 1) := dk_3 (dk_at dksX1_ask_0 13 rfl rfl)
theorem dX1_ask_14 : decode cX1_ask 14 = .ok (.istore 5, 2) := dk_54 5 (dk_at dksX1_ask_0 14 rfl rfl)
theorem dX1_ask_16 : decode cX1_ask 16 = .ok (.iload 5, 2) := dk_21 5 (dk_at dksX1_ask_0 16 rfl rfl)
theorem dX1_ask_18 : decode cX1_ask 18 = .ok (.bipush 10, 2) := dk_16 10 (dk_at dksX1_ask_0 18 rfl rfl)
theorem dX1_ask_20 : decode cX1_ask 20 = .ok (.if_icmp .ge 59, 3) := dk_162 0 59 (dk_at dksX1_ask_0 20 rfl rfl)
theorem dX1_ask_23 : decode cX1_ask 23 = .ok (.iload_n 2, 1) := dk_28 (dk_at dksX1_ask_0 23 rfl rfl)
theorem dX1_ask_24 : decode cX1_ask 24 = .ok (.iconst 1, 1) := dk_4 (dk_at dksX1_ask_1 0 rfl rfl)
theorem dX1_ask_25 : decode cX1_ask 25 = .ok (.if_icmp .le 54, 3) := dk_164 0 54 (dk_at dksX1_ask_1 1 rfl rfl)
theorem dX1_ask_28 : decode cX1_ask 28 = .ok (.aload_n 0, 1) := dk_42 (dk_at dksX1_ask_1 4 rfl rfl)
theorem dX1_ask_29 : decode cX1_ask 29 = .ok (.getfield 19, 3) := dk_180 0 19 (dk_at dksX1_ask_1 5 rfl rfl)
theorem dX1_ask_32 : decode cX1_ask 32 = .ok (.getfield 188, 3) := dk_180 0 188 (dk_at dksX1_ask_1 8 rfl rfl)
theorem dX1_ask_35 : decode cX1_ask 35 = .ok (.iload 5, 2) := dk_21 5 (dk_at dksX1_ask_1 11 rfl rfl)
theorem dX1_ask_37 : decode cX1_ask 37 = .ok (.iaload, 1) := dk_46 (dk_at dksX1_ask_1 13 rfl rfl)
theorem dX1_ask_38 : decode cX1_ask 38 = .ok (.iconst (-1), 1) := dk_2 (dk_at dksX1_ask_1 14 rfl rfl)
theorem dX1_ask_39 : decode cX1_ask 39 = .ok (.if_icmp .ne 9, 3) := dk_160 0 9 (dk_at dksX1_ask_1 15 rfl rfl)
theorem dX1_ask_42 : decode cX1_ask 42 = .ok (.ldc_w 309, 3) := dk_19 1 53 (dk_at dksX1_ask_1 18 rfl rfl)
theorem dX1_ask_45 : decode cX1_ask 45 = .ok (.goto 9, 3) := dk_167 0 9 (dk_at dksX1_ask_1 21 rfl rfl)
theorem dX1_ask_48 : decode cX1_ask 48 = .ok (.aload_n 0, 1) := dk_42 (dk_at dksX1_ask_2 0 rfl rfl)
theorem dX1_ask_49 : decode cX1_ask 49 = .ok (.iload 5, 2) := dk_21 5 (dk_at dksX1_ask_2 1 rfl rfl)
theorem dX1_ask_51 : decode cX1_ask 51 = .ok (.invokevirtual 310, 3) := dk_182 1 54 (dk_at dksX1_ask_2 3 rfl rfl)
theorem dX1_ask_54 : decode cX1_ask 54 = .ok (.istore 6, 2) := dk_54 6 (dk_at dksX1_ask_2 6 rfl rfl)
theorem dX1_ask_56 : decode cX1_ask 56 = .ok (.iload 6, 2) := dk_21 6 (dk_at dksX1_ask_2 8 rfl rfl)
theorem dX1_ask_58 : decode cX1_ask 58 = .ok (.iload 4, 2) := dk_21 4 (dk_at dksX1_ask_2 10 rfl rfl)
theorem dX1_ask_60 : decode cX1_ask 60 = .ok (.if_icmp .lt 6, 3) := dk_161 0 6 (dk_at dksX1_ask_2 12 rfl rfl)
theorem dX1_ask_63 : decode cX1_ask 63 = .ok (.goto 10, 3) := dk_167 0 10 (dk_at dksX1_ask_2 15 rfl rfl)
theorem dX1_ask_66 : decode cX1_ask 66 = .ok (.iload 6, 2) := dk_21 6 (dk_at dksX1_ask_2 18 rfl rfl)
theorem dX1_ask_68 : decode cX1_ask 68 = .ok (.istore 4, 2) := dk_54 4 (dk_at dksX1_ask_2 20 rfl rfl)
theorem dX1_ask_70 : decode cX1_ask 70 = .ok (.iload 5, 2) := dk_21 5 (dk_at dksX1_ask_2 22 rfl rfl)
theorem dX1_ask_72 : decode cX1_ask 72 = .ok (.istore_n 3, 1) := dk_62 (dk_at dksX1_ask_3 0 rfl rfl)
theorem dX1_ask_73 : decode cX1_ask 73 = .ok (.iinc 5 1, 3) := dk_132 5 1 (dk_at dksX1_ask_3 1 rfl rfl)
theorem dX1_ask_76 : decode cX1_ask 76 = .ok (.goto (-60), 3) := dk_167 255 196 (dk_at dksX1_ask_3 4 rfl rfl)
theorem dX1_ask_79 : decode cX1_ask 79 = .ok (.iload_n 3, 1) := dk_29 (dk_at dksX1_ask_3 7 rfl rfl)
theorem dX1_ask_80 : decode cX1_ask 80 = .ok (.ireturn, 1) := dk_172 (dk_at dksX1_ask_3 8 rfl rfl)
abbrev cX1_part : ByteArray := prog_1_method_47_code
def yX1_part : MethodName := ⟨RX1, "part", "(I)I"⟩
def dkwX1_part_4 : List UInt8 := [132, 3, 1, 167, 255, 166, 28, 172]
abbrev dktX1_part_4 : List UInt8 := dkwX1_part_4 ++ []
def dkwX1_part_3 : List UInt8 := [160, 0, 7, 4, 167, 0, 4, 3, 96, 54, 4, 132, 5, 1, 167, 255, 191, 28, 21, 4, 184, 1, 21, 61]
abbrev dktX1_part_3 : List UInt8 := dkwX1_part_3 ++ dktX1_part_4
def dkwX1_part_2 : List UInt8 := [180, 0, 56, 16, 10, 21, 5, 104, 27, 96, 46, 42, 180, 0, 56, 16, 10, 29, 104, 27, 96, 46]
abbrev dktX1_part_2 : List UInt8 := dkwX1_part_2 ++ dktX1_part_3
def dkwX1_part_1 : List UInt8 := [21, 4, 42, 180, 0, 59, 29, 51, 153, 0, 43, 42, 180, 0, 59, 21, 5, 51, 153, 0, 33, 42]
abbrev dktX1_part_1 : List UInt8 := dkwX1_part_1 ++ dktX1_part_2
def dkwX1_part_0 : List UInt8 := [3, 61, 3, 62, 29, 16, 64, 162, 0, 90, 3, 54, 4, 3, 54, 5, 21, 5, 16, 64, 162, 0, 64]
abbrev dktX1_part_0 : List UInt8 := dkwX1_part_0 ++ dktX1_part_1
theorem dksX1_part_0 : cX1_part.data.toList.drop 0 = dktX1_part_0 := by decide +kernel
theorem dksX1_part_1 : cX1_part.data.toList.drop 23 = dktX1_part_1 := dk_seg dksX1_part_0 23 rfl rfl
theorem dksX1_part_2 : cX1_part.data.toList.drop 45 = dktX1_part_2 := dk_seg dksX1_part_1 22 rfl rfl
theorem dksX1_part_3 : cX1_part.data.toList.drop 67 = dktX1_part_3 := dk_seg dksX1_part_2 22 rfl rfl
theorem dksX1_part_4 : cX1_part.data.toList.drop 91 = dktX1_part_4 := dk_seg dksX1_part_3 24 rfl rfl
theorem dX1_part_0 : decode cX1_part 0 = .ok (.iconst 0, 1) := dk_3 (dk_at dksX1_part_0 0 rfl rfl)
theorem dX1_part_1 : decode cX1_part 1 = .ok (.istore_n 2, 1) := dk_61 (dk_at dksX1_part_0 1 rfl rfl)
theorem dX1_part_2 : decode cX1_part 2 = .ok (.iconst 0, 1) := dk_3 (dk_at dksX1_part_0 2 rfl rfl)
theorem dX1_part_3 : decode cX1_part 3 = .ok (.istore_n 3, 1) := dk_62 (dk_at dksX1_part_0 3 rfl rfl)
theorem dX1_part_4 : decode cX1_part 4 = .ok (.iload_n 3, 1) := dk_29 (dk_at dksX1_part_0 4 rfl rfl)
theorem dX1_part_5 : decode cX1_part 5 = .ok (.bipush 64, 2) := dk_16 64 (dk_at dksX1_part_0 5 rfl rfl)
theorem dX1_part_7 : decode cX1_part 7 = .ok (.if_icmp .ge 90, 3) := dk_162 0 90 (dk_at dksX1_part_0 7 rfl rfl)
theorem dX1_part_10 : decode cX1_part 10 = .ok (.iconst 0, 1) := dk_3 (dk_at dksX1_part_0 10 rfl rfl)
theorem dX1_part_11 : decode cX1_part 11 = .ok (.istore 4, 2) := dk_54 4 (dk_at dksX1_part_0 11 rfl rfl)
theorem dX1_part_13 : decode cX1_part 13 = .ok (.iconst 0, 1) := dk_3 (dk_at dksX1_part_0 13 rfl rfl)
theorem dX1_part_14 : decode cX1_part 14 = .ok (.istore 5, 2) := dk_54 5 (dk_at dksX1_part_0 14 rfl rfl)
theorem dX1_part_16 : decode cX1_part 16 = .ok (.iload 5, 2) := dk_21 5 (dk_at dksX1_part_0 16 rfl rfl)
theorem dX1_part_18 : decode cX1_part 18 = .ok (.bipush 64, 2) := dk_16 64 (dk_at dksX1_part_0 18 rfl rfl)
theorem dX1_part_20 : decode cX1_part 20 = .ok (.if_icmp .ge 64, 3) := dk_162 0 64 (dk_at dksX1_part_0 20 rfl rfl)
theorem dX1_part_23 : decode cX1_part 23 = .ok (.iload 4, 2) := dk_21 4 (dk_at dksX1_part_1 0 rfl rfl)
theorem dX1_part_25 : decode cX1_part 25 = .ok (.aload_n 0, 1) := dk_42 (dk_at dksX1_part_1 2 rfl rfl)
theorem dX1_part_26 : decode cX1_part 26 = .ok (.getfield 59, 3) := dk_180 0 59 (dk_at dksX1_part_1 3 rfl rfl)
theorem dX1_part_29 : decode cX1_part 29 = .ok (.iload_n 3, 1) := dk_29 (dk_at dksX1_part_1 6 rfl rfl)
theorem dX1_part_30 : decode cX1_part 30 = .ok (.baload, 1) := dk_51 (dk_at dksX1_part_1 7 rfl rfl)
theorem dX1_part_31 : decode cX1_part 31 = .ok (.ifCond .eq 43, 3) := dk_153 0 43 (dk_at dksX1_part_1 8 rfl rfl)
theorem dX1_part_34 : decode cX1_part 34 = .ok (.aload_n 0, 1) := dk_42 (dk_at dksX1_part_1 11 rfl rfl)
theorem dX1_part_35 : decode cX1_part 35 = .ok (.getfield 59, 3) := dk_180 0 59 (dk_at dksX1_part_1 12 rfl rfl)
theorem dX1_part_38 : decode cX1_part 38 = .ok (.iload 5, 2) := dk_21 5 (dk_at dksX1_part_1 15 rfl rfl)
theorem dX1_part_40 : decode cX1_part 40 = .ok (.baload, 1) := dk_51 (dk_at dksX1_part_1 17 rfl rfl)
theorem dX1_part_41 : decode cX1_part 41 = .ok (.ifCond .eq 33, 3) := dk_153 0 33 (dk_at dksX1_part_1 18 rfl rfl)
theorem dX1_part_44 : decode cX1_part 44 = .ok (.aload_n 0, 1) := dk_42 (dk_at dksX1_part_1 21 rfl rfl)
theorem dX1_part_45 : decode cX1_part 45 = .ok (.getfield 56, 3) := dk_180 0 56 (dk_at dksX1_part_2 0 rfl rfl)
theorem dX1_part_48 : decode cX1_part 48 = .ok (.bipush 10, 2) := dk_16 10 (dk_at dksX1_part_2 3 rfl rfl)
theorem dX1_part_50 : decode cX1_part 50 = .ok (.iload 5, 2) := dk_21 5 (dk_at dksX1_part_2 5 rfl rfl)
theorem dX1_part_52 : decode cX1_part 52 = .ok (.imul, 1) := dk_104 (dk_at dksX1_part_2 7 rfl rfl)
theorem dX1_part_53 : decode cX1_part 53 = .ok (.iload_n 1, 1) := dk_27 (dk_at dksX1_part_2 8 rfl rfl)
theorem dX1_part_54 : decode cX1_part 54 = .ok (.iadd, 1) := dk_96 (dk_at dksX1_part_2 9 rfl rfl)
theorem dX1_part_55 : decode cX1_part 55 = .ok (.iaload, 1) := dk_46 (dk_at dksX1_part_2 10 rfl rfl)
theorem dX1_part_56 : decode cX1_part 56 = .ok (.aload_n 0, 1) := dk_42 (dk_at dksX1_part_2 11 rfl rfl)
theorem dX1_part_57 : decode cX1_part 57 = .ok (.getfield 56, 3) := dk_180 0 56 (dk_at dksX1_part_2 12 rfl rfl)
theorem dX1_part_60 : decode cX1_part 60 = .ok (.bipush 10, 2) := dk_16 10 (dk_at dksX1_part_2 15 rfl rfl)
theorem dX1_part_62 : decode cX1_part 62 = .ok (.iload_n 3, 1) := dk_29 (dk_at dksX1_part_2 17 rfl rfl)
theorem dX1_part_63 : decode cX1_part 63 = .ok (.imul, 1) := dk_104 (dk_at dksX1_part_2 18 rfl rfl)
theorem dX1_part_64 : decode cX1_part 64 = .ok (.iload_n 1, 1) := dk_27 (dk_at dksX1_part_2 19 rfl rfl)
theorem dX1_part_65 : decode cX1_part 65 = .ok (.iadd, 1) := dk_96 (dk_at dksX1_part_2 20 rfl rfl)
theorem dX1_part_66 : decode cX1_part 66 = .ok (.iaload, 1) := dk_46 (dk_at dksX1_part_2 21 rfl rfl)
theorem dX1_part_67 : decode cX1_part 67 = .ok (.if_icmp .ne 7, 3) := dk_160 0 7 (dk_at dksX1_part_3 0 rfl rfl)
theorem dX1_part_70 : decode cX1_part 70 = .ok (.iconst 1, 1) := dk_4 (dk_at dksX1_part_3 3 rfl rfl)
theorem dX1_part_71 : decode cX1_part 71 = .ok (.goto 4, 3) := dk_167 0 4 (dk_at dksX1_part_3 4 rfl rfl)
theorem dX1_part_74 : decode cX1_part 74 = .ok (.iconst 0, 1) := dk_3 (dk_at dksX1_part_3 7 rfl rfl)
theorem dX1_part_75 : decode cX1_part 75 = .ok (.iadd, 1) := dk_96 (dk_at dksX1_part_3 8 rfl rfl)
theorem dX1_part_76 : decode cX1_part 76 = .ok (.istore 4, 2) := dk_54 4 (dk_at dksX1_part_3 9 rfl rfl)
theorem dX1_part_78 : decode cX1_part 78 = .ok (.iinc 5 1, 3) := dk_132 5 1 (dk_at dksX1_part_3 11 rfl rfl)
theorem dX1_part_81 : decode cX1_part 81 = .ok (.goto (-65), 3) := dk_167 255 191 (dk_at dksX1_part_3 14 rfl rfl)
theorem dX1_part_84 : decode cX1_part 84 = .ok (.iload_n 2, 1) := dk_28 (dk_at dksX1_part_3 17 rfl rfl)
theorem dX1_part_85 : decode cX1_part 85 = .ok (.iload 4, 2) := dk_21 4 (dk_at dksX1_part_3 18 rfl rfl)
theorem dX1_part_87 : decode cX1_part 87 = .ok (.invokestatic 277, 3) := dk_184 1 21 (dk_at dksX1_part_3 20 rfl rfl)
theorem dX1_part_90 : decode cX1_part 90 = .ok (.istore_n 2, 1) := dk_61 (dk_at dksX1_part_3 23 rfl rfl)
theorem dX1_part_91 : decode cX1_part 91 = .ok (.iinc 3 1, 3) := dk_132 3 1 (dk_at dksX1_part_4 0 rfl rfl)
theorem dX1_part_94 : decode cX1_part 94 = .ok (.goto (-90), 3) := dk_167 255 166 (dk_at dksX1_part_4 3 rfl rfl)
theorem dX1_part_97 : decode cX1_part 97 = .ok (.iload_n 2, 1) := dk_28 (dk_at dksX1_part_4 6 rfl rfl)
theorem dX1_part_98 : decode cX1_part 98 = .ok (.ireturn, 1) := dk_172 (dk_at dksX1_part_4 7 rfl rfl)
abbrev cX1_car : ByteArray := prog_1_method_49_code
def yX1_car : MethodName := ⟨RX1, "car", "(II)I"⟩
def dkwX1_car_10 : List UInt8 := [167, 0, 4, 3, 128, 54, 5, 132, 6, 1, 167, 255, 62, 21, 5, 172]
abbrev dktX1_car_10 : List UInt8 := dkwX1_car_10 ++ []
def dkwX1_car_9 : List UInt8 := [46, 21, 8, 154, 0, 7, 45, 167, 0, 5, 25, 4, 180, 0, 198, 164, 0, 10, 4, 21, 8, 120]
abbrev dktX1_car_9 : List UInt8 := dkwX1_car_9 ++ dktX1_car_10
def dkwX1_car_8 : List UInt8 := [180, 0, 49, 21, 8, 92, 46, 42, 180, 0, 19, 180, 1, 57, 96, 79, 21, 5, 42, 180, 0, 49, 21, 8]
abbrev dktX1_car_8 : List UInt8 := dkwX1_car_8 ++ dktX1_car_9
def dkwX1_car_7 : List UInt8 := [184, 1, 13, 4, 159, 0, 6, 167, 0, 70, 21, 5, 4, 160, 0, 7, 4, 167, 0, 4, 3, 54, 8, 42]
abbrev dktX1_car_7 : List UInt8 := dkwX1_car_7 ++ dktX1_car_8
def dkwX1_car_6 : List UInt8 := [21, 8, 120, 167, 0, 4, 3, 128, 54, 5, 132, 8, 1, 167, 255, 166, 21, 7, 154, 0, 82, 21, 5]
abbrev dktX1_car_6 : List UInt8 := dkwX1_car_6 ++ dktX1_car_7
def dkwX1_car_5 : List UInt8 := [4, 182, 0, 226, 79, 21, 5, 42, 180, 0, 49, 21, 8, 46, 25, 9, 180, 0, 198, 164, 0, 10, 4]
abbrev dktX1_car_5 : List UInt8 := dkwX1_car_5 ++ dktX1_car_6
def dkwX1_car_4 : List UInt8 := [167, 0, 57, 42, 180, 0, 49, 21, 8, 42, 180, 0, 19, 25, 9, 21, 6, 42, 180, 0, 49, 21, 8, 46]
abbrev dktX1_car_4 : List UInt8 := dkwX1_car_4 ++ dktX1_car_5
def dkwX1_car_3 : List UInt8 := [154, 0, 7, 45, 167, 0, 5, 25, 4, 58, 9, 21, 7, 21, 8, 122, 4, 126, 4, 160, 0, 6]
abbrev dktX1_car_3 : List UInt8 := dkwX1_car_3 ++ dktX1_car_4
def dkwX1_car_2 : List UInt8 := [21, 6, 16, 10, 162, 0, 193, 21, 5, 54, 7, 3, 54, 8, 21, 8, 5, 162, 0, 90, 21, 8]
abbrev dktX1_car_2 : List UInt8 := dkwX1_car_2 ++ dktX1_car_3
def dkwX1_car_1 : List UInt8 := [184, 0, 207, 3, 54, 5, 42, 180, 0, 49, 3, 3, 79, 42, 180, 0, 49, 4, 3, 79, 3, 54, 6]
abbrev dktX1_car_1 : List UInt8 := dkwX1_car_1 ++ dktX1_car_2
def dkwX1_car_0 : List UInt8 := [42, 27, 182, 0, 191, 78, 42, 28, 182, 0, 191, 58, 4, 27, 28, 159, 0, 7, 4, 167, 0, 4, 3]
abbrev dktX1_car_0 : List UInt8 := dkwX1_car_0 ++ dktX1_car_1
theorem dksX1_car_0 : cX1_car.data.toList.drop 0 = dktX1_car_0 := by decide +kernel
theorem dksX1_car_1 : cX1_car.data.toList.drop 23 = dktX1_car_1 := dk_seg dksX1_car_0 23 rfl rfl
theorem dksX1_car_2 : cX1_car.data.toList.drop 46 = dktX1_car_2 := dk_seg dksX1_car_1 23 rfl rfl
theorem dksX1_car_3 : cX1_car.data.toList.drop 68 = dktX1_car_3 := dk_seg dksX1_car_2 22 rfl rfl
theorem dksX1_car_4 : cX1_car.data.toList.drop 90 = dktX1_car_4 := dk_seg dksX1_car_3 22 rfl rfl
theorem dksX1_car_5 : cX1_car.data.toList.drop 114 = dktX1_car_5 := dk_seg dksX1_car_4 24 rfl rfl
theorem dksX1_car_6 : cX1_car.data.toList.drop 137 = dktX1_car_6 := dk_seg dksX1_car_5 23 rfl rfl
theorem dksX1_car_7 : cX1_car.data.toList.drop 160 = dktX1_car_7 := dk_seg dksX1_car_6 23 rfl rfl
theorem dksX1_car_8 : cX1_car.data.toList.drop 184 = dktX1_car_8 := dk_seg dksX1_car_7 24 rfl rfl
theorem dksX1_car_9 : cX1_car.data.toList.drop 208 = dktX1_car_9 := dk_seg dksX1_car_8 24 rfl rfl
theorem dksX1_car_10 : cX1_car.data.toList.drop 230 = dktX1_car_10 := dk_seg dksX1_car_9 22 rfl rfl
theorem dX1_car_0 : decode cX1_car 0 = .ok (.aload_n 0, 1) := dk_42 (dk_at dksX1_car_0 0 rfl rfl)
theorem dX1_car_1 : decode cX1_car 1 = .ok (.iload_n 1, 1) := dk_27 (dk_at dksX1_car_0 1 rfl rfl)
theorem dX1_car_2 : decode cX1_car 2 = .ok (.invokevirtual 191, 3) := dk_182 0 191 (dk_at dksX1_car_0 2 rfl rfl)
theorem dX1_car_5 : decode cX1_car 5 = .ok (.astore_n 3, 1) := dk_78 (dk_at dksX1_car_0 5 rfl rfl)
theorem dX1_car_6 : decode cX1_car 6 = .ok (.aload_n 0, 1) := dk_42 (dk_at dksX1_car_0 6 rfl rfl)
theorem dX1_car_7 : decode cX1_car 7 = .ok (.iload_n 2, 1) := dk_28 (dk_at dksX1_car_0 7 rfl rfl)
theorem dX1_car_8 : decode cX1_car 8 = .ok (.invokevirtual 191, 3) := dk_182 0 191 (dk_at dksX1_car_0 8 rfl rfl)
theorem dX1_car_11 : decode cX1_car 11 = .ok (.astore 4, 2) := dk_58 4 (dk_at dksX1_car_0 11 rfl rfl)
theorem dX1_car_13 : decode cX1_car 13 = .ok (.iload_n 1, 1) := dk_27 (dk_at dksX1_car_0 13 rfl rfl)
theorem dX1_car_14 : decode cX1_car 14 = .ok (.iload_n 2, 1) := dk_28 (dk_at dksX1_car_0 14 rfl rfl)
theorem dX1_car_15 : decode cX1_car 15 = .ok (.if_icmp .eq 7, 3) := dk_159 0 7 (dk_at dksX1_car_0 15 rfl rfl)
theorem dX1_car_18 : decode cX1_car 18 = .ok (.iconst 1, 1) := dk_4 (dk_at dksX1_car_0 18 rfl rfl)
theorem dX1_car_19 : decode cX1_car 19 = .ok (.goto 4, 3) := dk_167 0 4 (dk_at dksX1_car_0 19 rfl rfl)
theorem dX1_car_22 : decode cX1_car 22 = .ok (.iconst 0, 1) := dk_3 (dk_at dksX1_car_0 22 rfl rfl)
theorem dX1_car_23 : decode cX1_car 23 = .ok (.invokestatic 207, 3) := dk_184 0 207 (dk_at dksX1_car_1 0 rfl rfl)
theorem dX1_car_26 : decode cX1_car 26 = .ok (.iconst 0, 1) := dk_3 (dk_at dksX1_car_1 3 rfl rfl)
theorem dX1_car_27 : decode cX1_car 27 = .ok (.istore 5, 2) := dk_54 5 (dk_at dksX1_car_1 4 rfl rfl)
theorem dX1_car_29 : decode cX1_car 29 = .ok (.aload_n 0, 1) := dk_42 (dk_at dksX1_car_1 6 rfl rfl)
theorem dX1_car_30 : decode cX1_car 30 = .ok (.getfield 49, 3) := dk_180 0 49 (dk_at dksX1_car_1 7 rfl rfl)
theorem dX1_car_33 : decode cX1_car 33 = .ok (.iconst 0, 1) := dk_3 (dk_at dksX1_car_1 10 rfl rfl)
theorem dX1_car_34 : decode cX1_car 34 = .ok (.iconst 0, 1) := dk_3 (dk_at dksX1_car_1 11 rfl rfl)
theorem dX1_car_35 : decode cX1_car 35 = .ok (.iastore, 1) := dk_79 (dk_at dksX1_car_1 12 rfl rfl)
theorem dX1_car_36 : decode cX1_car 36 = .ok (.aload_n 0, 1) := dk_42 (dk_at dksX1_car_1 13 rfl rfl)
theorem dX1_car_37 : decode cX1_car 37 = .ok (.getfield 49, 3) := dk_180 0 49 (dk_at dksX1_car_1 14 rfl rfl)
theorem dX1_car_40 : decode cX1_car 40 = .ok (.iconst 1, 1) := dk_4 (dk_at dksX1_car_1 17 rfl rfl)
theorem dX1_car_41 : decode cX1_car 41 = .ok (.iconst 0, 1) := dk_3 (dk_at dksX1_car_1 18 rfl rfl)
theorem dX1_car_42 : decode cX1_car 42 = .ok (.iastore, 1) := dk_79 (dk_at dksX1_car_1 19 rfl rfl)
theorem dX1_car_43 : decode cX1_car 43 = .ok (.iconst 0, 1) := dk_3 (dk_at dksX1_car_1 20 rfl rfl)
theorem dX1_car_44 : decode cX1_car 44 = .ok (.istore 6, 2) := dk_54 6 (dk_at dksX1_car_1 21 rfl rfl)
theorem dX1_car_46 : decode cX1_car 46 = .ok (.iload 6, 2) := dk_21 6 (dk_at dksX1_car_2 0 rfl rfl)
theorem dX1_car_48 : decode cX1_car 48 = .ok (.bipush 10, 2) := dk_16 10 (dk_at dksX1_car_2 2 rfl rfl)
theorem dX1_car_50 : decode cX1_car 50 = .ok (.if_icmp .ge 193, 3) := dk_162 0 193 (dk_at dksX1_car_2 4 rfl rfl)
theorem dX1_car_53 : decode cX1_car 53 = .ok (.iload 5, 2) := dk_21 5 (dk_at dksX1_car_2 7 rfl rfl)
theorem dX1_car_55 : decode cX1_car 55 = .ok (.istore 7, 2) := dk_54 7 (dk_at dksX1_car_2 9 rfl rfl)
theorem dX1_car_57 : decode cX1_car 57 = .ok (.iconst 0, 1) := dk_3 (dk_at dksX1_car_2 11 rfl rfl)
theorem dX1_car_58 : decode cX1_car 58 = .ok (.istore 8, 2) := dk_54 8 (dk_at dksX1_car_2 12 rfl rfl)
theorem dX1_car_60 : decode cX1_car 60 = .ok (.iload 8, 2) := dk_21 8 (dk_at dksX1_car_2 14 rfl rfl)
theorem dX1_car_62 : decode cX1_car 62 = .ok (.iconst 2, 1) := dk_5 (dk_at dksX1_car_2 16 rfl rfl)
theorem dX1_car_63 : decode cX1_car 63 = .ok (.if_icmp .ge 90, 3) := dk_162 0 90 (dk_at dksX1_car_2 17 rfl rfl)
theorem dX1_car_66 : decode cX1_car 66 = .ok (.iload 8, 2) := dk_21 8 (dk_at dksX1_car_2 20 rfl rfl)
theorem dX1_car_68 : decode cX1_car 68 = .ok (.ifCond .ne 7, 3) := dk_154 0 7 (dk_at dksX1_car_3 0 rfl rfl)
theorem dX1_car_71 : decode cX1_car 71 = .ok (.aload_n 3, 1) := dk_45 (dk_at dksX1_car_3 3 rfl rfl)
theorem dX1_car_72 : decode cX1_car 72 = .ok (.goto 5, 3) := dk_167 0 5 (dk_at dksX1_car_3 4 rfl rfl)
theorem dX1_car_75 : decode cX1_car 75 = .ok (.aload 4, 2) := dk_25 4 (dk_at dksX1_car_3 7 rfl rfl)
theorem dX1_car_77 : decode cX1_car 77 = .ok (.astore 9, 2) := dk_58 9 (dk_at dksX1_car_3 9 rfl rfl)
theorem dX1_car_79 : decode cX1_car 79 = .ok (.iload 7, 2) := dk_21 7 (dk_at dksX1_car_3 11 rfl rfl)
theorem dX1_car_81 : decode cX1_car 81 = .ok (.iload 8, 2) := dk_21 8 (dk_at dksX1_car_3 13 rfl rfl)
theorem dX1_car_83 : decode cX1_car 83 = .ok (.ishr, 1) := dk_122 (dk_at dksX1_car_3 15 rfl rfl)
theorem dX1_car_84 : decode cX1_car 84 = .ok (.iconst 1, 1) := dk_4 (dk_at dksX1_car_3 16 rfl rfl)
theorem dX1_car_85 : decode cX1_car 85 = .ok (.iand, 1) := dk_126 (dk_at dksX1_car_3 17 rfl rfl)
theorem dX1_car_86 : decode cX1_car 86 = .ok (.iconst 1, 1) := dk_4 (dk_at dksX1_car_3 18 rfl rfl)
theorem dX1_car_87 : decode cX1_car 87 = .ok (.if_icmp .ne 6, 3) := dk_160 0 6 (dk_at dksX1_car_3 19 rfl rfl)
theorem dX1_car_90 : decode cX1_car 90 = .ok (.goto 57, 3) := dk_167 0 57 (dk_at dksX1_car_4 0 rfl rfl)
theorem dX1_car_93 : decode cX1_car 93 = .ok (.aload_n 0, 1) := dk_42 (dk_at dksX1_car_4 3 rfl rfl)
theorem dX1_car_94 : decode cX1_car 94 = .ok (.getfield 49, 3) := dk_180 0 49 (dk_at dksX1_car_4 4 rfl rfl)
theorem dX1_car_97 : decode cX1_car 97 = .ok (.iload 8, 2) := dk_21 8 (dk_at dksX1_car_4 7 rfl rfl)
theorem dX1_car_99 : decode cX1_car 99 = .ok (.aload_n 0, 1) := dk_42 (dk_at dksX1_car_4 9 rfl rfl)
theorem dX1_car_100 : decode cX1_car 100 = .ok (.getfield 19, 3) := dk_180 0 19 (dk_at dksX1_car_4 10 rfl rfl)
theorem dX1_car_103 : decode cX1_car 103 = .ok (.aload 9, 2) := dk_25 9 (dk_at dksX1_car_4 13 rfl rfl)
theorem dX1_car_105 : decode cX1_car 105 = .ok (.iload 6, 2) := dk_21 6 (dk_at dksX1_car_4 15 rfl rfl)
theorem dX1_car_107 : decode cX1_car 107 = .ok (.aload_n 0, 1) := dk_42 (dk_at dksX1_car_4 17 rfl rfl)
theorem dX1_car_108 : decode cX1_car 108 = .ok (.getfield 49, 3) := dk_180 0 49 (dk_at dksX1_car_4 18 rfl rfl)
theorem dX1_car_111 : decode cX1_car 111 = .ok (.iload 8, 2) := dk_21 8 (dk_at dksX1_car_4 21 rfl rfl)
theorem dX1_car_113 : decode cX1_car 113 = .ok (.iaload, 1) := dk_46 (dk_at dksX1_car_4 23 rfl rfl)
theorem dX1_car_114 : decode cX1_car 114 = .ok (.iconst 1, 1) := dk_4 (dk_at dksX1_car_5 0 rfl rfl)
theorem dX1_car_115 : decode cX1_car 115 = .ok (.invokevirtual 226, 3) := dk_182 0 226 (dk_at dksX1_car_5 1 rfl rfl)
theorem dX1_car_118 : decode cX1_car 118 = .ok (.iastore, 1) := dk_79 (dk_at dksX1_car_5 4 rfl rfl)
theorem dX1_car_119 : decode cX1_car 119 = .ok (.iload 5, 2) := dk_21 5 (dk_at dksX1_car_5 5 rfl rfl)
theorem dX1_car_121 : decode cX1_car 121 = .ok (.aload_n 0, 1) := dk_42 (dk_at dksX1_car_5 7 rfl rfl)
theorem dX1_car_122 : decode cX1_car 122 = .ok (.getfield 49, 3) := dk_180 0 49 (dk_at dksX1_car_5 8 rfl rfl)
theorem dX1_car_125 : decode cX1_car 125 = .ok (.iload 8, 2) := dk_21 8 (dk_at dksX1_car_5 11 rfl rfl)
theorem dX1_car_127 : decode cX1_car 127 = .ok (.iaload, 1) := dk_46 (dk_at dksX1_car_5 13 rfl rfl)
theorem dX1_car_128 : decode cX1_car 128 = .ok (.aload 9, 2) := dk_25 9 (dk_at dksX1_car_5 14 rfl rfl)
theorem dX1_car_130 : decode cX1_car 130 = .ok (.getfield 198, 3) := dk_180 0 198 (dk_at dksX1_car_5 16 rfl rfl)
theorem dX1_car_133 : decode cX1_car 133 = .ok (.if_icmp .le 10, 3) := dk_164 0 10 (dk_at dksX1_car_5 19 rfl rfl)
theorem dX1_car_136 : decode cX1_car 136 = .ok (.iconst 1, 1) := dk_4 (dk_at dksX1_car_5 22 rfl rfl)
theorem dX1_car_137 : decode cX1_car 137 = .ok (.iload 8, 2) := dk_21 8 (dk_at dksX1_car_6 0 rfl rfl)
theorem dX1_car_139 : decode cX1_car 139 = .ok (.ishl, 1) := dk_120 (dk_at dksX1_car_6 2 rfl rfl)
theorem dX1_car_140 : decode cX1_car 140 = .ok (.goto 4, 3) := dk_167 0 4 (dk_at dksX1_car_6 3 rfl rfl)
theorem dX1_car_143 : decode cX1_car 143 = .ok (.iconst 0, 1) := dk_3 (dk_at dksX1_car_6 6 rfl rfl)
theorem dX1_car_144 : decode cX1_car 144 = .ok (.ior, 1) := dk_128 (dk_at dksX1_car_6 7 rfl rfl)
theorem dX1_car_145 : decode cX1_car 145 = .ok (.istore 5, 2) := dk_54 5 (dk_at dksX1_car_6 8 rfl rfl)
theorem dX1_car_147 : decode cX1_car 147 = .ok (.iinc 8 1, 3) := dk_132 8 1 (dk_at dksX1_car_6 10 rfl rfl)
theorem dX1_car_150 : decode cX1_car 150 = .ok (.goto (-90), 3) := dk_167 255 166 (dk_at dksX1_car_6 13 rfl rfl)
theorem dX1_car_153 : decode cX1_car 153 = .ok (.iload 7, 2) := dk_21 7 (dk_at dksX1_car_6 16 rfl rfl)
theorem dX1_car_155 : decode cX1_car 155 = .ok (.ifCond .ne 82, 3) := dk_154 0 82 (dk_at dksX1_car_6 18 rfl rfl)
theorem dX1_car_158 : decode cX1_car 158 = .ok (.iload 5, 2) := dk_21 5 (dk_at dksX1_car_6 21 rfl rfl)
theorem dX1_car_160 : decode cX1_car 160 = .ok (.invokestatic 269, 3) := dk_184 1 13 (dk_at dksX1_car_7 0 rfl rfl)
theorem dX1_car_163 : decode cX1_car 163 = .ok (.iconst 1, 1) := dk_4 (dk_at dksX1_car_7 3 rfl rfl)
theorem dX1_car_164 : decode cX1_car 164 = .ok (.if_icmp .eq 6, 3) := dk_159 0 6 (dk_at dksX1_car_7 4 rfl rfl)
theorem dX1_car_167 : decode cX1_car 167 = .ok (.goto 70, 3) := dk_167 0 70 (dk_at dksX1_car_7 7 rfl rfl)
theorem dX1_car_170 : decode cX1_car 170 = .ok (.iload 5, 2) := dk_21 5 (dk_at dksX1_car_7 10 rfl rfl)
theorem dX1_car_172 : decode cX1_car 172 = .ok (.iconst 1, 1) := dk_4 (dk_at dksX1_car_7 12 rfl rfl)
theorem dX1_car_173 : decode cX1_car 173 = .ok (.if_icmp .ne 7, 3) := dk_160 0 7 (dk_at dksX1_car_7 13 rfl rfl)
theorem dX1_car_176 : decode cX1_car 176 = .ok (.iconst 1, 1) := dk_4 (dk_at dksX1_car_7 16 rfl rfl)
theorem dX1_car_177 : decode cX1_car 177 = .ok (.goto 4, 3) := dk_167 0 4 (dk_at dksX1_car_7 17 rfl rfl)
theorem dX1_car_180 : decode cX1_car 180 = .ok (.iconst 0, 1) := dk_3 (dk_at dksX1_car_7 20 rfl rfl)
theorem dX1_car_181 : decode cX1_car 181 = .ok (.istore 8, 2) := dk_54 8 (dk_at dksX1_car_7 21 rfl rfl)
theorem dX1_car_183 : decode cX1_car 183 = .ok (.aload_n 0, 1) := dk_42 (dk_at dksX1_car_7 23 rfl rfl)
theorem dX1_car_184 : decode cX1_car 184 = .ok (.getfield 49, 3) := dk_180 0 49 (dk_at dksX1_car_8 0 rfl rfl)
theorem dX1_car_187 : decode cX1_car 187 = .ok (.iload 8, 2) := dk_21 8 (dk_at dksX1_car_8 3 rfl rfl)
theorem dX1_car_189 : decode cX1_car 189 = .ok (.dup2, 1) := dk_92 (dk_at dksX1_car_8 5 rfl rfl)
theorem dX1_car_190 : decode cX1_car 190 = .ok (.iaload, 1) := dk_46 (dk_at dksX1_car_8 6 rfl rfl)
theorem dX1_car_191 : decode cX1_car 191 = .ok (.aload_n 0, 1) := dk_42 (dk_at dksX1_car_8 7 rfl rfl)
theorem dX1_car_192 : decode cX1_car 192 = .ok (.getfield 19, 3) := dk_180 0 19 (dk_at dksX1_car_8 8 rfl rfl)
theorem dX1_car_195 : decode cX1_car 195 = .ok (.getfield 313, 3) := dk_180 1 57 (dk_at dksX1_car_8 11 rfl rfl)
theorem dX1_car_198 : decode cX1_car 198 = .ok (.iadd, 1) := dk_96 (dk_at dksX1_car_8 14 rfl rfl)
theorem dX1_car_199 : decode cX1_car 199 = .ok (.iastore, 1) := dk_79 (dk_at dksX1_car_8 15 rfl rfl)
theorem dX1_car_200 : decode cX1_car 200 = .ok (.iload 5, 2) := dk_21 5 (dk_at dksX1_car_8 16 rfl rfl)
theorem dX1_car_202 : decode cX1_car 202 = .ok (.aload_n 0, 1) := dk_42 (dk_at dksX1_car_8 18 rfl rfl)
theorem dX1_car_203 : decode cX1_car 203 = .ok (.getfield 49, 3) := dk_180 0 49 (dk_at dksX1_car_8 19 rfl rfl)
theorem dX1_car_206 : decode cX1_car 206 = .ok (.iload 8, 2) := dk_21 8 (dk_at dksX1_car_8 22 rfl rfl)
theorem dX1_car_208 : decode cX1_car 208 = .ok (.iaload, 1) := dk_46 (dk_at dksX1_car_9 0 rfl rfl)
theorem dX1_car_209 : decode cX1_car 209 = .ok (.iload 8, 2) := dk_21 8 (dk_at dksX1_car_9 1 rfl rfl)
theorem dX1_car_211 : decode cX1_car 211 = .ok (.ifCond .ne 7, 3) := dk_154 0 7 (dk_at dksX1_car_9 3 rfl rfl)
theorem dX1_car_214 : decode cX1_car 214 = .ok (.aload_n 3, 1) := dk_45 (dk_at dksX1_car_9 6 rfl rfl)
theorem dX1_car_215 : decode cX1_car 215 = .ok (.goto 5, 3) := dk_167 0 5 (dk_at dksX1_car_9 7 rfl rfl)
theorem dX1_car_218 : decode cX1_car 218 = .ok (.aload 4, 2) := dk_25 4 (dk_at dksX1_car_9 10 rfl rfl)
theorem dX1_car_220 : decode cX1_car 220 = .ok (.getfield 198, 3) := dk_180 0 198 (dk_at dksX1_car_9 12 rfl rfl)
theorem dX1_car_223 : decode cX1_car 223 = .ok (.if_icmp .le 10, 3) := dk_164 0 10 (dk_at dksX1_car_9 15 rfl rfl)
theorem dX1_car_226 : decode cX1_car 226 = .ok (.iconst 1, 1) := dk_4 (dk_at dksX1_car_9 18 rfl rfl)
theorem dX1_car_227 : decode cX1_car 227 = .ok (.iload 8, 2) := dk_21 8 (dk_at dksX1_car_9 19 rfl rfl)
theorem dX1_car_229 : decode cX1_car 229 = .ok (.ishl, 1) := dk_120 (dk_at dksX1_car_9 21 rfl rfl)
theorem dX1_car_230 : decode cX1_car 230 = .ok (.goto 4, 3) := dk_167 0 4 (dk_at dksX1_car_10 0 rfl rfl)
theorem dX1_car_233 : decode cX1_car 233 = .ok (.iconst 0, 1) := dk_3 (dk_at dksX1_car_10 3 rfl rfl)
theorem dX1_car_234 : decode cX1_car 234 = .ok (.ior, 1) := dk_128 (dk_at dksX1_car_10 4 rfl rfl)
theorem dX1_car_235 : decode cX1_car 235 = .ok (.istore 5, 2) := dk_54 5 (dk_at dksX1_car_10 5 rfl rfl)
theorem dX1_car_237 : decode cX1_car 237 = .ok (.iinc 6 1, 3) := dk_132 6 1 (dk_at dksX1_car_10 7 rfl rfl)
theorem dX1_car_240 : decode cX1_car 240 = .ok (.goto (-194), 3) := dk_167 255 62 (dk_at dksX1_car_10 10 rfl rfl)
theorem dX1_car_243 : decode cX1_car 243 = .ok (.iload 5, 2) := dk_21 5 (dk_at dksX1_car_10 13 rfl rfl)
theorem dX1_car_245 : decode cX1_car 245 = .ok (.ireturn, 1) := dk_172 (dk_at dksX1_car_10 15 rfl rfl)
abbrev cX1_corners : ByteArray := prog_1_method_50_code
def yX1_corners : MethodName := ⟨RX1, "corners", "(I)I"⟩
def dkwX1_corners_3 : List UInt8 := [4, 21, 5, 120, 167, 0, 4, 3, 128, 62, 132, 5, 1, 167, 255, 186, 29, 172]
abbrev dktX1_corners_3 : List UInt8 := dkwX1_corners_3 ++ []
def dkwX1_corners_2 : List UInt8 := [180, 0, 19, 180, 0, 188, 21, 5, 46, 2, 160, 0, 21, 21, 4, 44, 180, 0, 198, 5, 108, 161, 0, 10]
abbrev dktX1_corners_2 : List UInt8 := dkwX1_corners_2 ++ dktX1_corners_3
def dkwX1_corners_1 : List UInt8 := [180, 0, 198, 163, 0, 60, 42, 180, 0, 19, 44, 21, 5, 21, 4, 4, 182, 0, 226, 54, 4, 29, 42]
abbrev dktX1_corners_1 : List UInt8 := dkwX1_corners_1 ++ dktX1_corners_2
def dkwX1_corners_0 : List UInt8 := [42, 27, 182, 0, 191, 77, 3, 62, 3, 54, 4, 3, 54, 5, 21, 5, 16, 10, 162, 0, 69, 21, 4, 44]
abbrev dktX1_corners_0 : List UInt8 := dkwX1_corners_0 ++ dktX1_corners_1
theorem dksX1_corners_0 : cX1_corners.data.toList.drop 0 = dktX1_corners_0 := by decide +kernel
theorem dksX1_corners_1 : cX1_corners.data.toList.drop 24 = dktX1_corners_1 := dk_seg dksX1_corners_0 24 rfl rfl
theorem dksX1_corners_2 : cX1_corners.data.toList.drop 47 = dktX1_corners_2 := dk_seg dksX1_corners_1 23 rfl rfl
theorem dksX1_corners_3 : cX1_corners.data.toList.drop 71 = dktX1_corners_3 := dk_seg dksX1_corners_2 24 rfl rfl
theorem dX1_corners_0 : decode cX1_corners 0 = .ok (.aload_n 0, 1) := dk_42 (dk_at dksX1_corners_0 0 rfl rfl)
theorem dX1_corners_1 : decode cX1_corners 1 = .ok (.iload_n 1, 1) := dk_27 (dk_at dksX1_corners_0 1 rfl rfl)
theorem dX1_corners_2 : decode cX1_corners 2 = .ok (.invokevirtual 191, 3) := dk_182 0 191 (dk_at dksX1_corners_0 2 rfl rfl)
theorem dX1_corners_5 : decode cX1_corners 5 = .ok (.astore_n 2, 1) := dk_77 (dk_at dksX1_corners_0 5 rfl rfl)
theorem dX1_corners_6 : decode cX1_corners 6 = .ok (.iconst 0, 1) := dk_3 (dk_at dksX1_corners_0 6 rfl rfl)
theorem dX1_corners_7 : decode cX1_corners 7 = .ok (.istore_n 3, 1) := dk_62 (dk_at dksX1_corners_0 7 rfl rfl)
theorem dX1_corners_8 : decode cX1_corners 8 = .ok (.iconst 0, 1) := dk_3 (dk_at dksX1_corners_0 8 rfl rfl)
theorem dX1_corners_9 : decode cX1_corners 9 = .ok (.istore 4, 2) := dk_54 4 (dk_at dksX1_corners_0 9 rfl rfl)
theorem dX1_corners_11 : decode cX1_corners 11 = .ok (.iconst 0, 1) := dk_3 (dk_at dksX1_corners_0 11 rfl rfl)
theorem dX1_corners_12 : decode cX1_corners 12 = .ok (.istore 5, 2) := dk_54 5 (dk_at dksX1_corners_0 12 rfl rfl)
theorem dX1_corners_14 : decode cX1_corners 14 = .ok (.iload 5, 2) := dk_21 5 (dk_at dksX1_corners_0 14 rfl rfl)
theorem dX1_corners_16 : decode cX1_corners 16 = .ok (.bipush 10, 2) := dk_16 10 (dk_at dksX1_corners_0 16 rfl rfl)
theorem dX1_corners_18 : decode cX1_corners 18 = .ok (.if_icmp .ge 69, 3) := dk_162 0 69 (dk_at dksX1_corners_0 18 rfl rfl)
theorem dX1_corners_21 : decode cX1_corners 21 = .ok (.iload 4, 2) := dk_21 4 (dk_at dksX1_corners_0 21 rfl rfl)
theorem dX1_corners_23 : decode cX1_corners 23 = .ok (.aload_n 2, 1) := dk_44 (dk_at dksX1_corners_0 23 rfl rfl)
theorem dX1_corners_24 : decode cX1_corners 24 = .ok (.getfield 198, 3) := dk_180 0 198 (dk_at dksX1_corners_1 0 rfl rfl)
theorem dX1_corners_27 : decode cX1_corners 27 = .ok (.if_icmp .gt 60, 3) := dk_163 0 60 (dk_at dksX1_corners_1 3 rfl rfl)
theorem dX1_corners_30 : decode cX1_corners 30 = .ok (.aload_n 0, 1) := dk_42 (dk_at dksX1_corners_1 6 rfl rfl)
theorem dX1_corners_31 : decode cX1_corners 31 = .ok (.getfield 19, 3) := dk_180 0 19 (dk_at dksX1_corners_1 7 rfl rfl)
theorem dX1_corners_34 : decode cX1_corners 34 = .ok (.aload_n 2, 1) := dk_44 (dk_at dksX1_corners_1 10 rfl rfl)
theorem dX1_corners_35 : decode cX1_corners 35 = .ok (.iload 5, 2) := dk_21 5 (dk_at dksX1_corners_1 11 rfl rfl)
theorem dX1_corners_37 : decode cX1_corners 37 = .ok (.iload 4, 2) := dk_21 4 (dk_at dksX1_corners_1 13 rfl rfl)
theorem dX1_corners_39 : decode cX1_corners 39 = .ok (.iconst 1, 1) := dk_4 (dk_at dksX1_corners_1 15 rfl rfl)
theorem dX1_corners_40 : decode cX1_corners 40 = .ok (.invokevirtual 226, 3) := dk_182 0 226 (dk_at dksX1_corners_1 16 rfl rfl)
theorem dX1_corners_43 : decode cX1_corners 43 = .ok (.istore 4, 2) := dk_54 4 (dk_at dksX1_corners_1 19 rfl rfl)
theorem dX1_corners_45 : decode cX1_corners 45 = .ok (.iload_n 3, 1) := dk_29 (dk_at dksX1_corners_1 21 rfl rfl)
theorem dX1_corners_46 : decode cX1_corners 46 = .ok (.aload_n 0, 1) := dk_42 (dk_at dksX1_corners_1 22 rfl rfl)
theorem dX1_corners_47 : decode cX1_corners 47 = .ok (.getfield 19, 3) := dk_180 0 19 (dk_at dksX1_corners_2 0 rfl rfl)
theorem dX1_corners_50 : decode cX1_corners 50 = .ok (.getfield 188, 3) := dk_180 0 188 (dk_at dksX1_corners_2 3 rfl rfl)
theorem dX1_corners_53 : decode cX1_corners 53 = .ok (.iload 5, 2) := dk_21 5 (dk_at dksX1_corners_2 6 rfl rfl)
theorem dX1_corners_55 : decode cX1_corners 55 = .ok (.iaload, 1) := dk_46 (dk_at dksX1_corners_2 8 rfl rfl)
theorem dX1_corners_56 : decode cX1_corners 56 = .ok (.iconst (-1), 1) := dk_2 (dk_at dksX1_corners_2 9 rfl rfl)
theorem dX1_corners_57 : decode cX1_corners 57 = .ok (.if_icmp .ne 21, 3) := dk_160 0 21 (dk_at dksX1_corners_2 10 rfl rfl)
theorem dX1_corners_60 : decode cX1_corners 60 = .ok (.iload 4, 2) := dk_21 4 (dk_at dksX1_corners_2 13 rfl rfl)
theorem dX1_corners_62 : decode cX1_corners 62 = .ok (.aload_n 2, 1) := dk_44 (dk_at dksX1_corners_2 15 rfl rfl)
theorem dX1_corners_63 : decode cX1_corners 63 = .ok (.getfield 198, 3) := dk_180 0 198 (dk_at dksX1_corners_2 16 rfl rfl)
theorem dX1_corners_66 : decode cX1_corners 66 = .ok (.iconst 2, 1) := dk_5 (dk_at dksX1_corners_2 19 rfl rfl)
theorem dX1_corners_67 : decode cX1_corners 67 = .ok (.idiv, 1) := dk_108 (dk_at dksX1_corners_2 20 rfl rfl)
theorem dX1_corners_68 : decode cX1_corners 68 = .ok (.if_icmp .lt 10, 3) := dk_161 0 10 (dk_at dksX1_corners_2 21 rfl rfl)
theorem dX1_corners_71 : decode cX1_corners 71 = .ok (.iconst 1, 1) := dk_4 (dk_at dksX1_corners_3 0 rfl rfl)
theorem dX1_corners_72 : decode cX1_corners 72 = .ok (.iload 5, 2) := dk_21 5 (dk_at dksX1_corners_3 1 rfl rfl)
theorem dX1_corners_74 : decode cX1_corners 74 = .ok (.ishl, 1) := dk_120 (dk_at dksX1_corners_3 3 rfl rfl)
theorem dX1_corners_75 : decode cX1_corners 75 = .ok (.goto 4, 3) := dk_167 0 4 (dk_at dksX1_corners_3 4 rfl rfl)
theorem dX1_corners_78 : decode cX1_corners 78 = .ok (.iconst 0, 1) := dk_3 (dk_at dksX1_corners_3 7 rfl rfl)
theorem dX1_corners_79 : decode cX1_corners 79 = .ok (.ior, 1) := dk_128 (dk_at dksX1_corners_3 8 rfl rfl)
theorem dX1_corners_80 : decode cX1_corners 80 = .ok (.istore_n 3, 1) := dk_62 (dk_at dksX1_corners_3 9 rfl rfl)
theorem dX1_corners_81 : decode cX1_corners 81 = .ok (.iinc 5 1, 3) := dk_132 5 1 (dk_at dksX1_corners_3 10 rfl rfl)
theorem dX1_corners_84 : decode cX1_corners 84 = .ok (.goto (-70), 3) := dk_167 255 186 (dk_at dksX1_corners_3 13 rfl rfl)
theorem dX1_corners_87 : decode cX1_corners 87 = .ok (.iload_n 3, 1) := dk_29 (dk_at dksX1_corners_3 16 rfl rfl)
theorem dX1_corners_88 : decode cX1_corners 88 = .ok (.ireturn, 1) := dk_172 (dk_at dksX1_corners_3 17 rfl rfl)
abbrev cX1_usher : ByteArray := prog_1_method_61_code
def yX1_usher : MethodName := ⟨RX1, "usher", "(I)I"⟩
def dkwX1_usher_7 : List UInt8 := [167, 255, 119, 132, 4, 1, 167, 255, 98, 29, 172]
abbrev dktX1_usher_7 : List UInt8 := dkwX1_usher_7 ++ []
def dkwX1_usher_6 : List UInt8 := [54, 7, 132, 8, 1, 167, 255, 188, 29, 21, 7, 153, 0, 7, 3, 167, 0, 4, 4, 96, 62, 132, 5, 1]
abbrev dktX1_usher_6 : List UInt8 := dkwX1_usher_6 ++ dktX1_usher_7
def dkwX1_usher_5 : List UInt8 := [154, 0, 22, 167, 0, 15, 42, 44, 21, 8, 21, 5, 182, 1, 76, 153, 0, 7, 4, 167, 0, 4, 3]
abbrev dktX1_usher_5 : List UInt8 := dkwX1_usher_5 ++ dktX1_usher_6
def dkwX1_usher_4 : List UInt8 := [21, 8, 182, 1, 72, 153, 0, 39, 21, 6, 153, 0, 18, 42, 44, 21, 4, 21, 8, 182, 1, 76]
abbrev dktX1_usher_4 : List UInt8 := dkwX1_usher_4 ++ dktX1_usher_5
def dkwX1_usher_3 : List UInt8 := [54, 7, 3, 54, 8, 21, 8, 42, 180, 0, 19, 180, 0, 85, 163, 0, 62, 21, 7, 154, 0, 57, 42]
abbrev dktX1_usher_3 : List UInt8 := dkwX1_usher_3 ++ dktX1_usher_4
def dkwX1_usher_2 : List UInt8 := [21, 5, 182, 1, 72, 154, 0, 6, 167, 0, 104, 42, 44, 21, 4, 21, 5, 182, 1, 76, 54, 6, 3]
abbrev dktX1_usher_2 : List UInt8 := dkwX1_usher_2 ++ dktX1_usher_3
def dkwX1_usher_1 : List UInt8 := [54, 5, 21, 5, 42, 180, 0, 19, 180, 0, 85, 163, 0, 131, 42, 21, 4, 182, 1, 72, 153, 0, 116, 42]
abbrev dktX1_usher_1 : List UInt8 := dkwX1_usher_1 ++ dktX1_usher_2
def dkwX1_usher_0 : List UInt8 := [42, 27, 182, 0, 191, 77, 3, 62, 3, 54, 4, 21, 4, 42, 180, 0, 19, 180, 0, 85, 163, 0, 152, 3]
abbrev dktX1_usher_0 : List UInt8 := dkwX1_usher_0 ++ dktX1_usher_1
theorem dksX1_usher_0 : cX1_usher.data.toList.drop 0 = dktX1_usher_0 := by decide +kernel
theorem dksX1_usher_1 : cX1_usher.data.toList.drop 24 = dktX1_usher_1 := dk_seg dksX1_usher_0 24 rfl rfl
theorem dksX1_usher_2 : cX1_usher.data.toList.drop 48 = dktX1_usher_2 := dk_seg dksX1_usher_1 24 rfl rfl
theorem dksX1_usher_3 : cX1_usher.data.toList.drop 71 = dktX1_usher_3 := dk_seg dksX1_usher_2 23 rfl rfl
theorem dksX1_usher_4 : cX1_usher.data.toList.drop 94 = dktX1_usher_4 := dk_seg dksX1_usher_3 23 rfl rfl
theorem dksX1_usher_5 : cX1_usher.data.toList.drop 116 = dktX1_usher_5 := dk_seg dksX1_usher_4 22 rfl rfl
theorem dksX1_usher_6 : cX1_usher.data.toList.drop 139 = dktX1_usher_6 := dk_seg dksX1_usher_5 23 rfl rfl
theorem dksX1_usher_7 : cX1_usher.data.toList.drop 163 = dktX1_usher_7 := dk_seg dksX1_usher_6 24 rfl rfl
theorem dX1_usher_0 : decode cX1_usher 0 = .ok (.aload_n 0, 1) := dk_42 (dk_at dksX1_usher_0 0 rfl rfl)
theorem dX1_usher_1 : decode cX1_usher 1 = .ok (.iload_n 1, 1) := dk_27 (dk_at dksX1_usher_0 1 rfl rfl)
theorem dX1_usher_2 : decode cX1_usher 2 = .ok (.invokevirtual 191, 3) := dk_182 0 191 (dk_at dksX1_usher_0 2 rfl rfl)
theorem dX1_usher_5 : decode cX1_usher 5 = .ok (.astore_n 2, 1) := dk_77 (dk_at dksX1_usher_0 5 rfl rfl)
theorem dX1_usher_6 : decode cX1_usher 6 = .ok (.iconst 0, 1) := dk_3 (dk_at dksX1_usher_0 6 rfl rfl)
theorem dX1_usher_7 : decode cX1_usher 7 = .ok (.istore_n 3, 1) := dk_62 (dk_at dksX1_usher_0 7 rfl rfl)
theorem dX1_usher_8 : decode cX1_usher 8 = .ok (.iconst 0, 1) := dk_3 (dk_at dksX1_usher_0 8 rfl rfl)
theorem dX1_usher_9 : decode cX1_usher 9 = .ok (.istore 4, 2) := dk_54 4 (dk_at dksX1_usher_0 9 rfl rfl)
theorem dX1_usher_11 : decode cX1_usher 11 = .ok (.iload 4, 2) := dk_21 4 (dk_at dksX1_usher_0 11 rfl rfl)
theorem dX1_usher_13 : decode cX1_usher 13 = .ok (.aload_n 0, 1) := dk_42 (dk_at dksX1_usher_0 13 rfl rfl)
theorem dX1_usher_14 : decode cX1_usher 14 = .ok (.getfield 19, 3) := dk_180 0 19 (dk_at dksX1_usher_0 14 rfl rfl)
theorem dX1_usher_17 : decode cX1_usher 17 = .ok (.getfield 85, 3) := dk_180 0 85 (dk_at dksX1_usher_0 17 rfl rfl)
theorem dX1_usher_20 : decode cX1_usher 20 = .ok (.if_icmp .gt 152, 3) := dk_163 0 152 (dk_at dksX1_usher_0 20 rfl rfl)
theorem dX1_usher_23 : decode cX1_usher 23 = .ok (.iconst 0, 1) := dk_3 (dk_at dksX1_usher_0 23 rfl rfl)
theorem dX1_usher_24 : decode cX1_usher 24 = .ok (.istore 5, 2) := dk_54 5 (dk_at dksX1_usher_1 0 rfl rfl)
theorem dX1_usher_26 : decode cX1_usher 26 = .ok (.iload 5, 2) := dk_21 5 (dk_at dksX1_usher_1 2 rfl rfl)
theorem dX1_usher_28 : decode cX1_usher 28 = .ok (.aload_n 0, 1) := dk_42 (dk_at dksX1_usher_1 4 rfl rfl)
theorem dX1_usher_29 : decode cX1_usher 29 = .ok (.getfield 19, 3) := dk_180 0 19 (dk_at dksX1_usher_1 5 rfl rfl)
theorem dX1_usher_32 : decode cX1_usher 32 = .ok (.getfield 85, 3) := dk_180 0 85 (dk_at dksX1_usher_1 8 rfl rfl)
theorem dX1_usher_35 : decode cX1_usher 35 = .ok (.if_icmp .gt 131, 3) := dk_163 0 131 (dk_at dksX1_usher_1 11 rfl rfl)
theorem dX1_usher_38 : decode cX1_usher 38 = .ok (.aload_n 0, 1) := dk_42 (dk_at dksX1_usher_1 14 rfl rfl)
theorem dX1_usher_39 : decode cX1_usher 39 = .ok (.iload 4, 2) := dk_21 4 (dk_at dksX1_usher_1 15 rfl rfl)
theorem dX1_usher_41 : decode cX1_usher 41 = .ok (.invokevirtual 328, 3) := dk_182 1 72 (dk_at dksX1_usher_1 17 rfl rfl)
theorem dX1_usher_44 : decode cX1_usher 44 = .ok (.ifCond .eq 116, 3) := dk_153 0 116 (dk_at dksX1_usher_1 20 rfl rfl)
theorem dX1_usher_47 : decode cX1_usher 47 = .ok (.aload_n 0, 1) := dk_42 (dk_at dksX1_usher_1 23 rfl rfl)
theorem dX1_usher_48 : decode cX1_usher 48 = .ok (.iload 5, 2) := dk_21 5 (dk_at dksX1_usher_2 0 rfl rfl)
theorem dX1_usher_50 : decode cX1_usher 50 = .ok (.invokevirtual 328, 3) := dk_182 1 72 (dk_at dksX1_usher_2 2 rfl rfl)
theorem dX1_usher_53 : decode cX1_usher 53 = .ok (.ifCond .ne 6, 3) := dk_154 0 6 (dk_at dksX1_usher_2 5 rfl rfl)
theorem dX1_usher_56 : decode cX1_usher 56 = .ok (.goto 104, 3) := dk_167 0 104 (dk_at dksX1_usher_2 8 rfl rfl)
theorem dX1_usher_59 : decode cX1_usher 59 = .ok (.aload_n 0, 1) := dk_42 (dk_at dksX1_usher_2 11 rfl rfl)
theorem dX1_usher_60 : decode cX1_usher 60 = .ok (.aload_n 2, 1) := dk_44 (dk_at dksX1_usher_2 12 rfl rfl)
theorem dX1_usher_61 : decode cX1_usher 61 = .ok (.iload 4, 2) := dk_21 4 (dk_at dksX1_usher_2 13 rfl rfl)
theorem dX1_usher_63 : decode cX1_usher 63 = .ok (.iload 5, 2) := dk_21 5 (dk_at dksX1_usher_2 15 rfl rfl)
theorem dX1_usher_65 : decode cX1_usher 65 = .ok (.invokevirtual 332, 3) := dk_182 1 76 (dk_at dksX1_usher_2 17 rfl rfl)
theorem dX1_usher_68 : decode cX1_usher 68 = .ok (.istore 6, 2) := dk_54 6 (dk_at dksX1_usher_2 20 rfl rfl)
theorem dX1_usher_70 : decode cX1_usher 70 = .ok (.iconst 0, 1) := dk_3 (dk_at dksX1_usher_2 22 rfl rfl)
theorem dX1_usher_71 : decode cX1_usher 71 = .ok (.istore 7, 2) := dk_54 7 (dk_at dksX1_usher_3 0 rfl rfl)
theorem dX1_usher_73 : decode cX1_usher 73 = .ok (.iconst 0, 1) := dk_3 (dk_at dksX1_usher_3 2 rfl rfl)
theorem dX1_usher_74 : decode cX1_usher 74 = .ok (.istore 8, 2) := dk_54 8 (dk_at dksX1_usher_3 3 rfl rfl)
theorem dX1_usher_76 : decode cX1_usher 76 = .ok (.iload 8, 2) := dk_21 8 (dk_at dksX1_usher_3 5 rfl rfl)
theorem dX1_usher_78 : decode cX1_usher 78 = .ok (.aload_n 0, 1) := dk_42 (dk_at dksX1_usher_3 7 rfl rfl)
theorem dX1_usher_79 : decode cX1_usher 79 = .ok (.getfield 19, 3) := dk_180 0 19 (dk_at dksX1_usher_3 8 rfl rfl)
theorem dX1_usher_82 : decode cX1_usher 82 = .ok (.getfield 85, 3) := dk_180 0 85 (dk_at dksX1_usher_3 11 rfl rfl)
theorem dX1_usher_85 : decode cX1_usher 85 = .ok (.if_icmp .gt 62, 3) := dk_163 0 62 (dk_at dksX1_usher_3 14 rfl rfl)
theorem dX1_usher_88 : decode cX1_usher 88 = .ok (.iload 7, 2) := dk_21 7 (dk_at dksX1_usher_3 17 rfl rfl)
theorem dX1_usher_90 : decode cX1_usher 90 = .ok (.ifCond .ne 57, 3) := dk_154 0 57 (dk_at dksX1_usher_3 19 rfl rfl)
theorem dX1_usher_93 : decode cX1_usher 93 = .ok (.aload_n 0, 1) := dk_42 (dk_at dksX1_usher_3 22 rfl rfl)
theorem dX1_usher_94 : decode cX1_usher 94 = .ok (.iload 8, 2) := dk_21 8 (dk_at dksX1_usher_4 0 rfl rfl)
theorem dX1_usher_96 : decode cX1_usher 96 = .ok (.invokevirtual 328, 3) := dk_182 1 72 (dk_at dksX1_usher_4 2 rfl rfl)
theorem dX1_usher_99 : decode cX1_usher 99 = .ok (.ifCond .eq 39, 3) := dk_153 0 39 (dk_at dksX1_usher_4 5 rfl rfl)
theorem dX1_usher_102 : decode cX1_usher 102 = .ok (.iload 6, 2) := dk_21 6 (dk_at dksX1_usher_4 8 rfl rfl)
theorem dX1_usher_104 : decode cX1_usher 104 = .ok (.ifCond .eq 18, 3) := dk_153 0 18 (dk_at dksX1_usher_4 10 rfl rfl)
theorem dX1_usher_107 : decode cX1_usher 107 = .ok (.aload_n 0, 1) := dk_42 (dk_at dksX1_usher_4 13 rfl rfl)
theorem dX1_usher_108 : decode cX1_usher 108 = .ok (.aload_n 2, 1) := dk_44 (dk_at dksX1_usher_4 14 rfl rfl)
theorem dX1_usher_109 : decode cX1_usher 109 = .ok (.iload 4, 2) := dk_21 4 (dk_at dksX1_usher_4 15 rfl rfl)
theorem dX1_usher_111 : decode cX1_usher 111 = .ok (.iload 8, 2) := dk_21 8 (dk_at dksX1_usher_4 17 rfl rfl)
theorem dX1_usher_113 : decode cX1_usher 113 = .ok (.invokevirtual 332, 3) := dk_182 1 76 (dk_at dksX1_usher_4 19 rfl rfl)
theorem dX1_usher_116 : decode cX1_usher 116 = .ok (.ifCond .ne 22, 3) := dk_154 0 22 (dk_at dksX1_usher_5 0 rfl rfl)
theorem dX1_usher_119 : decode cX1_usher 119 = .ok (.goto 15, 3) := dk_167 0 15 (dk_at dksX1_usher_5 3 rfl rfl)
theorem dX1_usher_122 : decode cX1_usher 122 = .ok (.aload_n 0, 1) := dk_42 (dk_at dksX1_usher_5 6 rfl rfl)
theorem dX1_usher_123 : decode cX1_usher 123 = .ok (.aload_n 2, 1) := dk_44 (dk_at dksX1_usher_5 7 rfl rfl)
theorem dX1_usher_124 : decode cX1_usher 124 = .ok (.iload 8, 2) := dk_21 8 (dk_at dksX1_usher_5 8 rfl rfl)
theorem dX1_usher_126 : decode cX1_usher 126 = .ok (.iload 5, 2) := dk_21 5 (dk_at dksX1_usher_5 10 rfl rfl)
theorem dX1_usher_128 : decode cX1_usher 128 = .ok (.invokevirtual 332, 3) := dk_182 1 76 (dk_at dksX1_usher_5 12 rfl rfl)
theorem dX1_usher_131 : decode cX1_usher 131 = .ok (.ifCond .eq 7, 3) := dk_153 0 7 (dk_at dksX1_usher_5 15 rfl rfl)
theorem dX1_usher_134 : decode cX1_usher 134 = .ok (.iconst 1, 1) := dk_4 (dk_at dksX1_usher_5 18 rfl rfl)
theorem dX1_usher_135 : decode cX1_usher 135 = .ok (.goto 4, 3) := dk_167 0 4 (dk_at dksX1_usher_5 19 rfl rfl)
theorem dX1_usher_138 : decode cX1_usher 138 = .ok (.iconst 0, 1) := dk_3 (dk_at dksX1_usher_5 22 rfl rfl)
theorem dX1_usher_139 : decode cX1_usher 139 = .ok (.istore 7, 2) := dk_54 7 (dk_at dksX1_usher_6 0 rfl rfl)
theorem dX1_usher_141 : decode cX1_usher 141 = .ok (.iinc 8 1, 3) := dk_132 8 1 (dk_at dksX1_usher_6 2 rfl rfl)
theorem dX1_usher_144 : decode cX1_usher 144 = .ok (.goto (-68), 3) := dk_167 255 188 (dk_at dksX1_usher_6 5 rfl rfl)
theorem dX1_usher_147 : decode cX1_usher 147 = .ok (.iload_n 3, 1) := dk_29 (dk_at dksX1_usher_6 8 rfl rfl)
theorem dX1_usher_148 : decode cX1_usher 148 = .ok (.iload 7, 2) := dk_21 7 (dk_at dksX1_usher_6 9 rfl rfl)
theorem dX1_usher_150 : decode cX1_usher 150 = .ok (.ifCond .eq 7, 3) := dk_153 0 7 (dk_at dksX1_usher_6 11 rfl rfl)
theorem dX1_usher_153 : decode cX1_usher 153 = .ok (.iconst 0, 1) := dk_3 (dk_at dksX1_usher_6 14 rfl rfl)
theorem dX1_usher_154 : decode cX1_usher 154 = .ok (.goto 4, 3) := dk_167 0 4 (dk_at dksX1_usher_6 15 rfl rfl)
theorem dX1_usher_157 : decode cX1_usher 157 = .ok (.iconst 1, 1) := dk_4 (dk_at dksX1_usher_6 18 rfl rfl)
theorem dX1_usher_158 : decode cX1_usher 158 = .ok (.iadd, 1) := dk_96 (dk_at dksX1_usher_6 19 rfl rfl)
theorem dX1_usher_159 : decode cX1_usher 159 = .ok (.istore_n 3, 1) := dk_62 (dk_at dksX1_usher_6 20 rfl rfl)
theorem dX1_usher_160 : decode cX1_usher 160 = .ok (.iinc 5 1, 3) := dk_132 5 1 (dk_at dksX1_usher_6 21 rfl rfl)
theorem dX1_usher_163 : decode cX1_usher 163 = .ok (.goto (-137), 3) := dk_167 255 119 (dk_at dksX1_usher_7 0 rfl rfl)
theorem dX1_usher_166 : decode cX1_usher 166 = .ok (.iinc 4 1, 3) := dk_132 4 1 (dk_at dksX1_usher_7 3 rfl rfl)
theorem dX1_usher_169 : decode cX1_usher 169 = .ok (.goto (-158), 3) := dk_167 255 98 (dk_at dksX1_usher_7 6 rfl rfl)
theorem dX1_usher_172 : decode cX1_usher 172 = .ok (.iload_n 3, 1) := dk_29 (dk_at dksX1_usher_7 9 rfl rfl)
theorem dX1_usher_173 : decode cX1_usher 173 = .ok (.ireturn, 1) := dk_172 (dk_at dksX1_usher_7 10 rfl rfl)
abbrev cX1_isChoice : ByteArray := prog_1_method_60_code
def yX1_isChoice : MethodName := ⟨RX1, "isChoice", "(I)Z"⟩
def dkwX1_isChoice_1 : List UInt8 := [159, 0, 7, 4, 167, 0, 4, 3, 172]
abbrev dktX1_isChoice_1 : List UInt8 := dkwX1_isChoice_1 ++ []
def dkwX1_isChoice_0 : List UInt8 := [27, 42, 180, 0, 19, 180, 0, 85, 159, 0, 19, 42, 180, 0, 19, 180, 0, 96, 27, 50, 180, 0, 182, 2]
abbrev dktX1_isChoice_0 : List UInt8 := dkwX1_isChoice_0 ++ dktX1_isChoice_1
theorem dksX1_isChoice_0 : cX1_isChoice.data.toList.drop 0 = dktX1_isChoice_0 := by decide +kernel
theorem dksX1_isChoice_1 : cX1_isChoice.data.toList.drop 24 = dktX1_isChoice_1 := dk_seg dksX1_isChoice_0 24 rfl rfl
theorem dX1_isChoice_0 : decode cX1_isChoice 0 = .ok (.iload_n 1, 1) := dk_27 (dk_at dksX1_isChoice_0 0 rfl rfl)
theorem dX1_isChoice_1 : decode cX1_isChoice 1 = .ok (.aload_n 0, 1) := dk_42 (dk_at dksX1_isChoice_0 1 rfl rfl)
theorem dX1_isChoice_2 : decode cX1_isChoice 2 = .ok (.getfield 19, 3) := dk_180 0 19 (dk_at dksX1_isChoice_0 2 rfl rfl)
theorem dX1_isChoice_5 : decode cX1_isChoice 5 = .ok (.getfield 85, 3) := dk_180 0 85 (dk_at dksX1_isChoice_0 5 rfl rfl)
theorem dX1_isChoice_8 : decode cX1_isChoice 8 = .ok (.if_icmp .eq 19, 3) := dk_159 0 19 (dk_at dksX1_isChoice_0 8 rfl rfl)
theorem dX1_isChoice_11 : decode cX1_isChoice 11 = .ok (.aload_n 0, 1) := dk_42 (dk_at dksX1_isChoice_0 11 rfl rfl)
theorem dX1_isChoice_12 : decode cX1_isChoice 12 = .ok (.getfield 19, 3) := dk_180 0 19 (dk_at dksX1_isChoice_0 12 rfl rfl)
theorem dX1_isChoice_15 : decode cX1_isChoice 15 = .ok (.getfield 96, 3) := dk_180 0 96 (dk_at dksX1_isChoice_0 15 rfl rfl)
theorem dX1_isChoice_18 : decode cX1_isChoice 18 = .ok (.iload_n 1, 1) := dk_27 (dk_at dksX1_isChoice_0 18 rfl rfl)
theorem dX1_isChoice_19 : decode cX1_isChoice 19 = .ok (.aaload, 1) := dk_50 (dk_at dksX1_isChoice_0 19 rfl rfl)
theorem dX1_isChoice_20 : decode cX1_isChoice 20 = .ok (.getfield 182, 3) := dk_180 0 182 (dk_at dksX1_isChoice_0 20 rfl rfl)
theorem dX1_isChoice_23 : decode cX1_isChoice 23 = .ok (.iconst (-1), 1) := dk_2 (dk_at dksX1_isChoice_0 23 rfl rfl)
theorem dX1_isChoice_24 : decode cX1_isChoice 24 = .ok (.if_icmp .eq 7, 3) := dk_159 0 7 (dk_at dksX1_isChoice_1 0 rfl rfl)
theorem dX1_isChoice_27 : decode cX1_isChoice 27 = .ok (.iconst 1, 1) := dk_4 (dk_at dksX1_isChoice_1 3 rfl rfl)
theorem dX1_isChoice_28 : decode cX1_isChoice 28 = .ok (.goto 4, 3) := dk_167 0 4 (dk_at dksX1_isChoice_1 4 rfl rfl)
theorem dX1_isChoice_31 : decode cX1_isChoice 31 = .ok (.iconst 0, 1) := dk_3 (dk_at dksX1_isChoice_1 7 rfl rfl)
theorem dX1_isChoice_32 : decode cX1_isChoice 32 = .ok (.ireturn, 1) := dk_172 (dk_at dksX1_isChoice_1 8 rfl rfl)
abbrev cX1_screamsBy : ByteArray := prog_1_method_59_code
def yX1_screamsBy : MethodName := ⟨RX1, "screamsBy", "(LGhostAssize$One;II)Z"⟩
def dkwX1_screamsBy_4 : List UInt8 := [180, 0, 220, 2, 159, 0, 7, 4, 167, 0, 4, 3, 172]
abbrev dktX1_screamsBy_4 : List UInt8 := dkwX1_screamsBy_4 ++ []
def dkwX1_screamsBy_3 : List UInt8 := [42, 2, 181, 0, 67, 21, 4, 2, 159, 0, 14, 42, 180, 0, 19, 180, 0, 188, 21, 4, 28, 79, 42]
abbrev dktX1_screamsBy_3 : List UInt8 := dkwX1_screamsBy_3 ++ dktX1_screamsBy_4
def dkwX1_screamsBy_2 : List UInt8 := [42, 180, 0, 19, 180, 0, 85, 160, 0, 7, 2, 167, 0, 4, 29, 181, 0, 67, 42, 43, 3, 182, 0, 248]
abbrev dktX1_screamsBy_2 : List UInt8 := dkwX1_screamsBy_2 ++ dktX1_screamsBy_3
def dkwX1_screamsBy_1 : List UInt8 := [180, 0, 182, 54, 4, 21, 4, 2, 159, 0, 14, 42, 180, 0, 19, 180, 0, 188, 21, 4, 2, 79, 42, 29]
abbrev dktX1_screamsBy_1 : List UInt8 := dkwX1_screamsBy_1 ++ dktX1_screamsBy_2
def dkwX1_screamsBy_0 : List UInt8 := [28, 42, 180, 0, 19, 180, 0, 85, 160, 0, 7, 2, 167, 0, 15, 42, 180, 0, 19, 180, 0, 96, 28, 50]
abbrev dktX1_screamsBy_0 : List UInt8 := dkwX1_screamsBy_0 ++ dktX1_screamsBy_1
theorem dksX1_screamsBy_0 : cX1_screamsBy.data.toList.drop 0 = dktX1_screamsBy_0 := by decide +kernel
theorem dksX1_screamsBy_1 : cX1_screamsBy.data.toList.drop 24 = dktX1_screamsBy_1 := dk_seg dksX1_screamsBy_0 24 rfl rfl
theorem dksX1_screamsBy_2 : cX1_screamsBy.data.toList.drop 48 = dktX1_screamsBy_2 := dk_seg dksX1_screamsBy_1 24 rfl rfl
theorem dksX1_screamsBy_3 : cX1_screamsBy.data.toList.drop 72 = dktX1_screamsBy_3 := dk_seg dksX1_screamsBy_2 24 rfl rfl
theorem dksX1_screamsBy_4 : cX1_screamsBy.data.toList.drop 95 = dktX1_screamsBy_4 := dk_seg dksX1_screamsBy_3 23 rfl rfl
theorem dX1_screamsBy_0 : decode cX1_screamsBy 0 = .ok (.iload_n 2, 1) := dk_28 (dk_at dksX1_screamsBy_0 0 rfl rfl)
theorem dX1_screamsBy_1 : decode cX1_screamsBy 1 = .ok (.aload_n 0, 1) := dk_42 (dk_at dksX1_screamsBy_0 1 rfl rfl)
theorem dX1_screamsBy_2 : decode cX1_screamsBy 2 = .ok (.getfield 19, 3) := dk_180 0 19 (dk_at dksX1_screamsBy_0 2 rfl rfl)
theorem dX1_screamsBy_5 : decode cX1_screamsBy 5 = .ok (.getfield 85, 3) := dk_180 0 85 (dk_at dksX1_screamsBy_0 5 rfl rfl)
theorem dX1_screamsBy_8 : decode cX1_screamsBy 8 = .ok (.if_icmp .ne 7, 3) := dk_160 0 7 (dk_at dksX1_screamsBy_0 8 rfl rfl)
theorem dX1_screamsBy_11 : decode cX1_screamsBy 11 = .ok (.iconst (-1), 1) := dk_2 (dk_at dksX1_screamsBy_0 11 rfl rfl)
theorem dX1_screamsBy_12 : decode cX1_screamsBy 12 = .ok (.goto 15, 3) := dk_167 0 15 (dk_at dksX1_screamsBy_0 12 rfl rfl)
theorem dX1_screamsBy_15 : decode cX1_screamsBy 15 = .ok (.aload_n 0, 1) := dk_42 (dk_at dksX1_screamsBy_0 15 rfl rfl)
theorem dX1_screamsBy_16 : decode cX1_screamsBy 16 = .ok (.getfield 19, 3) := dk_180 0 19 (dk_at dksX1_screamsBy_0 16 rfl rfl)
theorem dX1_screamsBy_19 : decode cX1_screamsBy 19 = .ok (.getfield 96, 3) := dk_180 0 96 (dk_at dksX1_screamsBy_0 19 rfl rfl)
theorem dX1_screamsBy_22 : decode cX1_screamsBy 22 = .ok (.iload_n 2, 1) := dk_28 (dk_at dksX1_screamsBy_0 22 rfl rfl)
theorem dX1_screamsBy_23 : decode cX1_screamsBy 23 = .ok (.aaload, 1) := dk_50 (dk_at dksX1_screamsBy_0 23 rfl rfl)
theorem dX1_screamsBy_24 : decode cX1_screamsBy 24 = .ok (.getfield 182, 3) := dk_180 0 182 (dk_at dksX1_screamsBy_1 0 rfl rfl)
theorem dX1_screamsBy_27 : decode cX1_screamsBy 27 = .ok (.istore 4, 2) := dk_54 4 (dk_at dksX1_screamsBy_1 3 rfl rfl)
theorem dX1_screamsBy_29 : decode cX1_screamsBy 29 = .ok (.iload 4, 2) := dk_21 4 (dk_at dksX1_screamsBy_1 5 rfl rfl)
theorem dX1_screamsBy_31 : decode cX1_screamsBy 31 = .ok (.iconst (-1), 1) := dk_2 (dk_at dksX1_screamsBy_1 7 rfl rfl)
theorem dX1_screamsBy_32 : decode cX1_screamsBy 32 = .ok (.if_icmp .eq 14, 3) := dk_159 0 14 (dk_at dksX1_screamsBy_1 8 rfl rfl)
theorem dX1_screamsBy_35 : decode cX1_screamsBy 35 = .ok (.aload_n 0, 1) := dk_42 (dk_at dksX1_screamsBy_1 11 rfl rfl)
theorem dX1_screamsBy_36 : decode cX1_screamsBy 36 = .ok (.getfield 19, 3) := dk_180 0 19 (dk_at dksX1_screamsBy_1 12 rfl rfl)
theorem dX1_screamsBy_39 : decode cX1_screamsBy 39 = .ok (.getfield 188, 3) := dk_180 0 188 (dk_at dksX1_screamsBy_1 15 rfl rfl)
theorem dX1_screamsBy_42 : decode cX1_screamsBy 42 = .ok (.iload 4, 2) := dk_21 4 (dk_at dksX1_screamsBy_1 18 rfl rfl)
theorem dX1_screamsBy_44 : decode cX1_screamsBy 44 = .ok (.iconst (-1), 1) := dk_2 (dk_at dksX1_screamsBy_1 20 rfl rfl)
theorem dX1_screamsBy_45 : decode cX1_screamsBy 45 = .ok (.iastore, 1) := dk_79 (dk_at dksX1_screamsBy_1 21 rfl rfl)
theorem dX1_screamsBy_46 : decode cX1_screamsBy 46 = .ok (.aload_n 0, 1) := dk_42 (dk_at dksX1_screamsBy_1 22 rfl rfl)
theorem dX1_screamsBy_47 : decode cX1_screamsBy 47 = .ok (.iload_n 3, 1) := dk_29 (dk_at dksX1_screamsBy_1 23 rfl rfl)
theorem dX1_screamsBy_48 : decode cX1_screamsBy 48 = .ok (.aload_n 0, 1) := dk_42 (dk_at dksX1_screamsBy_2 0 rfl rfl)
theorem dX1_screamsBy_49 : decode cX1_screamsBy 49 = .ok (.getfield 19, 3) := dk_180 0 19 (dk_at dksX1_screamsBy_2 1 rfl rfl)
theorem dX1_screamsBy_52 : decode cX1_screamsBy 52 = .ok (.getfield 85, 3) := dk_180 0 85 (dk_at dksX1_screamsBy_2 4 rfl rfl)
theorem dX1_screamsBy_55 : decode cX1_screamsBy 55 = .ok (.if_icmp .ne 7, 3) := dk_160 0 7 (dk_at dksX1_screamsBy_2 7 rfl rfl)
theorem dX1_screamsBy_58 : decode cX1_screamsBy 58 = .ok (.iconst (-1), 1) := dk_2 (dk_at dksX1_screamsBy_2 10 rfl rfl)
theorem dX1_screamsBy_59 : decode cX1_screamsBy 59 = .ok (.goto 4, 3) := dk_167 0 4 (dk_at dksX1_screamsBy_2 11 rfl rfl)
theorem dX1_screamsBy_62 : decode cX1_screamsBy 62 = .ok (.iload_n 3, 1) := dk_29 (dk_at dksX1_screamsBy_2 14 rfl rfl)
theorem dX1_screamsBy_63 : decode cX1_screamsBy 63 = .ok (.putfield 67, 3) := dk_181 0 67 (dk_at dksX1_screamsBy_2 15 rfl rfl)
theorem dX1_screamsBy_66 : decode cX1_screamsBy 66 = .ok (.aload_n 0, 1) := dk_42 (dk_at dksX1_screamsBy_2 18 rfl rfl)
theorem dX1_screamsBy_67 : decode cX1_screamsBy 67 = .ok (.aload_n 1, 1) := dk_43 (dk_at dksX1_screamsBy_2 19 rfl rfl)
theorem dX1_screamsBy_68 : decode cX1_screamsBy 68 = .ok (.iconst 0, 1) := dk_3 (dk_at dksX1_screamsBy_2 20 rfl rfl)
theorem dX1_screamsBy_69 : decode cX1_screamsBy 69 = .ok (.invokevirtual 248, 3) := dk_182 0 248 (dk_at dksX1_screamsBy_2 21 rfl rfl)
theorem dX1_screamsBy_72 : decode cX1_screamsBy 72 = .ok (.aload_n 0, 1) := dk_42 (dk_at dksX1_screamsBy_3 0 rfl rfl)
theorem dX1_screamsBy_73 : decode cX1_screamsBy 73 = .ok (.iconst (-1), 1) := dk_2 (dk_at dksX1_screamsBy_3 1 rfl rfl)
theorem dX1_screamsBy_74 : decode cX1_screamsBy 74 = .ok (.putfield 67, 3) := dk_181 0 67 (dk_at dksX1_screamsBy_3 2 rfl rfl)
theorem dX1_screamsBy_77 : decode cX1_screamsBy 77 = .ok (.iload 4, 2) := dk_21 4 (dk_at dksX1_screamsBy_3 5 rfl rfl)
theorem dX1_screamsBy_79 : decode cX1_screamsBy 79 = .ok (.iconst (-1), 1) := dk_2 (dk_at dksX1_screamsBy_3 7 rfl rfl)
theorem dX1_screamsBy_80 : decode cX1_screamsBy 80 = .ok (.if_icmp .eq 14, 3) := dk_159 0 14 (dk_at dksX1_screamsBy_3 8 rfl rfl)
theorem dX1_screamsBy_83 : decode cX1_screamsBy 83 = .ok (.aload_n 0, 1) := dk_42 (dk_at dksX1_screamsBy_3 11 rfl rfl)
theorem dX1_screamsBy_84 : decode cX1_screamsBy 84 = .ok (.getfield 19, 3) := dk_180 0 19 (dk_at dksX1_screamsBy_3 12 rfl rfl)
theorem dX1_screamsBy_87 : decode cX1_screamsBy 87 = .ok (.getfield 188, 3) := dk_180 0 188 (dk_at dksX1_screamsBy_3 15 rfl rfl)
theorem dX1_screamsBy_90 : decode cX1_screamsBy 90 = .ok (.iload 4, 2) := dk_21 4 (dk_at dksX1_screamsBy_3 18 rfl rfl)
theorem dX1_screamsBy_92 : decode cX1_screamsBy 92 = .ok (.iload_n 2, 1) := dk_28 (dk_at dksX1_screamsBy_3 20 rfl rfl)
theorem dX1_screamsBy_93 : decode cX1_screamsBy 93 = .ok (.iastore, 1) := dk_79 (dk_at dksX1_screamsBy_3 21 rfl rfl)
theorem dX1_screamsBy_94 : decode cX1_screamsBy 94 = .ok (.aload_n 0, 1) := dk_42 (dk_at dksX1_screamsBy_3 22 rfl rfl)
theorem dX1_screamsBy_95 : decode cX1_screamsBy 95 = .ok (.getfield 220, 3) := dk_180 0 220 (dk_at dksX1_screamsBy_4 0 rfl rfl)
theorem dX1_screamsBy_98 : decode cX1_screamsBy 98 = .ok (.iconst (-1), 1) := dk_2 (dk_at dksX1_screamsBy_4 3 rfl rfl)
theorem dX1_screamsBy_99 : decode cX1_screamsBy 99 = .ok (.if_icmp .eq 7, 3) := dk_159 0 7 (dk_at dksX1_screamsBy_4 4 rfl rfl)
theorem dX1_screamsBy_102 : decode cX1_screamsBy 102 = .ok (.iconst 1, 1) := dk_4 (dk_at dksX1_screamsBy_4 7 rfl rfl)
theorem dX1_screamsBy_103 : decode cX1_screamsBy 103 = .ok (.goto 4, 3) := dk_167 0 4 (dk_at dksX1_screamsBy_4 8 rfl rfl)
theorem dX1_screamsBy_106 : decode cX1_screamsBy 106 = .ok (.iconst 0, 1) := dk_3 (dk_at dksX1_screamsBy_4 11 rfl rfl)
theorem dX1_screamsBy_107 : decode cX1_screamsBy 107 = .ok (.ireturn, 1) := dk_172 (dk_at dksX1_screamsBy_4 12 rfl rfl)
abbrev cX1_lasts : ByteArray := prog_1_method_62_code
def yX1_lasts : MethodName := ⟨RX1, "lasts", "(II)I"⟩
def dkwX1_lasts_4 : List UInt8 := [180, 0, 19, 42, 180, 0, 26, 182, 0, 141, 21, 4, 172]
abbrev dktX1_lasts_4 : List UInt8 := dkwX1_lasts_4 ++ []
def dkwX1_lasts_3 : List UInt8 := [182, 0, 252, 45, 89, 180, 0, 201, 42, 180, 0, 217, 128, 181, 0, 201, 132, 5, 1, 167, 255, 196, 42]
abbrev dktX1_lasts_3 : List UInt8 := dkwX1_lasts_3 ++ dktX1_lasts_4
def dkwX1_lasts_2 : List UInt8 := [180, 0, 96, 27, 50, 180, 0, 179, 16, 50, 161, 0, 7, 21, 5, 54, 4, 42, 45, 3, 182, 0, 248, 42]
abbrev dktX1_lasts_2 : List UInt8 := dkwX1_lasts_2 ++ dktX1_lasts_3
def dkwX1_lasts_1 : List UInt8 := [54, 4, 3, 54, 5, 21, 5, 16, 60, 163, 0, 59, 21, 4, 2, 160, 0, 53, 42, 180, 0, 19]
abbrev dktX1_lasts_1 : List UInt8 := dkwX1_lasts_1 ++ dktX1_lasts_2
def dkwX1_lasts_0 : List UInt8 := [42, 27, 182, 0, 167, 87, 42, 28, 182, 0, 191, 78, 42, 180, 0, 26, 42, 180, 0, 19, 182, 0, 141, 2]
abbrev dktX1_lasts_0 : List UInt8 := dkwX1_lasts_0 ++ dktX1_lasts_1
theorem dksX1_lasts_0 : cX1_lasts.data.toList.drop 0 = dktX1_lasts_0 := by decide +kernel
theorem dksX1_lasts_1 : cX1_lasts.data.toList.drop 24 = dktX1_lasts_1 := dk_seg dksX1_lasts_0 24 rfl rfl
theorem dksX1_lasts_2 : cX1_lasts.data.toList.drop 46 = dktX1_lasts_2 := dk_seg dksX1_lasts_1 22 rfl rfl
theorem dksX1_lasts_3 : cX1_lasts.data.toList.drop 70 = dktX1_lasts_3 := dk_seg dksX1_lasts_2 24 rfl rfl
theorem dksX1_lasts_4 : cX1_lasts.data.toList.drop 93 = dktX1_lasts_4 := dk_seg dksX1_lasts_3 23 rfl rfl
theorem dX1_lasts_0 : decode cX1_lasts 0 = .ok (.aload_n 0, 1) := dk_42 (dk_at dksX1_lasts_0 0 rfl rfl)
theorem dX1_lasts_1 : decode cX1_lasts 1 = .ok (.iload_n 1, 1) := dk_27 (dk_at dksX1_lasts_0 1 rfl rfl)
theorem dX1_lasts_2 : decode cX1_lasts 2 = .ok (.invokevirtual 167, 3) := dk_182 0 167 (dk_at dksX1_lasts_0 2 rfl rfl)
theorem dX1_lasts_5 : decode cX1_lasts 5 = .ok (.pop, 1) := dk_87 (dk_at dksX1_lasts_0 5 rfl rfl)
theorem dX1_lasts_6 : decode cX1_lasts 6 = .ok (.aload_n 0, 1) := dk_42 (dk_at dksX1_lasts_0 6 rfl rfl)
theorem dX1_lasts_7 : decode cX1_lasts 7 = .ok (.iload_n 2, 1) := dk_28 (dk_at dksX1_lasts_0 7 rfl rfl)
theorem dX1_lasts_8 : decode cX1_lasts 8 = .ok (.invokevirtual 191, 3) := dk_182 0 191 (dk_at dksX1_lasts_0 8 rfl rfl)
theorem dX1_lasts_11 : decode cX1_lasts 11 = .ok (.astore_n 3, 1) := dk_78 (dk_at dksX1_lasts_0 11 rfl rfl)
theorem dX1_lasts_12 : decode cX1_lasts 12 = .ok (.aload_n 0, 1) := dk_42 (dk_at dksX1_lasts_0 12 rfl rfl)
theorem dX1_lasts_13 : decode cX1_lasts 13 = .ok (.getfield 26, 3) := dk_180 0 26 (dk_at dksX1_lasts_0 13 rfl rfl)
theorem dX1_lasts_16 : decode cX1_lasts 16 = .ok (.aload_n 0, 1) := dk_42 (dk_at dksX1_lasts_0 16 rfl rfl)
theorem dX1_lasts_17 : decode cX1_lasts 17 = .ok (.getfield 19, 3) := dk_180 0 19 (dk_at dksX1_lasts_0 17 rfl rfl)
theorem dX1_lasts_20 : decode cX1_lasts 20 = .ok (.invokevirtual 141, 3) := dk_182 0 141 (dk_at dksX1_lasts_0 20 rfl rfl)
theorem dX1_lasts_23 : decode cX1_lasts 23 = .ok (.iconst (-1), 1) := dk_2 (dk_at dksX1_lasts_0 23 rfl rfl)
theorem dX1_lasts_24 : decode cX1_lasts 24 = .ok (.istore 4, 2) := dk_54 4 (dk_at dksX1_lasts_1 0 rfl rfl)
theorem dX1_lasts_26 : decode cX1_lasts 26 = .ok (.iconst 0, 1) := dk_3 (dk_at dksX1_lasts_1 2 rfl rfl)
theorem dX1_lasts_27 : decode cX1_lasts 27 = .ok (.istore 5, 2) := dk_54 5 (dk_at dksX1_lasts_1 3 rfl rfl)
theorem dX1_lasts_29 : decode cX1_lasts 29 = .ok (.iload 5, 2) := dk_21 5 (dk_at dksX1_lasts_1 5 rfl rfl)
theorem dX1_lasts_31 : decode cX1_lasts 31 = .ok (.bipush 60, 2) := dk_16 60 (dk_at dksX1_lasts_1 7 rfl rfl)
theorem dX1_lasts_33 : decode cX1_lasts 33 = .ok (.if_icmp .gt 59, 3) := dk_163 0 59 (dk_at dksX1_lasts_1 9 rfl rfl)
theorem dX1_lasts_36 : decode cX1_lasts 36 = .ok (.iload 4, 2) := dk_21 4 (dk_at dksX1_lasts_1 12 rfl rfl)
theorem dX1_lasts_38 : decode cX1_lasts 38 = .ok (.iconst (-1), 1) := dk_2 (dk_at dksX1_lasts_1 14 rfl rfl)
theorem dX1_lasts_39 : decode cX1_lasts 39 = .ok (.if_icmp .ne 53, 3) := dk_160 0 53 (dk_at dksX1_lasts_1 15 rfl rfl)
theorem dX1_lasts_42 : decode cX1_lasts 42 = .ok (.aload_n 0, 1) := dk_42 (dk_at dksX1_lasts_1 18 rfl rfl)
theorem dX1_lasts_43 : decode cX1_lasts 43 = .ok (.getfield 19, 3) := dk_180 0 19 (dk_at dksX1_lasts_1 19 rfl rfl)
theorem dX1_lasts_46 : decode cX1_lasts 46 = .ok (.getfield 96, 3) := dk_180 0 96 (dk_at dksX1_lasts_2 0 rfl rfl)
theorem dX1_lasts_49 : decode cX1_lasts 49 = .ok (.iload_n 1, 1) := dk_27 (dk_at dksX1_lasts_2 3 rfl rfl)
theorem dX1_lasts_50 : decode cX1_lasts 50 = .ok (.aaload, 1) := dk_50 (dk_at dksX1_lasts_2 4 rfl rfl)
theorem dX1_lasts_51 : decode cX1_lasts 51 = .ok (.getfield 179, 3) := dk_180 0 179 (dk_at dksX1_lasts_2 5 rfl rfl)
theorem dX1_lasts_54 : decode cX1_lasts 54 = .ok (.bipush 50, 2) := dk_16 50 (dk_at dksX1_lasts_2 8 rfl rfl)
theorem dX1_lasts_56 : decode cX1_lasts 56 = .ok (.if_icmp .lt 7, 3) := dk_161 0 7 (dk_at dksX1_lasts_2 10 rfl rfl)
theorem dX1_lasts_59 : decode cX1_lasts 59 = .ok (.iload 5, 2) := dk_21 5 (dk_at dksX1_lasts_2 13 rfl rfl)
theorem dX1_lasts_61 : decode cX1_lasts 61 = .ok (.istore 4, 2) := dk_54 4 (dk_at dksX1_lasts_2 15 rfl rfl)
theorem dX1_lasts_63 : decode cX1_lasts 63 = .ok (.aload_n 0, 1) := dk_42 (dk_at dksX1_lasts_2 17 rfl rfl)
theorem dX1_lasts_64 : decode cX1_lasts 64 = .ok (.aload_n 3, 1) := dk_45 (dk_at dksX1_lasts_2 18 rfl rfl)
theorem dX1_lasts_65 : decode cX1_lasts 65 = .ok (.iconst 0, 1) := dk_3 (dk_at dksX1_lasts_2 19 rfl rfl)
theorem dX1_lasts_66 : decode cX1_lasts 66 = .ok (.invokevirtual 248, 3) := dk_182 0 248 (dk_at dksX1_lasts_2 20 rfl rfl)
theorem dX1_lasts_69 : decode cX1_lasts 69 = .ok (.aload_n 0, 1) := dk_42 (dk_at dksX1_lasts_2 23 rfl rfl)
theorem dX1_lasts_70 : decode cX1_lasts 70 = .ok (.invokevirtual 252, 3) := dk_182 0 252 (dk_at dksX1_lasts_3 0 rfl rfl)
theorem dX1_lasts_73 : decode cX1_lasts 73 = .ok (.aload_n 3, 1) := dk_45 (dk_at dksX1_lasts_3 3 rfl rfl)
theorem dX1_lasts_74 : decode cX1_lasts 74 = .ok (.dup, 1) := dk_89 (dk_at dksX1_lasts_3 4 rfl rfl)
theorem dX1_lasts_75 : decode cX1_lasts 75 = .ok (.getfield 201, 3) := dk_180 0 201 (dk_at dksX1_lasts_3 5 rfl rfl)
theorem dX1_lasts_78 : decode cX1_lasts 78 = .ok (.aload_n 0, 1) := dk_42 (dk_at dksX1_lasts_3 8 rfl rfl)
theorem dX1_lasts_79 : decode cX1_lasts 79 = .ok (.getfield 217, 3) := dk_180 0 217 (dk_at dksX1_lasts_3 9 rfl rfl)
theorem dX1_lasts_82 : decode cX1_lasts 82 = .ok (.ior, 1) := dk_128 (dk_at dksX1_lasts_3 12 rfl rfl)
theorem dX1_lasts_83 : decode cX1_lasts 83 = .ok (.putfield 201, 3) := dk_181 0 201 (dk_at dksX1_lasts_3 13 rfl rfl)
theorem dX1_lasts_86 : decode cX1_lasts 86 = .ok (.iinc 5 1, 3) := dk_132 5 1 (dk_at dksX1_lasts_3 16 rfl rfl)
theorem dX1_lasts_89 : decode cX1_lasts 89 = .ok (.goto (-60), 3) := dk_167 255 196 (dk_at dksX1_lasts_3 19 rfl rfl)
theorem dX1_lasts_92 : decode cX1_lasts 92 = .ok (.aload_n 0, 1) := dk_42 (dk_at dksX1_lasts_3 22 rfl rfl)
theorem dX1_lasts_93 : decode cX1_lasts 93 = .ok (.getfield 19, 3) := dk_180 0 19 (dk_at dksX1_lasts_4 0 rfl rfl)
theorem dX1_lasts_96 : decode cX1_lasts 96 = .ok (.aload_n 0, 1) := dk_42 (dk_at dksX1_lasts_4 3 rfl rfl)
theorem dX1_lasts_97 : decode cX1_lasts 97 = .ok (.getfield 26, 3) := dk_180 0 26 (dk_at dksX1_lasts_4 4 rfl rfl)
theorem dX1_lasts_100 : decode cX1_lasts 100 = .ok (.invokevirtual 141, 3) := dk_182 0 141 (dk_at dksX1_lasts_4 7 rfl rfl)
theorem dX1_lasts_103 : decode cX1_lasts 103 = .ok (.iload 4, 2) := dk_21 4 (dk_at dksX1_lasts_4 10 rfl rfl)
theorem dX1_lasts_105 : decode cX1_lasts 105 = .ok (.ireturn, 1) := dk_172 (dk_at dksX1_lasts_4 12 rfl rfl)
abbrev cX1_share : ByteArray := prog_1_method_64_code
def yX1_share : MethodName := ⟨RX1, "share", "(II)I"⟩
def dkwX1_share_5 : List UInt8 := [16, 100, 21, 6, 104, 21, 5, 108, 172]
abbrev dktX1_share_5 : List UInt8 := dkwX1_share_5 ++ []
def dkwX1_share_4 : List UInt8 := [21, 4, 4, 182, 0, 226, 54, 4, 132, 7, 1, 167, 255, 176, 21, 5, 154, 0, 7, 3, 167, 0, 11]
abbrev dktX1_share_4 : List UInt8 := dkwX1_share_4 ++ dktX1_share_5
def dkwX1_share_3 : List UInt8 := [21, 7, 46, 27, 160, 0, 8, 21, 8, 167, 0, 4, 3, 96, 54, 6, 42, 180, 0, 19, 45, 21, 7]
abbrev dktX1_share_3 : List UInt8 := dkwX1_share_3 ++ dktX1_share_4
def dkwX1_share_2 : List UInt8 := [21, 4, 182, 0, 214, 54, 8, 21, 5, 21, 8, 96, 54, 5, 21, 6, 42, 180, 0, 19, 180, 0, 188]
abbrev dktX1_share_2 : List UInt8 := dkwX1_share_2 ++ dktX1_share_3
def dkwX1_share_1 : List UInt8 := [21, 7, 16, 10, 162, 0, 79, 21, 4, 45, 180, 0, 198, 163, 0, 70, 42, 180, 0, 19, 45, 21, 7]
abbrev dktX1_share_1 : List UInt8 := dkwX1_share_1 ++ dktX1_share_2
def dkwX1_share_0 : List UInt8 := [42, 27, 182, 0, 167, 87, 42, 28, 182, 0, 191, 78, 3, 54, 4, 3, 54, 5, 3, 54, 6, 3, 54, 7]
abbrev dktX1_share_0 : List UInt8 := dkwX1_share_0 ++ dktX1_share_1
theorem dksX1_share_0 : cX1_share.data.toList.drop 0 = dktX1_share_0 := by decide +kernel
theorem dksX1_share_1 : cX1_share.data.toList.drop 24 = dktX1_share_1 := dk_seg dksX1_share_0 24 rfl rfl
theorem dksX1_share_2 : cX1_share.data.toList.drop 47 = dktX1_share_2 := dk_seg dksX1_share_1 23 rfl rfl
theorem dksX1_share_3 : cX1_share.data.toList.drop 70 = dktX1_share_3 := dk_seg dksX1_share_2 23 rfl rfl
theorem dksX1_share_4 : cX1_share.data.toList.drop 93 = dktX1_share_4 := dk_seg dksX1_share_3 23 rfl rfl
theorem dksX1_share_5 : cX1_share.data.toList.drop 116 = dktX1_share_5 := dk_seg dksX1_share_4 23 rfl rfl
theorem dX1_share_0 : decode cX1_share 0 = .ok (.aload_n 0, 1) := dk_42 (dk_at dksX1_share_0 0 rfl rfl)
theorem dX1_share_1 : decode cX1_share 1 = .ok (.iload_n 1, 1) := dk_27 (dk_at dksX1_share_0 1 rfl rfl)
theorem dX1_share_2 : decode cX1_share 2 = .ok (.invokevirtual 167, 3) := dk_182 0 167 (dk_at dksX1_share_0 2 rfl rfl)
theorem dX1_share_5 : decode cX1_share 5 = .ok (.pop, 1) := dk_87 (dk_at dksX1_share_0 5 rfl rfl)
theorem dX1_share_6 : decode cX1_share 6 = .ok (.aload_n 0, 1) := dk_42 (dk_at dksX1_share_0 6 rfl rfl)
theorem dX1_share_7 : decode cX1_share 7 = .ok (.iload_n 2, 1) := dk_28 (dk_at dksX1_share_0 7 rfl rfl)
theorem dX1_share_8 : decode cX1_share 8 = .ok (.invokevirtual 191, 3) := dk_182 0 191 (dk_at dksX1_share_0 8 rfl rfl)
theorem dX1_share_11 : decode cX1_share 11 = .ok (.astore_n 3, 1) := dk_78 (dk_at dksX1_share_0 11 rfl rfl)
theorem dX1_share_12 : decode cX1_share 12 = .ok (.iconst 0, 1) := dk_3 (dk_at dksX1_share_0 12 rfl rfl)
theorem dX1_share_13 : decode cX1_share 13 = .ok (.istore 4, 2) := dk_54 4 (dk_at dksX1_share_0 13 rfl rfl)
theorem dX1_share_15 : decode cX1_share 15 = .ok (.iconst 0, 1) := dk_3 (dk_at dksX1_share_0 15 rfl rfl)
theorem dX1_share_16 : decode cX1_share 16 = .ok (.istore 5, 2) := dk_54 5 (dk_at dksX1_share_0 16 rfl rfl)
theorem dX1_share_18 : decode cX1_share 18 = .ok (.iconst 0, 1) := dk_3 (dk_at dksX1_share_0 18 rfl rfl)
theorem dX1_share_19 : decode cX1_share 19 = .ok (.istore 6, 2) := dk_54 6 (dk_at dksX1_share_0 19 rfl rfl)
theorem dX1_share_21 : decode cX1_share 21 = .ok (.iconst 0, 1) := dk_3 (dk_at dksX1_share_0 21 rfl rfl)
theorem dX1_share_22 : decode cX1_share 22 = .ok (.istore 7, 2) := dk_54 7 (dk_at dksX1_share_0 22 rfl rfl)
theorem dX1_share_24 : decode cX1_share 24 = .ok (.iload 7, 2) := dk_21 7 (dk_at dksX1_share_1 0 rfl rfl)
theorem dX1_share_26 : decode cX1_share 26 = .ok (.bipush 10, 2) := dk_16 10 (dk_at dksX1_share_1 2 rfl rfl)
theorem dX1_share_28 : decode cX1_share 28 = .ok (.if_icmp .ge 79, 3) := dk_162 0 79 (dk_at dksX1_share_1 4 rfl rfl)
theorem dX1_share_31 : decode cX1_share 31 = .ok (.iload 4, 2) := dk_21 4 (dk_at dksX1_share_1 7 rfl rfl)
theorem dX1_share_33 : decode cX1_share 33 = .ok (.aload_n 3, 1) := dk_45 (dk_at dksX1_share_1 9 rfl rfl)
theorem dX1_share_34 : decode cX1_share 34 = .ok (.getfield 198, 3) := dk_180 0 198 (dk_at dksX1_share_1 10 rfl rfl)
theorem dX1_share_37 : decode cX1_share 37 = .ok (.if_icmp .gt 70, 3) := dk_163 0 70 (dk_at dksX1_share_1 13 rfl rfl)
theorem dX1_share_40 : decode cX1_share 40 = .ok (.aload_n 0, 1) := dk_42 (dk_at dksX1_share_1 16 rfl rfl)
theorem dX1_share_41 : decode cX1_share 41 = .ok (.getfield 19, 3) := dk_180 0 19 (dk_at dksX1_share_1 17 rfl rfl)
theorem dX1_share_44 : decode cX1_share 44 = .ok (.aload_n 3, 1) := dk_45 (dk_at dksX1_share_1 20 rfl rfl)
theorem dX1_share_45 : decode cX1_share 45 = .ok (.iload 7, 2) := dk_21 7 (dk_at dksX1_share_1 21 rfl rfl)
theorem dX1_share_47 : decode cX1_share 47 = .ok (.iload 4, 2) := dk_21 4 (dk_at dksX1_share_2 0 rfl rfl)
theorem dX1_share_49 : decode cX1_share 49 = .ok (.invokevirtual 214, 3) := dk_182 0 214 (dk_at dksX1_share_2 2 rfl rfl)
theorem dX1_share_52 : decode cX1_share 52 = .ok (.istore 8, 2) := dk_54 8 (dk_at dksX1_share_2 5 rfl rfl)
theorem dX1_share_54 : decode cX1_share 54 = .ok (.iload 5, 2) := dk_21 5 (dk_at dksX1_share_2 7 rfl rfl)
theorem dX1_share_56 : decode cX1_share 56 = .ok (.iload 8, 2) := dk_21 8 (dk_at dksX1_share_2 9 rfl rfl)
theorem dX1_share_58 : decode cX1_share 58 = .ok (.iadd, 1) := dk_96 (dk_at dksX1_share_2 11 rfl rfl)
theorem dX1_share_59 : decode cX1_share 59 = .ok (.istore 5, 2) := dk_54 5 (dk_at dksX1_share_2 12 rfl rfl)
theorem dX1_share_61 : decode cX1_share 61 = .ok (.iload 6, 2) := dk_21 6 (dk_at dksX1_share_2 14 rfl rfl)
theorem dX1_share_63 : decode cX1_share 63 = .ok (.aload_n 0, 1) := dk_42 (dk_at dksX1_share_2 16 rfl rfl)
theorem dX1_share_64 : decode cX1_share 64 = .ok (.getfield 19, 3) := dk_180 0 19 (dk_at dksX1_share_2 17 rfl rfl)
theorem dX1_share_67 : decode cX1_share 67 = .ok (.getfield 188, 3) := dk_180 0 188 (dk_at dksX1_share_2 20 rfl rfl)
theorem dX1_share_70 : decode cX1_share 70 = .ok (.iload 7, 2) := dk_21 7 (dk_at dksX1_share_3 0 rfl rfl)
theorem dX1_share_72 : decode cX1_share 72 = .ok (.iaload, 1) := dk_46 (dk_at dksX1_share_3 2 rfl rfl)
theorem dX1_share_73 : decode cX1_share 73 = .ok (.iload_n 1, 1) := dk_27 (dk_at dksX1_share_3 3 rfl rfl)
theorem dX1_share_74 : decode cX1_share 74 = .ok (.if_icmp .ne 8, 3) := dk_160 0 8 (dk_at dksX1_share_3 4 rfl rfl)
theorem dX1_share_77 : decode cX1_share 77 = .ok (.iload 8, 2) := dk_21 8 (dk_at dksX1_share_3 7 rfl rfl)
theorem dX1_share_79 : decode cX1_share 79 = .ok (.goto 4, 3) := dk_167 0 4 (dk_at dksX1_share_3 9 rfl rfl)
theorem dX1_share_82 : decode cX1_share 82 = .ok (.iconst 0, 1) := dk_3 (dk_at dksX1_share_3 12 rfl rfl)
theorem dX1_share_83 : decode cX1_share 83 = .ok (.iadd, 1) := dk_96 (dk_at dksX1_share_3 13 rfl rfl)
theorem dX1_share_84 : decode cX1_share 84 = .ok (.istore 6, 2) := dk_54 6 (dk_at dksX1_share_3 14 rfl rfl)
theorem dX1_share_86 : decode cX1_share 86 = .ok (.aload_n 0, 1) := dk_42 (dk_at dksX1_share_3 16 rfl rfl)
theorem dX1_share_87 : decode cX1_share 87 = .ok (.getfield 19, 3) := dk_180 0 19 (dk_at dksX1_share_3 17 rfl rfl)
theorem dX1_share_90 : decode cX1_share 90 = .ok (.aload_n 3, 1) := dk_45 (dk_at dksX1_share_3 20 rfl rfl)
theorem dX1_share_91 : decode cX1_share 91 = .ok (.iload 7, 2) := dk_21 7 (dk_at dksX1_share_3 21 rfl rfl)
theorem dX1_share_93 : decode cX1_share 93 = .ok (.iload 4, 2) := dk_21 4 (dk_at dksX1_share_4 0 rfl rfl)
theorem dX1_share_95 : decode cX1_share 95 = .ok (.iconst 1, 1) := dk_4 (dk_at dksX1_share_4 2 rfl rfl)
theorem dX1_share_96 : decode cX1_share 96 = .ok (.invokevirtual 226, 3) := dk_182 0 226 (dk_at dksX1_share_4 3 rfl rfl)
theorem dX1_share_99 : decode cX1_share 99 = .ok (.istore 4, 2) := dk_54 4 (dk_at dksX1_share_4 6 rfl rfl)
theorem dX1_share_101 : decode cX1_share 101 = .ok (.iinc 7 1, 3) := dk_132 7 1 (dk_at dksX1_share_4 8 rfl rfl)
theorem dX1_share_104 : decode cX1_share 104 = .ok (.goto (-80), 3) := dk_167 255 176 (dk_at dksX1_share_4 11 rfl rfl)
theorem dX1_share_107 : decode cX1_share 107 = .ok (.iload 5, 2) := dk_21 5 (dk_at dksX1_share_4 14 rfl rfl)
theorem dX1_share_109 : decode cX1_share 109 = .ok (.ifCond .ne 7, 3) := dk_154 0 7 (dk_at dksX1_share_4 16 rfl rfl)
theorem dX1_share_112 : decode cX1_share 112 = .ok (.iconst 0, 1) := dk_3 (dk_at dksX1_share_4 19 rfl rfl)
theorem dX1_share_113 : decode cX1_share 113 = .ok (.goto 11, 3) := dk_167 0 11 (dk_at dksX1_share_4 20 rfl rfl)
theorem dX1_share_116 : decode cX1_share 116 = .ok (.bipush 100, 2) := dk_16 100 (dk_at dksX1_share_5 0 rfl rfl)
theorem dX1_share_118 : decode cX1_share 118 = .ok (.iload 6, 2) := dk_21 6 (dk_at dksX1_share_5 2 rfl rfl)
theorem dX1_share_120 : decode cX1_share 120 = .ok (.imul, 1) := dk_104 (dk_at dksX1_share_5 4 rfl rfl)
theorem dX1_share_121 : decode cX1_share 121 = .ok (.iload 5, 2) := dk_21 5 (dk_at dksX1_share_5 5 rfl rfl)
theorem dX1_share_123 : decode cX1_share 123 = .ok (.idiv, 1) := dk_108 (dk_at dksX1_share_5 7 rfl rfl)
theorem dX1_share_124 : decode cX1_share 124 = .ok (.ireturn, 1) := dk_172 (dk_at dksX1_share_5 8 rfl rfl)
abbrev cX1_trial : ByteArray := prog_1_method_68_code
def yX1_trial : MethodName := ⟨RX1, "trial", "(I)I"⟩
def dkwX1_trial_1 : List UInt8 := [42, 180, 0, 19, 28, 181, 1, 83, 29, 172]
abbrev dktX1_trial_1 : List UInt8 := dkwX1_trial_1 ++ []
def dkwX1_trial_0 : List UInt8 := [27, 3, 16, 20, 184, 0, 88, 184, 0, 207, 42, 180, 0, 19, 180, 1, 83, 61, 42, 27, 182, 1, 86, 62]
abbrev dktX1_trial_0 : List UInt8 := dkwX1_trial_0 ++ dktX1_trial_1
theorem dksX1_trial_0 : cX1_trial.data.toList.drop 0 = dktX1_trial_0 := by decide +kernel
theorem dksX1_trial_1 : cX1_trial.data.toList.drop 24 = dktX1_trial_1 := dk_seg dksX1_trial_0 24 rfl rfl
theorem dX1_trial_0 : decode cX1_trial 0 = .ok (.iload_n 1, 1) := dk_27 (dk_at dksX1_trial_0 0 rfl rfl)
theorem dX1_trial_1 : decode cX1_trial 1 = .ok (.iconst 0, 1) := dk_3 (dk_at dksX1_trial_0 1 rfl rfl)
theorem dX1_trial_2 : decode cX1_trial 2 = .ok (.bipush 20, 2) := dk_16 20 (dk_at dksX1_trial_0 2 rfl rfl)
theorem dX1_trial_4 : decode cX1_trial 4 = .ok (.invokestatic 88, 3) := dk_184 0 88 (dk_at dksX1_trial_0 4 rfl rfl)
theorem dX1_trial_7 : decode cX1_trial 7 = .ok (.invokestatic 207, 3) := dk_184 0 207 (dk_at dksX1_trial_0 7 rfl rfl)
theorem dX1_trial_10 : decode cX1_trial 10 = .ok (.aload_n 0, 1) := dk_42 (dk_at dksX1_trial_0 10 rfl rfl)
theorem dX1_trial_11 : decode cX1_trial 11 = .ok (.getfield 19, 3) := dk_180 0 19 (dk_at dksX1_trial_0 11 rfl rfl)
theorem dX1_trial_14 : decode cX1_trial 14 = .ok (.getfield 339, 3) := dk_180 1 83 (dk_at dksX1_trial_0 14 rfl rfl)
theorem dX1_trial_17 : decode cX1_trial 17 = .ok (.istore_n 2, 1) := dk_61 (dk_at dksX1_trial_0 17 rfl rfl)
theorem dX1_trial_18 : decode cX1_trial 18 = .ok (.aload_n 0, 1) := dk_42 (dk_at dksX1_trial_0 18 rfl rfl)
theorem dX1_trial_19 : decode cX1_trial 19 = .ok (.iload_n 1, 1) := dk_27 (dk_at dksX1_trial_0 19 rfl rfl)
theorem dX1_trial_20 : decode cX1_trial 20 = .ok (.invokevirtual 342, 3) := dk_182 1 86 (dk_at dksX1_trial_0 20 rfl rfl)
theorem dX1_trial_23 : decode cX1_trial 23 = .ok (.istore_n 3, 1) := dk_62 (dk_at dksX1_trial_0 23 rfl rfl)
theorem dX1_trial_24 : decode cX1_trial 24 = .ok (.aload_n 0, 1) := dk_42 (dk_at dksX1_trial_1 0 rfl rfl)
theorem dX1_trial_25 : decode cX1_trial 25 = .ok (.getfield 19, 3) := dk_180 0 19 (dk_at dksX1_trial_1 1 rfl rfl)
theorem dX1_trial_28 : decode cX1_trial 28 = .ok (.iload_n 2, 1) := dk_28 (dk_at dksX1_trial_1 4 rfl rfl)
theorem dX1_trial_29 : decode cX1_trial 29 = .ok (.putfield 339, 3) := dk_181 1 83 (dk_at dksX1_trial_1 5 rfl rfl)
theorem dX1_trial_32 : decode cX1_trial 32 = .ok (.iload_n 3, 1) := dk_29 (dk_at dksX1_trial_1 8 rfl rfl)
theorem dX1_trial_33 : decode cX1_trial 33 = .ok (.ireturn, 1) := dk_172 (dk_at dksX1_trial_1 9 rfl rfl)
abbrev cX1_goOn : ByteArray := prog_1_method_67_code
def yX1_goOn : MethodName := ⟨RX1, "goOn", "(I)I"⟩
def dkwX1_goOn_3 : List UInt8 := [96, 61, 132, 4, 1, 167, 255, 191, 132, 3, 1, 167, 255, 177, 28, 172]
abbrev dktX1_goOn_3 : List UInt8 := dkwX1_goOn_3 ++ []
def dkwX1_goOn_2 : List UInt8 := [180, 0, 103, 21, 4, 50, 4, 182, 0, 248, 28, 42, 180, 0, 220, 2, 159, 0, 7, 4, 167, 0, 4, 3]
abbrev dktX1_goOn_2 : List UInt8 := dkwX1_goOn_2 ++ dktX1_goOn_3
def dkwX1_goOn_1 : List UInt8 := [42, 180, 0, 19, 180, 0, 103, 21, 4, 50, 180, 0, 204, 153, 0, 6, 167, 0, 34, 42, 42, 180, 0, 19]
abbrev dktX1_goOn_1 : List UInt8 := dkwX1_goOn_1 ++ dktX1_goOn_2
def dkwX1_goOn_0 : List UInt8 := [3, 61, 3, 62, 29, 27, 162, 0, 80, 3, 54, 4, 21, 4, 42, 180, 0, 19, 180, 0, 100, 162, 0, 59]
abbrev dktX1_goOn_0 : List UInt8 := dkwX1_goOn_0 ++ dktX1_goOn_1
theorem dksX1_goOn_0 : cX1_goOn.data.toList.drop 0 = dktX1_goOn_0 := by decide +kernel
theorem dksX1_goOn_1 : cX1_goOn.data.toList.drop 24 = dktX1_goOn_1 := dk_seg dksX1_goOn_0 24 rfl rfl
theorem dksX1_goOn_2 : cX1_goOn.data.toList.drop 48 = dktX1_goOn_2 := dk_seg dksX1_goOn_1 24 rfl rfl
theorem dksX1_goOn_3 : cX1_goOn.data.toList.drop 72 = dktX1_goOn_3 := dk_seg dksX1_goOn_2 24 rfl rfl
theorem dX1_goOn_0 : decode cX1_goOn 0 = .ok (.iconst 0, 1) := dk_3 (dk_at dksX1_goOn_0 0 rfl rfl)
theorem dX1_goOn_1 : decode cX1_goOn 1 = .ok (.istore_n 2, 1) := dk_61 (dk_at dksX1_goOn_0 1 rfl rfl)
theorem dX1_goOn_2 : decode cX1_goOn 2 = .ok (.iconst 0, 1) := dk_3 (dk_at dksX1_goOn_0 2 rfl rfl)
theorem dX1_goOn_3 : decode cX1_goOn 3 = .ok (.istore_n 3, 1) := dk_62 (dk_at dksX1_goOn_0 3 rfl rfl)
theorem dX1_goOn_4 : decode cX1_goOn 4 = .ok (.iload_n 3, 1) := dk_29 (dk_at dksX1_goOn_0 4 rfl rfl)
theorem dX1_goOn_5 : decode cX1_goOn 5 = .ok (.iload_n 1, 1) := dk_27 (dk_at dksX1_goOn_0 5 rfl rfl)
theorem dX1_goOn_6 : decode cX1_goOn 6 = .ok (.if_icmp .ge 80, 3) := dk_162 0 80 (dk_at dksX1_goOn_0 6 rfl rfl)
theorem dX1_goOn_9 : decode cX1_goOn 9 = .ok (.iconst 0, 1) := dk_3 (dk_at dksX1_goOn_0 9 rfl rfl)
theorem dX1_goOn_10 : decode cX1_goOn 10 = .ok (.istore 4, 2) := dk_54 4 (dk_at dksX1_goOn_0 10 rfl rfl)
theorem dX1_goOn_12 : decode cX1_goOn 12 = .ok (.iload 4, 2) := dk_21 4 (dk_at dksX1_goOn_0 12 rfl rfl)
theorem dX1_goOn_14 : decode cX1_goOn 14 = .ok (.aload_n 0, 1) := dk_42 (dk_at dksX1_goOn_0 14 rfl rfl)
theorem dX1_goOn_15 : decode cX1_goOn 15 = .ok (.getfield 19, 3) := dk_180 0 19 (dk_at dksX1_goOn_0 15 rfl rfl)
theorem dX1_goOn_18 : decode cX1_goOn 18 = .ok (.getfield 100, 3) := dk_180 0 100 (dk_at dksX1_goOn_0 18 rfl rfl)
theorem dX1_goOn_21 : decode cX1_goOn 21 = .ok (.if_icmp .ge 59, 3) := dk_162 0 59 (dk_at dksX1_goOn_0 21 rfl rfl)
theorem dX1_goOn_24 : decode cX1_goOn 24 = .ok (.aload_n 0, 1) := dk_42 (dk_at dksX1_goOn_1 0 rfl rfl)
theorem dX1_goOn_25 : decode cX1_goOn 25 = .ok (.getfield 19, 3) := dk_180 0 19 (dk_at dksX1_goOn_1 1 rfl rfl)
theorem dX1_goOn_28 : decode cX1_goOn 28 = .ok (.getfield 103, 3) := dk_180 0 103 (dk_at dksX1_goOn_1 4 rfl rfl)
theorem dX1_goOn_31 : decode cX1_goOn 31 = .ok (.iload 4, 2) := dk_21 4 (dk_at dksX1_goOn_1 7 rfl rfl)
theorem dX1_goOn_33 : decode cX1_goOn 33 = .ok (.aaload, 1) := dk_50 (dk_at dksX1_goOn_1 9 rfl rfl)
theorem dX1_goOn_34 : decode cX1_goOn 34 = .ok (.getfield 204, 3) := dk_180 0 204 (dk_at dksX1_goOn_1 10 rfl rfl)
theorem dX1_goOn_37 : decode cX1_goOn 37 = .ok (.ifCond .eq 6, 3) := dk_153 0 6 (dk_at dksX1_goOn_1 13 rfl rfl)
theorem dX1_goOn_40 : decode cX1_goOn 40 = .ok (.goto 34, 3) := dk_167 0 34 (dk_at dksX1_goOn_1 16 rfl rfl)
theorem dX1_goOn_43 : decode cX1_goOn 43 = .ok (.aload_n 0, 1) := dk_42 (dk_at dksX1_goOn_1 19 rfl rfl)
theorem dX1_goOn_44 : decode cX1_goOn 44 = .ok (.aload_n 0, 1) := dk_42 (dk_at dksX1_goOn_1 20 rfl rfl)
theorem dX1_goOn_45 : decode cX1_goOn 45 = .ok (.getfield 19, 3) := dk_180 0 19 (dk_at dksX1_goOn_1 21 rfl rfl)
theorem dX1_goOn_48 : decode cX1_goOn 48 = .ok (.getfield 103, 3) := dk_180 0 103 (dk_at dksX1_goOn_2 0 rfl rfl)
theorem dX1_goOn_51 : decode cX1_goOn 51 = .ok (.iload 4, 2) := dk_21 4 (dk_at dksX1_goOn_2 3 rfl rfl)
theorem dX1_goOn_53 : decode cX1_goOn 53 = .ok (.aaload, 1) := dk_50 (dk_at dksX1_goOn_2 5 rfl rfl)
theorem dX1_goOn_54 : decode cX1_goOn 54 = .ok (.iconst 1, 1) := dk_4 (dk_at dksX1_goOn_2 6 rfl rfl)
theorem dX1_goOn_55 : decode cX1_goOn 55 = .ok (.invokevirtual 248, 3) := dk_182 0 248 (dk_at dksX1_goOn_2 7 rfl rfl)
theorem dX1_goOn_58 : decode cX1_goOn 58 = .ok (.iload_n 2, 1) := dk_28 (dk_at dksX1_goOn_2 10 rfl rfl)
theorem dX1_goOn_59 : decode cX1_goOn 59 = .ok (.aload_n 0, 1) := dk_42 (dk_at dksX1_goOn_2 11 rfl rfl)
theorem dX1_goOn_60 : decode cX1_goOn 60 = .ok (.getfield 220, 3) := dk_180 0 220 (dk_at dksX1_goOn_2 12 rfl rfl)
theorem dX1_goOn_63 : decode cX1_goOn 63 = .ok (.iconst (-1), 1) := dk_2 (dk_at dksX1_goOn_2 15 rfl rfl)
theorem dX1_goOn_64 : decode cX1_goOn 64 = .ok (.if_icmp .eq 7, 3) := dk_159 0 7 (dk_at dksX1_goOn_2 16 rfl rfl)
theorem dX1_goOn_67 : decode cX1_goOn 67 = .ok (.iconst 1, 1) := dk_4 (dk_at dksX1_goOn_2 19 rfl rfl)
theorem dX1_goOn_68 : decode cX1_goOn 68 = .ok (.goto 4, 3) := dk_167 0 4 (dk_at dksX1_goOn_2 20 rfl rfl)
theorem dX1_goOn_71 : decode cX1_goOn 71 = .ok (.iconst 0, 1) := dk_3 (dk_at dksX1_goOn_2 23 rfl rfl)
theorem dX1_goOn_72 : decode cX1_goOn 72 = .ok (.iadd, 1) := dk_96 (dk_at dksX1_goOn_3 0 rfl rfl)
theorem dX1_goOn_73 : decode cX1_goOn 73 = .ok (.istore_n 2, 1) := dk_61 (dk_at dksX1_goOn_3 1 rfl rfl)
theorem dX1_goOn_74 : decode cX1_goOn 74 = .ok (.iinc 4 1, 3) := dk_132 4 1 (dk_at dksX1_goOn_3 2 rfl rfl)
theorem dX1_goOn_77 : decode cX1_goOn 77 = .ok (.goto (-65), 3) := dk_167 255 191 (dk_at dksX1_goOn_3 5 rfl rfl)
theorem dX1_goOn_80 : decode cX1_goOn 80 = .ok (.iinc 3 1, 3) := dk_132 3 1 (dk_at dksX1_goOn_3 8 rfl rfl)
theorem dX1_goOn_83 : decode cX1_goOn 83 = .ok (.goto (-79), 3) := dk_167 255 177 (dk_at dksX1_goOn_3 11 rfl rfl)
theorem dX1_goOn_86 : decode cX1_goOn 86 = .ok (.iload_n 2, 1) := dk_28 (dk_at dksX1_goOn_3 14 rfl rfl)
theorem dX1_goOn_87 : decode cX1_goOn 87 = .ok (.ireturn, 1) := dk_172 (dk_at dksX1_goOn_3 15 rfl rfl)
abbrev cX1_span : ByteArray := prog_1_method_69_code
def yX1_span : MethodName := ⟨RX1, "span", "(IZ)I"⟩
def dkwX1_span_4 : List UInt8 := [21, 4, 172]
abbrev dktX1_span_4 : List UInt8 := dkwX1_span_4 ++ []
def dkwX1_span_3 : List UInt8 := [21, 4, 21, 6, 184, 0, 233, 54, 4, 132, 5, 1, 167, 255, 207, 42, 180, 0, 19, 29, 181, 1, 83]
abbrev dktX1_span_3 : List UInt8 := dkwX1_span_3 ++ dktX1_span_4
def dkwX1_span_2 : List UInt8 := [181, 1, 83, 42, 27, 182, 1, 86, 54, 6, 28, 153, 0, 13, 21, 4, 21, 6, 184, 1, 21, 167, 0, 10]
abbrev dktX1_span_2 : List UInt8 := dkwX1_span_2 ++ dktX1_span_3
def dkwX1_span_1 : List UInt8 := [167, 0, 6, 19, 1, 53, 54, 4, 4, 54, 5, 21, 5, 16, 6, 163, 0, 48, 42, 180, 0, 19, 21, 5]
abbrev dktX1_span_1 : List UInt8 := dkwX1_span_1 ++ dktX1_span_2
def dkwX1_span_0 : List UInt8 := [27, 3, 16, 20, 184, 0, 88, 184, 0, 207, 42, 180, 0, 19, 180, 1, 83, 62, 28, 153, 0, 7, 3]
abbrev dktX1_span_0 : List UInt8 := dkwX1_span_0 ++ dktX1_span_1
theorem dksX1_span_0 : cX1_span.data.toList.drop 0 = dktX1_span_0 := by decide +kernel
theorem dksX1_span_1 : cX1_span.data.toList.drop 23 = dktX1_span_1 := dk_seg dksX1_span_0 23 rfl rfl
theorem dksX1_span_2 : cX1_span.data.toList.drop 47 = dktX1_span_2 := dk_seg dksX1_span_1 24 rfl rfl
theorem dksX1_span_3 : cX1_span.data.toList.drop 71 = dktX1_span_3 := dk_seg dksX1_span_2 24 rfl rfl
theorem dksX1_span_4 : cX1_span.data.toList.drop 94 = dktX1_span_4 := dk_seg dksX1_span_3 23 rfl rfl
theorem dX1_span_0 : decode cX1_span 0 = .ok (.iload_n 1, 1) := dk_27 (dk_at dksX1_span_0 0 rfl rfl)
theorem dX1_span_1 : decode cX1_span 1 = .ok (.iconst 0, 1) := dk_3 (dk_at dksX1_span_0 1 rfl rfl)
theorem dX1_span_2 : decode cX1_span 2 = .ok (.bipush 20, 2) := dk_16 20 (dk_at dksX1_span_0 2 rfl rfl)
theorem dX1_span_4 : decode cX1_span 4 = .ok (.invokestatic 88, 3) := dk_184 0 88 (dk_at dksX1_span_0 4 rfl rfl)
theorem dX1_span_7 : decode cX1_span 7 = .ok (.invokestatic 207, 3) := dk_184 0 207 (dk_at dksX1_span_0 7 rfl rfl)
theorem dX1_span_10 : decode cX1_span 10 = .ok (.aload_n 0, 1) := dk_42 (dk_at dksX1_span_0 10 rfl rfl)
theorem dX1_span_11 : decode cX1_span 11 = .ok (.getfield 19, 3) := dk_180 0 19 (dk_at dksX1_span_0 11 rfl rfl)
theorem dX1_span_14 : decode cX1_span 14 = .ok (.getfield 339, 3) := dk_180 1 83 (dk_at dksX1_span_0 14 rfl rfl)
theorem dX1_span_17 : decode cX1_span 17 = .ok (.istore_n 3, 1) := dk_62 (dk_at dksX1_span_0 17 rfl rfl)
theorem dX1_span_18 : decode cX1_span 18 = .ok (.iload_n 2, 1) := dk_28 (dk_at dksX1_span_0 18 rfl rfl)
theorem dX1_span_19 : decode cX1_span 19 = .ok (.ifCond .eq 7, 3) := dk_153 0 7 (dk_at dksX1_span_0 19 rfl rfl)
theorem dX1_span_22 : decode cX1_span 22 = .ok (.iconst 0, 1) := dk_3 (dk_at dksX1_span_0 22 rfl rfl)
theorem dX1_span_23 : decode cX1_span 23 = .ok (.goto 6, 3) := dk_167 0 6 (dk_at dksX1_span_1 0 rfl rfl)
theorem dX1_span_26 : decode cX1_span 26 = .ok (.ldc_w 309, 3) := dk_19 1 53 (dk_at dksX1_span_1 3 rfl rfl)
theorem dX1_span_29 : decode cX1_span 29 = .ok (.istore 4, 2) := dk_54 4 (dk_at dksX1_span_1 6 rfl rfl)
theorem dX1_span_31 : decode cX1_span 31 = .ok (.iconst 1, 1) := dk_4 (dk_at dksX1_span_1 8 rfl rfl)
theorem dX1_span_32 : decode cX1_span 32 = .ok (.istore 5, 2) := dk_54 5 (dk_at dksX1_span_1 9 rfl rfl)
theorem dX1_span_34 : decode cX1_span 34 = .ok (.iload 5, 2) := dk_21 5 (dk_at dksX1_span_1 11 rfl rfl)
theorem dX1_span_36 : decode cX1_span 36 = .ok (.bipush 6, 2) := dk_16 6 (dk_at dksX1_span_1 13 rfl rfl)
theorem dX1_span_38 : decode cX1_span 38 = .ok (.if_icmp .gt 48, 3) := dk_163 0 48 (dk_at dksX1_span_1 15 rfl rfl)
theorem dX1_span_41 : decode cX1_span 41 = .ok (.aload_n 0, 1) := dk_42 (dk_at dksX1_span_1 18 rfl rfl)
theorem dX1_span_42 : decode cX1_span 42 = .ok (.getfield 19, 3) := dk_180 0 19 (dk_at dksX1_span_1 19 rfl rfl)
theorem dX1_span_45 : decode cX1_span 45 = .ok (.iload 5, 2) := dk_21 5 (dk_at dksX1_span_1 22 rfl rfl)
theorem dX1_span_47 : decode cX1_span 47 = .ok (.putfield 339, 3) := dk_181 1 83 (dk_at dksX1_span_2 0 rfl rfl)
theorem dX1_span_50 : decode cX1_span 50 = .ok (.aload_n 0, 1) := dk_42 (dk_at dksX1_span_2 3 rfl rfl)
theorem dX1_span_51 : decode cX1_span 51 = .ok (.iload_n 1, 1) := dk_27 (dk_at dksX1_span_2 4 rfl rfl)
theorem dX1_span_52 : decode cX1_span 52 = .ok (.invokevirtual 342, 3) := dk_182 1 86 (dk_at dksX1_span_2 5 rfl rfl)
theorem dX1_span_55 : decode cX1_span 55 = .ok (.istore 6, 2) := dk_54 6 (dk_at dksX1_span_2 8 rfl rfl)
theorem dX1_span_57 : decode cX1_span 57 = .ok (.iload_n 2, 1) := dk_28 (dk_at dksX1_span_2 10 rfl rfl)
theorem dX1_span_58 : decode cX1_span 58 = .ok (.ifCond .eq 13, 3) := dk_153 0 13 (dk_at dksX1_span_2 11 rfl rfl)
theorem dX1_span_61 : decode cX1_span 61 = .ok (.iload 4, 2) := dk_21 4 (dk_at dksX1_span_2 14 rfl rfl)
theorem dX1_span_63 : decode cX1_span 63 = .ok (.iload 6, 2) := dk_21 6 (dk_at dksX1_span_2 16 rfl rfl)
theorem dX1_span_65 : decode cX1_span 65 = .ok (.invokestatic 277, 3) := dk_184 1 21 (dk_at dksX1_span_2 18 rfl rfl)
theorem dX1_span_68 : decode cX1_span 68 = .ok (.goto 10, 3) := dk_167 0 10 (dk_at dksX1_span_2 21 rfl rfl)
theorem dX1_span_71 : decode cX1_span 71 = .ok (.iload 4, 2) := dk_21 4 (dk_at dksX1_span_3 0 rfl rfl)
theorem dX1_span_73 : decode cX1_span 73 = .ok (.iload 6, 2) := dk_21 6 (dk_at dksX1_span_3 2 rfl rfl)
theorem dX1_span_75 : decode cX1_span 75 = .ok (.invokestatic 233, 3) := dk_184 0 233 (dk_at dksX1_span_3 4 rfl rfl)
theorem dX1_span_78 : decode cX1_span 78 = .ok (.istore 4, 2) := dk_54 4 (dk_at dksX1_span_3 7 rfl rfl)
theorem dX1_span_80 : decode cX1_span 80 = .ok (.iinc 5 1, 3) := dk_132 5 1 (dk_at dksX1_span_3 9 rfl rfl)
theorem dX1_span_83 : decode cX1_span 83 = .ok (.goto (-49), 3) := dk_167 255 207 (dk_at dksX1_span_3 12 rfl rfl)
theorem dX1_span_86 : decode cX1_span 86 = .ok (.aload_n 0, 1) := dk_42 (dk_at dksX1_span_3 15 rfl rfl)
theorem dX1_span_87 : decode cX1_span 87 = .ok (.getfield 19, 3) := dk_180 0 19 (dk_at dksX1_span_3 16 rfl rfl)
theorem dX1_span_90 : decode cX1_span 90 = .ok (.iload_n 3, 1) := dk_29 (dk_at dksX1_span_3 19 rfl rfl)
theorem dX1_span_91 : decode cX1_span 91 = .ok (.putfield 339, 3) := dk_181 1 83 (dk_at dksX1_span_3 20 rfl rfl)
theorem dX1_span_94 : decode cX1_span 94 = .ok (.iload 4, 2) := dk_21 4 (dk_at dksX1_span_4 0 rfl rfl)
theorem dX1_span_96 : decode cX1_span 96 = .ok (.ireturn, 1) := dk_172 (dk_at dksX1_span_4 2 rfl rfl)
abbrev cX1_led : ByteArray := prog_1_method_70_code
def yX1_led : MethodName := ⟨RX1, "led", "(IZ)I"⟩
def dkwX1_led_2 : List UInt8 := [5, 182, 1, 92, 16, 10, 162, 0, 7, 4, 167, 0, 4, 3, 96, 62, 132, 4, 1, 167, 255, 200, 29, 172]
abbrev dktX1_led_2 : List UInt8 := dkwX1_led_2 ++ []
def dkwX1_led_1 : List UInt8 := [42, 180, 0, 19, 21, 4, 4, 182, 1, 92, 27, 160, 0, 26, 28, 153, 0, 18, 42, 180, 0, 19, 21, 4]
abbrev dktX1_led_1 : List UInt8 := dkwX1_led_1 ++ dktX1_led_2
def dkwX1_led_0 : List UInt8 := [42, 27, 182, 0, 191, 87, 3, 62, 3, 54, 4, 42, 180, 0, 19, 21, 4, 182, 1, 89, 153, 0, 50, 29]
abbrev dktX1_led_0 : List UInt8 := dkwX1_led_0 ++ dktX1_led_1
theorem dksX1_led_0 : cX1_led.data.toList.drop 0 = dktX1_led_0 := by decide +kernel
theorem dksX1_led_1 : cX1_led.data.toList.drop 24 = dktX1_led_1 := dk_seg dksX1_led_0 24 rfl rfl
theorem dksX1_led_2 : cX1_led.data.toList.drop 48 = dktX1_led_2 := dk_seg dksX1_led_1 24 rfl rfl
theorem dX1_led_0 : decode cX1_led 0 = .ok (.aload_n 0, 1) := dk_42 (dk_at dksX1_led_0 0 rfl rfl)
theorem dX1_led_1 : decode cX1_led 1 = .ok (.iload_n 1, 1) := dk_27 (dk_at dksX1_led_0 1 rfl rfl)
theorem dX1_led_2 : decode cX1_led 2 = .ok (.invokevirtual 191, 3) := dk_182 0 191 (dk_at dksX1_led_0 2 rfl rfl)
theorem dX1_led_5 : decode cX1_led 5 = .ok (.pop, 1) := dk_87 (dk_at dksX1_led_0 5 rfl rfl)
theorem dX1_led_6 : decode cX1_led 6 = .ok (.iconst 0, 1) := dk_3 (dk_at dksX1_led_0 6 rfl rfl)
theorem dX1_led_7 : decode cX1_led 7 = .ok (.istore_n 3, 1) := dk_62 (dk_at dksX1_led_0 7 rfl rfl)
theorem dX1_led_8 : decode cX1_led 8 = .ok (.iconst 0, 1) := dk_3 (dk_at dksX1_led_0 8 rfl rfl)
theorem dX1_led_9 : decode cX1_led 9 = .ok (.istore 4, 2) := dk_54 4 (dk_at dksX1_led_0 9 rfl rfl)
theorem dX1_led_11 : decode cX1_led 11 = .ok (.aload_n 0, 1) := dk_42 (dk_at dksX1_led_0 11 rfl rfl)
theorem dX1_led_12 : decode cX1_led 12 = .ok (.getfield 19, 3) := dk_180 0 19 (dk_at dksX1_led_0 12 rfl rfl)
theorem dX1_led_15 : decode cX1_led 15 = .ok (.iload 4, 2) := dk_21 4 (dk_at dksX1_led_0 15 rfl rfl)
theorem dX1_led_17 : decode cX1_led 17 = .ok (.invokevirtual 345, 3) := dk_182 1 89 (dk_at dksX1_led_0 17 rfl rfl)
theorem dX1_led_20 : decode cX1_led 20 = .ok (.ifCond .eq 50, 3) := dk_153 0 50 (dk_at dksX1_led_0 20 rfl rfl)
theorem dX1_led_23 : decode cX1_led 23 = .ok (.iload_n 3, 1) := dk_29 (dk_at dksX1_led_0 23 rfl rfl)
theorem dX1_led_24 : decode cX1_led 24 = .ok (.aload_n 0, 1) := dk_42 (dk_at dksX1_led_1 0 rfl rfl)
theorem dX1_led_25 : decode cX1_led 25 = .ok (.getfield 19, 3) := dk_180 0 19 (dk_at dksX1_led_1 1 rfl rfl)
theorem dX1_led_28 : decode cX1_led 28 = .ok (.iload 4, 2) := dk_21 4 (dk_at dksX1_led_1 4 rfl rfl)
theorem dX1_led_30 : decode cX1_led 30 = .ok (.iconst 1, 1) := dk_4 (dk_at dksX1_led_1 6 rfl rfl)
theorem dX1_led_31 : decode cX1_led 31 = .ok (.invokevirtual 348, 3) := dk_182 1 92 (dk_at dksX1_led_1 7 rfl rfl)
theorem dX1_led_34 : decode cX1_led 34 = .ok (.iload_n 1, 1) := dk_27 (dk_at dksX1_led_1 10 rfl rfl)
theorem dX1_led_35 : decode cX1_led 35 = .ok (.if_icmp .ne 26, 3) := dk_160 0 26 (dk_at dksX1_led_1 11 rfl rfl)
theorem dX1_led_38 : decode cX1_led 38 = .ok (.iload_n 2, 1) := dk_28 (dk_at dksX1_led_1 14 rfl rfl)
theorem dX1_led_39 : decode cX1_led 39 = .ok (.ifCond .eq 18, 3) := dk_153 0 18 (dk_at dksX1_led_1 15 rfl rfl)
theorem dX1_led_42 : decode cX1_led 42 = .ok (.aload_n 0, 1) := dk_42 (dk_at dksX1_led_1 18 rfl rfl)
theorem dX1_led_43 : decode cX1_led 43 = .ok (.getfield 19, 3) := dk_180 0 19 (dk_at dksX1_led_1 19 rfl rfl)
theorem dX1_led_46 : decode cX1_led 46 = .ok (.iload 4, 2) := dk_21 4 (dk_at dksX1_led_1 22 rfl rfl)
theorem dX1_led_48 : decode cX1_led 48 = .ok (.iconst 2, 1) := dk_5 (dk_at dksX1_led_2 0 rfl rfl)
theorem dX1_led_49 : decode cX1_led 49 = .ok (.invokevirtual 348, 3) := dk_182 1 92 (dk_at dksX1_led_2 1 rfl rfl)
theorem dX1_led_52 : decode cX1_led 52 = .ok (.bipush 10, 2) := dk_16 10 (dk_at dksX1_led_2 4 rfl rfl)
theorem dX1_led_54 : decode cX1_led 54 = .ok (.if_icmp .ge 7, 3) := dk_162 0 7 (dk_at dksX1_led_2 6 rfl rfl)
theorem dX1_led_57 : decode cX1_led 57 = .ok (.iconst 1, 1) := dk_4 (dk_at dksX1_led_2 9 rfl rfl)
theorem dX1_led_58 : decode cX1_led 58 = .ok (.goto 4, 3) := dk_167 0 4 (dk_at dksX1_led_2 10 rfl rfl)
theorem dX1_led_61 : decode cX1_led 61 = .ok (.iconst 0, 1) := dk_3 (dk_at dksX1_led_2 13 rfl rfl)
theorem dX1_led_62 : decode cX1_led 62 = .ok (.iadd, 1) := dk_96 (dk_at dksX1_led_2 14 rfl rfl)
theorem dX1_led_63 : decode cX1_led 63 = .ok (.istore_n 3, 1) := dk_62 (dk_at dksX1_led_2 15 rfl rfl)
theorem dX1_led_64 : decode cX1_led 64 = .ok (.iinc 4 1, 3) := dk_132 4 1 (dk_at dksX1_led_2 16 rfl rfl)
theorem dX1_led_67 : decode cX1_led 67 = .ok (.goto (-56), 3) := dk_167 255 200 (dk_at dksX1_led_2 19 rfl rfl)
theorem dX1_led_70 : decode cX1_led 70 = .ok (.iload_n 3, 1) := dk_29 (dk_at dksX1_led_2 22 rfl rfl)
theorem dX1_led_71 : decode cX1_led 71 = .ok (.ireturn, 1) := dk_172 (dk_at dksX1_led_2 23 rfl rfl)
abbrev cX1_log : ByteArray := prog_1_method_71_code
def yX1_log : MethodName := ⟨RX1, "log", "(II)I"⟩
def dkwX1_log_0 : List UInt8 := [28, 3, 6, 184, 0, 88, 184, 1, 94, 42, 180, 0, 19, 27, 28, 182, 1, 92, 172]
abbrev dktX1_log_0 : List UInt8 := dkwX1_log_0 ++ []
theorem dksX1_log_0 : cX1_log.data.toList.drop 0 = dktX1_log_0 := by decide +kernel
theorem dX1_log_0 : decode cX1_log 0 = .ok (.iload_n 2, 1) := dk_28 (dk_at dksX1_log_0 0 rfl rfl)
theorem dX1_log_1 : decode cX1_log 1 = .ok (.iconst 0, 1) := dk_3 (dk_at dksX1_log_0 1 rfl rfl)
theorem dX1_log_2 : decode cX1_log 2 = .ok (.iconst 3, 1) := dk_6 (dk_at dksX1_log_0 2 rfl rfl)
theorem dX1_log_3 : decode cX1_log 3 = .ok (.invokestatic 88, 3) := dk_184 0 88 (dk_at dksX1_log_0 3 rfl rfl)
theorem dX1_log_6 : decode cX1_log 6 = .ok (.invokestatic 350, 3) := dk_184 1 94 (dk_at dksX1_log_0 6 rfl rfl)
theorem dX1_log_9 : decode cX1_log 9 = .ok (.aload_n 0, 1) := dk_42 (dk_at dksX1_log_0 9 rfl rfl)
theorem dX1_log_10 : decode cX1_log 10 = .ok (.getfield 19, 3) := dk_180 0 19 (dk_at dksX1_log_0 10 rfl rfl)
theorem dX1_log_13 : decode cX1_log 13 = .ok (.iload_n 1, 1) := dk_27 (dk_at dksX1_log_0 13 rfl rfl)
theorem dX1_log_14 : decode cX1_log 14 = .ok (.iload_n 2, 1) := dk_28 (dk_at dksX1_log_0 14 rfl rfl)
theorem dX1_log_15 : decode cX1_log 15 = .ok (.invokevirtual 348, 3) := dk_182 1 92 (dk_at dksX1_log_0 15 rfl rfl)
theorem dX1_log_18 : decode cX1_log 18 = .ok (.ireturn, 1) := dk_172 (dk_at dksX1_log_0 18 rfl rfl)
abbrev cX1_thereIs : ByteArray := prog_1_method_5_code
def yX1_thereIs : MethodName := ⟨RX1, "thereIs", "(Z)V"⟩
def dkwX1_thereIs_0 : List UInt8 := [26, 154, 0, 11, 187, 0, 79, 89, 183, 0, 81, 191, 177]
abbrev dktX1_thereIs_0 : List UInt8 := dkwX1_thereIs_0 ++ []
theorem dksX1_thereIs_0 : cX1_thereIs.data.toList.drop 0 = dktX1_thereIs_0 := by decide +kernel
theorem dX1_thereIs_0 : decode cX1_thereIs 0 = .ok (.iload_n 0, 1) := dk_26 (dk_at dksX1_thereIs_0 0 rfl rfl)
theorem dX1_thereIs_1 : decode cX1_thereIs 1 = .ok (.ifCond .ne 11, 3) := dk_154 0 11 (dk_at dksX1_thereIs_0 1 rfl rfl)
theorem dX1_thereIs_4 : decode cX1_thereIs 4 = .ok (.new 79, 3) := dk_187 0 79 (dk_at dksX1_thereIs_0 4 rfl rfl)
theorem dX1_thereIs_7 : decode cX1_thereIs 7 = .ok (.dup, 1) := dk_89 (dk_at dksX1_thereIs_0 7 rfl rfl)
theorem dX1_thereIs_8 : decode cX1_thereIs 8 = .ok (.invokespecial 81, 3) := dk_183 0 81 (dk_at dksX1_thereIs_0 8 rfl rfl)
theorem dX1_thereIs_11 : decode cX1_thereIs 11 = .ok (.athrow, 1) := dk_191 (dk_at dksX1_thereIs_0 11 rfl rfl)
theorem dX1_thereIs_12 : decode cX1_thereIs 12 = .ok (.return_, 1) := dk_177 (dk_at dksX1_thereIs_0 12 rfl rfl)
theorem q121 : (Jvm.Cond.initialized "GhostAssize") ∈ lw_all := lw_g (lw_at lw_m1 1 rfl) rfl
theorem q154 : (Jvm.Cond.instantiable "GhostAssize" (19 : Nat)) ∈ lw_all := lw_g (lw_at lw_m1 34 rfl) rfl
theorem q156 : (Jvm.Cond.instanceMethod ({ cls := "GhostAssize", name := "<init>", desc := "()V" } : Jvm.MethodName)) ∈ lw_all := lw_g (lw_at lw_m1 36 rfl) rfl
theorem q157 : (Jvm.Cond.code ({ cls := "GhostAssize", name := "<init>", desc := "()V" } : Jvm.MethodName) prog_1_method_1_code (2 : Nat) (Option.none : Option Jvm.ClassFile.FieldType)) ∈ lw_all := lw_g (lw_at lw_m1 37 rfl) rfl
theorem q158 : (Jvm.Cond.methodLink "GhostAssize" (1 : Nat) ({ cls := "java/lang/Object", name := "<init>", desc := "()V" } : Jvm.MethodName)) ∈ lw_all := lw_g (lw_at lw_m1 38 rfl) rfl
theorem q161 : (Jvm.Cond.classLink "GhostAssize" (7 : Nat) "GhostAssize$Reader") ∈ lw_all := lw_g (lw_at lw_m1 41 rfl) rfl
theorem q163 : (Jvm.Cond.methodLinkNest "GhostAssize" (9 : Nat) ({ cls := "GhostAssize$Reader", name := "<init>", desc := "()V" } : Jvm.MethodName) "GhostAssize") ∈ lw_tbl := lw_at lw_m1 43 rfl
theorem q198 : (Jvm.Cond.fieldLinkNest "GhostAssize" (171 : Nat) "GhostAssize$Prop" "deed" "I" "GhostAssize") ∈ lw_tbl := lw_at lw_m1 78 rfl
theorem q202 : (Jvm.Cond.fieldLinkNest "GhostAssize" (176 : Nat) "GhostAssize$Prop" "jerk" "I" "GhostAssize") ∈ lw_tbl := lw_at lw_m1 82 rfl
theorem q206 : (Jvm.Cond.fieldLinkNest "GhostAssize" (179 : Nat) "GhostAssize$Prop" "worn" "I" "GhostAssize") ∈ lw_tbl := lw_at lw_m1 86 rfl
theorem q210 : (Jvm.Cond.fieldLinkNest "GhostAssize" (182 : Nat) "GhostAssize$Prop" "slot" "I" "GhostAssize") ∈ lw_tbl := lw_at lw_m1 90 rfl
theorem q230 : (Jvm.Cond.fieldLinkNest "GhostAssize" (195 : Nat) "GhostAssize$One" "deeds" "I" "GhostAssize") ∈ lw_tbl := lw_at lw_m1 110 rfl
theorem q235 : (Jvm.Cond.fieldLinkNest "GhostAssize" (198 : Nat) "GhostAssize$One" "nerve" "I" "GhostAssize") ∈ lw_tbl := lw_at lw_m1 115 rfl
theorem q239 : (Jvm.Cond.fieldLinkNest "GhostAssize" (201 : Nat) "GhostAssize$One" "knows" "I" "GhostAssize") ∈ lw_tbl := lw_at lw_m1 119 rfl
theorem q243 : (Jvm.Cond.fieldLinkNest "GhostAssize" (204 : Nat) "GhostAssize$One" "state" "I" "GhostAssize") ∈ lw_tbl := lw_at lw_m1 123 rfl
theorem q254 : (Jvm.Cond.fieldLinkNest "GhostAssize" (96 : Nat) "GhostAssize$State" "props" "[LGhostAssize$Prop;" "GhostAssize") ∈ lw_tbl := lw_at lw_m1 134 rfl
theorem q257 : (Jvm.Cond.fieldLinkNest "GhostAssize" (103 : Nat) "GhostAssize$State" "ones" "[LGhostAssize$One;" "GhostAssize") ∈ lw_tbl := lw_at lw_m1 137 rfl
theorem q260 : (Jvm.Cond.fieldLinkNest "GhostAssize" (159 : Nat) "GhostAssize$State" "law" "[LGhostAssize$Line;" "GhostAssize") ∈ lw_tbl := lw_at lw_m1 140 rfl
theorem q264 : (Jvm.Cond.fieldLinkNest "GhostAssize" (188 : Nat) "GhostAssize$State" "slots" "[I" "GhostAssize") ∈ lw_tbl := lw_at lw_m1 144 rfl
theorem q268 : (Jvm.Cond.fieldLinkNest "GhostAssize" (85 : Nat) "GhostAssize$State" "propMany" "I" "GhostAssize") ∈ lw_tbl := lw_at lw_m1 148 rfl
theorem q271 : (Jvm.Cond.fieldLinkNest "GhostAssize" (100 : Nat) "GhostAssize$State" "oneMany" "I" "GhostAssize") ∈ lw_tbl := lw_at lw_m1 151 rfl
theorem q274 : (Jvm.Cond.fieldLinkNest "GhostAssize" (152 : Nat) "GhostAssize$State" "lawMany" "I" "GhostAssize") ∈ lw_tbl := lw_at lw_m1 154 rfl
theorem q276 : (Jvm.Cond.fieldLinkNest "GhostAssize" (135 : Nat) "GhostAssize$State" "texts" "I" "GhostAssize") ∈ lw_tbl := lw_at lw_m1 156 rfl
theorem q279 : (Jvm.Cond.fieldLinkNest "GhostAssize" (280 : Nat) "GhostAssize$State" "day" "I" "GhostAssize") ∈ lw_tbl := lw_at lw_m1 159 rfl
theorem q282 : (Jvm.Cond.fieldLinkNest "GhostAssize" (274 : Nat) "GhostAssize$State" "calm" "I" "GhostAssize") ∈ lw_tbl := lw_at lw_m1 162 rfl
theorem q285 : (Jvm.Cond.fieldLinkNest "GhostAssize" (313 : Nat) "GhostAssize$State" "echo" "I" "GhostAssize") ∈ lw_tbl := lw_at lw_m1 165 rfl
theorem q287 : (Jvm.Cond.fieldLinkNest "GhostAssize" (339 : Nat) "GhostAssize$State" "seed" "I" "GhostAssize") ∈ lw_tbl := lw_at lw_m1 167 rfl
theorem q289 : (Jvm.Cond.fieldLinkNest "GhostAssize" (362 : Nat) "GhostAssize$State" "rowMany" "I" "GhostAssize") ∈ lw_tbl := lw_at lw_m1 169 rfl
theorem q379 : (Jvm.Cond.fieldLinkNest "GhostAssize" (118 : Nat) "GhostAssize$Wrong" "place" "I" "GhostAssize") ∈ lw_tbl := lw_at lw_m2 19 rfl
theorem q396 : (Jvm.Cond.fieldLinkNest "GhostAssize" (107 : Nat) "GhostAssize$Reader" "tape" "[B" "GhostAssize") ∈ lw_tbl := lw_at lw_m2 36 rfl
theorem q400 : (Jvm.Cond.fieldLinkNest "GhostAssize" (155 : Nat) "GhostAssize$Reader" "row" "[LGhostAssize$Line;" "GhostAssize") ∈ lw_tbl := lw_at lw_m2 40 rfl
theorem q403 : (Jvm.Cond.fieldLinkNest "GhostAssize" (111 : Nat) "GhostAssize$Reader" "size" "I" "GhostAssize") ∈ lw_tbl := lw_at lw_m2 43 rfl
theorem q428 : (Jvm.Cond.classLink "GhostAssize" (16 : Nat) "GhostAssize$State") ∈ lw_all := lw_g (lw_at lw_m2 68 rfl) rfl
theorem q429 : (Jvm.Cond.methodLink "GhostAssize" (18 : Nat) ({ cls := "GhostAssize$State", name := "<init>", desc := "()V" } : Jvm.MethodName)) ∈ lw_all := lw_g (lw_at lw_m2 69 rfl) rfl
theorem q431 : (Jvm.Cond.classLink "GhostAssize" (33 : Nat) "GhostAssize$Ways") ∈ lw_all := lw_g (lw_at lw_m2 71 rfl) rfl
theorem q433 : (Jvm.Cond.methodLinkNest "GhostAssize" (35 : Nat) ({ cls := "GhostAssize$Ways", name := "<init>", desc := "(LGhostAssize;)V" } : Jvm.MethodName) "GhostAssize") ∈ lw_tbl := lw_at lw_m2 73 rfl
theorem q440 : (Jvm.Cond.fieldLinkNest "GhostAssize" (290 : Nat) "GhostAssize$Ways" "at" "[I" "GhostAssize") ∈ lw_tbl := lw_at lw_m2 80 rfl
theorem q443 : (Jvm.Cond.fieldLinkNest "GhostAssize" (287 : Nat) "GhostAssize$Ways" "screams" "I" "GhostAssize") ∈ lw_tbl := lw_at lw_m2 83 rfl
theorem q458 : (Jvm.Cond.classLink "GhostAssize" (42 : Nat) "GhostAssize$One") ∈ lw_all := lw_g (lw_at lw_m2 98 rfl) rfl
theorem q459 : (Jvm.Cond.methodLinkNest "GhostAssize" (44 : Nat) ({ cls := "GhostAssize$One", name := "<init>", desc := "()V" } : Jvm.MethodName) "GhostAssize") ∈ lw_tbl := lw_at lw_m2 99 rfl
theorem q460 : (Jvm.Cond.fieldLink "GhostAssize" (10 : Nat) "GhostAssize" "reader" "LGhostAssize$Reader;") ∈ lw_all := lw_g (lw_at lw_m2 100 rfl) rfl
theorem q461 : (Jvm.Cond.fieldLink "GhostAssize" (19 : Nat) "GhostAssize" "now" "LGhostAssize$State;") ∈ lw_all := lw_g (lw_at lw_m2 101 rfl) rfl
theorem q463 : (Jvm.Cond.fieldLink "GhostAssize" (23 : Nat) "GhostAssize" "image" "LGhostAssize$State;") ∈ lw_all := lw_g (lw_at lw_m2 103 rfl) rfl
theorem q464 : (Jvm.Cond.fieldLink "GhostAssize" (26 : Nat) "GhostAssize" "put" "LGhostAssize$State;") ∈ lw_all := lw_g (lw_at lw_m2 104 rfl) rfl
theorem q465 : (Jvm.Cond.fieldLink "GhostAssize" (29 : Nat) "GhostAssize" "acts" "[LGhostAssize$State;") ∈ lw_all := lw_g (lw_at lw_m2 105 rfl) rfl
theorem q466 : (Jvm.Cond.fieldLink "GhostAssize" (38 : Nat) "GhostAssize" "ways" "LGhostAssize$Ways;") ∈ lw_all := lw_g (lw_at lw_m2 106 rfl) rfl
theorem q467 : (Jvm.Cond.fieldLink "GhostAssize" (45 : Nat) "GhostAssize" "stranger" "LGhostAssize$One;") ∈ lw_all := lw_g (lw_at lw_m2 107 rfl) rfl
theorem q468 : (Jvm.Cond.fieldLink "GhostAssize" (49 : Nat) "GhostAssize" "tenses" "[I") ∈ lw_all := lw_g (lw_at lw_m2 108 rfl) rfl
theorem q469 : (Jvm.Cond.fieldLink "GhostAssize" (53 : Nat) "GhostAssize" "wore" "[I") ∈ lw_all := lw_g (lw_at lw_m2 109 rfl) rfl
theorem q470 : (Jvm.Cond.fieldLink "GhostAssize" (56 : Nat) "GhostAssize" "felt" "[I") ∈ lw_all := lw_g (lw_at lw_m2 110 rfl) rfl
theorem q471 : (Jvm.Cond.fieldLink "GhostAssize" (59 : Nat) "GhostAssize" "fits" "[Z") ∈ lw_all := lw_g (lw_at lw_m2 111 rfl) rfl
theorem q472 : (Jvm.Cond.fieldLink "GhostAssize" (63 : Nat) "GhostAssize" "wrongAt" "I") ∈ lw_all := lw_g (lw_at lw_m2 112 rfl) rfl
theorem q473 : (Jvm.Cond.fieldLink "GhostAssize" (145 : Nat) "GhostAssize" "actMany" "I") ∈ lw_all := lw_g (lw_at lw_m2 113 rfl) rfl
theorem q474 : (Jvm.Cond.fieldLink "GhostAssize" (239 : Nat) "GhostAssize" "actAt" "I") ∈ lw_all := lw_g (lw_at lw_m2 114 rfl) rfl
theorem q475 : (Jvm.Cond.fieldLink "GhostAssize" (220 : Nat) "GhostAssize" "screamAt" "I") ∈ lw_all := lw_g (lw_at lw_m2 115 rfl) rfl
theorem q476 : (Jvm.Cond.fieldLink "GhostAssize" (230 : Nat) "GhostAssize" "tenseAt" "I") ∈ lw_all := lw_g (lw_at lw_m2 116 rfl) rfl
theorem q477 : (Jvm.Cond.fieldLink "GhostAssize" (217 : Nat) "GhostAssize" "cameTo" "I") ∈ lw_all := lw_g (lw_at lw_m2 117 rfl) rfl
theorem q478 : (Jvm.Cond.fieldLink "GhostAssize" (67 : Nat) "GhostAssize" "eased" "I") ∈ lw_all := lw_g (lw_at lw_m2 118 rfl) rfl
theorem q479 : (Jvm.Cond.fieldLink "GhostAssize" (353 : Nat) "GhostAssize" "kept" "Z") ∈ lw_all := lw_g (lw_at lw_m2 119 rfl) rfl
theorem q480 : (Jvm.Cond.laysFinal "GhostAssize" "GhostAssize" "reader" "LGhostAssize$Reader;") ∈ lw_all := lw_g (lw_at lw_m2 120 rfl) rfl
theorem q481 : (Jvm.Cond.soleField "GhostAssize" "reader") ∈ lw_all := lw_g (lw_at lw_m2 121 rfl) rfl
theorem q482 : (Jvm.Cond.laysFinal "GhostAssize" "GhostAssize" "now" "LGhostAssize$State;") ∈ lw_all := lw_g (lw_at lw_m2 122 rfl) rfl
theorem q483 : (Jvm.Cond.soleField "GhostAssize" "now") ∈ lw_all := lw_g (lw_at lw_m2 123 rfl) rfl
theorem q484 : (Jvm.Cond.laysFinal "GhostAssize" "GhostAssize" "image" "LGhostAssize$State;") ∈ lw_all := lw_g (lw_at lw_m2 124 rfl) rfl
theorem q485 : (Jvm.Cond.soleField "GhostAssize" "image") ∈ lw_all := lw_g (lw_at lw_m2 125 rfl) rfl
theorem q486 : (Jvm.Cond.laysFinal "GhostAssize" "GhostAssize" "put" "LGhostAssize$State;") ∈ lw_all := lw_g (lw_at lw_m2 126 rfl) rfl
theorem q487 : (Jvm.Cond.soleField "GhostAssize" "put") ∈ lw_all := lw_g (lw_at lw_m2 127 rfl) rfl
theorem q488 : (Jvm.Cond.laysFinal "GhostAssize" "GhostAssize" "acts" "[LGhostAssize$State;") ∈ lw_all := lw_g (lw_at lw_m2 128 rfl) rfl
theorem q489 : (Jvm.Cond.soleField "GhostAssize" "acts") ∈ lw_all := lw_g (lw_at lw_m2 129 rfl) rfl
theorem q490 : (Jvm.Cond.laysFinal "GhostAssize" "GhostAssize" "ways" "LGhostAssize$Ways;") ∈ lw_all := lw_g (lw_at lw_m2 130 rfl) rfl
theorem q491 : (Jvm.Cond.soleField "GhostAssize" "ways") ∈ lw_all := lw_g (lw_at lw_m2 131 rfl) rfl
theorem q492 : (Jvm.Cond.laysFinal "GhostAssize" "GhostAssize" "stranger" "LGhostAssize$One;") ∈ lw_all := lw_g (lw_at lw_m2 132 rfl) rfl
theorem q493 : (Jvm.Cond.soleField "GhostAssize" "stranger") ∈ lw_all := lw_g (lw_at lw_m2 133 rfl) rfl
theorem q494 : (Jvm.Cond.laysFinal "GhostAssize" "GhostAssize" "tenses" "[I") ∈ lw_all := lw_g (lw_at lw_m2 134 rfl) rfl
theorem q495 : (Jvm.Cond.soleField "GhostAssize" "tenses") ∈ lw_all := lw_g (lw_at lw_m2 135 rfl) rfl
theorem q496 : (Jvm.Cond.laysFinal "GhostAssize" "GhostAssize" "wore" "[I") ∈ lw_all := lw_g (lw_at lw_m2 136 rfl) rfl
theorem q497 : (Jvm.Cond.soleField "GhostAssize" "wore") ∈ lw_all := lw_g (lw_at lw_m2 137 rfl) rfl
theorem q498 : (Jvm.Cond.laysFinal "GhostAssize" "GhostAssize" "felt" "[I") ∈ lw_all := lw_g (lw_at lw_m2 138 rfl) rfl
theorem q499 : (Jvm.Cond.soleField "GhostAssize" "felt") ∈ lw_all := lw_g (lw_at lw_m2 139 rfl) rfl
theorem q500 : (Jvm.Cond.laysFinal "GhostAssize" "GhostAssize" "fits" "[Z") ∈ lw_all := lw_g (lw_at lw_m2 140 rfl) rfl
theorem q501 : (Jvm.Cond.soleField "GhostAssize" "fits") ∈ lw_all := lw_g (lw_at lw_m2 141 rfl) rfl
theorem q502 : (Jvm.Cond.lays "GhostAssize" "GhostAssize" "wrongAt" "I") ∈ lw_all := lw_g (lw_at lw_m2 142 rfl) rfl
theorem q503 : (Jvm.Cond.soleField "GhostAssize" "wrongAt") ∈ lw_all := lw_g (lw_at lw_m2 143 rfl) rfl
theorem q504 : (Jvm.Cond.lays "GhostAssize" "GhostAssize" "actMany" "I") ∈ lw_all := lw_g (lw_at lw_m2 144 rfl) rfl
theorem q505 : (Jvm.Cond.soleField "GhostAssize" "actMany") ∈ lw_all := lw_g (lw_at lw_m2 145 rfl) rfl
theorem q506 : (Jvm.Cond.lays "GhostAssize" "GhostAssize" "actAt" "I") ∈ lw_all := lw_g (lw_at lw_m2 146 rfl) rfl
theorem q507 : (Jvm.Cond.soleField "GhostAssize" "actAt") ∈ lw_all := lw_g (lw_at lw_m2 147 rfl) rfl
theorem q508 : (Jvm.Cond.lays "GhostAssize" "GhostAssize" "screamAt" "I") ∈ lw_all := lw_g (lw_at lw_m2 148 rfl) rfl
theorem q509 : (Jvm.Cond.soleField "GhostAssize" "screamAt") ∈ lw_all := lw_g (lw_at lw_m2 149 rfl) rfl
theorem q510 : (Jvm.Cond.lays "GhostAssize" "GhostAssize" "tenseAt" "I") ∈ lw_all := lw_g (lw_at lw_m2 150 rfl) rfl
theorem q511 : (Jvm.Cond.soleField "GhostAssize" "tenseAt") ∈ lw_all := lw_g (lw_at lw_m2 151 rfl) rfl
theorem q512 : (Jvm.Cond.lays "GhostAssize" "GhostAssize" "cameTo" "I") ∈ lw_all := lw_g (lw_at lw_m2 152 rfl) rfl
theorem q513 : (Jvm.Cond.soleField "GhostAssize" "cameTo") ∈ lw_all := lw_g (lw_at lw_m2 153 rfl) rfl
theorem q514 : (Jvm.Cond.lays "GhostAssize" "GhostAssize" "eased" "I") ∈ lw_all := lw_g (lw_at lw_m2 154 rfl) rfl
theorem q515 : (Jvm.Cond.soleField "GhostAssize" "eased") ∈ lw_all := lw_g (lw_at lw_m2 155 rfl) rfl
theorem q516 : (Jvm.Cond.lays "GhostAssize" "GhostAssize" "kept" "Z") ∈ lw_all := lw_g (lw_at lw_m2 156 rfl) rfl
theorem q517 : (Jvm.Cond.soleField "GhostAssize" "kept") ∈ lw_all := lw_g (lw_at lw_m2 157 rfl) rfl
theorem q518 : (Jvm.Cond.superclass "GhostAssize" "java/lang/Object") ∈ lw_all := lw_g (lw_at lw_m2 158 rfl) rfl
theorem q521 : (Jvm.Cond.instanceMethod ({ cls := "GhostAssize", name := "feed", desc := "(IIIII)I" } : Jvm.MethodName)) ∈ lw_all := lw_g (lw_at lw_m2 161 rfl) rfl
theorem q522 : (Jvm.Cond.selects "GhostAssize" ({ cls := "GhostAssize", name := "feed", desc := "(IIIII)I" } : Jvm.MethodName) ({ cls := "GhostAssize", name := "feed", desc := "(IIIII)I" } : Jvm.MethodName)) ∈ lw_all := lw_g (lw_at lw_m2 162 rfl) rfl
theorem q523 : (Jvm.Cond.code ({ cls := "GhostAssize", name := "feed", desc := "(IIIII)I" } : Jvm.MethodName) prog_1_method_12_code (6 : Nat) (Option.some Jvm.ClassFile.FieldType.int)) ∈ lw_all := lw_g (lw_at lw_m2 163 rfl) rfl
theorem q524 : (Jvm.Cond.methodLink "GhostAssize" (114 : Nat) ({ cls := "GhostAssize", name := "four", desc := "(I)V" } : Jvm.MethodName)) ∈ lw_all := lw_g (lw_at lw_m2 164 rfl) rfl
theorem q525 : (Jvm.Cond.privateMethod ({ cls := "GhostAssize", name := "four", desc := "(I)V" } : Jvm.MethodName)) ∈ lw_tbl := lw_at lw_m2 165 rfl
theorem q526 : (Jvm.Cond.instanceMethod ({ cls := "GhostAssize", name := "four", desc := "(I)V" } : Jvm.MethodName)) ∈ lw_all := lw_g (lw_at lw_m2 166 rfl) rfl
theorem q527 : (Jvm.Cond.code ({ cls := "GhostAssize", name := "four", desc := "(I)V" } : Jvm.MethodName) prog_1_method_11_code (3 : Nat) (Option.none : Option Jvm.ClassFile.FieldType)) ∈ lw_all := lw_g (lw_at lw_m2 167 rfl) rfl
theorem q529 : (Jvm.Cond.instanceMethod ({ cls := "GhostAssize", name := "end", desc := "(I)Z" } : Jvm.MethodName)) ∈ lw_all := lw_g (lw_at lw_m2 169 rfl) rfl
theorem q530 : (Jvm.Cond.selects "GhostAssize" ({ cls := "GhostAssize", name := "end", desc := "(I)Z" } : Jvm.MethodName) ({ cls := "GhostAssize", name := "end", desc := "(I)Z" } : Jvm.MethodName)) ∈ lw_all := lw_g (lw_at lw_m2 170 rfl) rfl
theorem q531 : (Jvm.Cond.code ({ cls := "GhostAssize", name := "end", desc := "(I)Z" } : Jvm.MethodName) prog_1_method_13_code (2 : Nat) (Option.some Jvm.ClassFile.FieldType.boolean)) ∈ lw_all := lw_g (lw_at lw_m2 171 rfl) rfl
theorem q532 : (Jvm.Cond.methodLink "GhostAssize" (88 : Nat) ({ cls := "GhostAssize", name := "isIn", desc := "(III)Z" } : Jvm.MethodName)) ∈ lw_all := lw_g (lw_at lw_m2 172 rfl) rfl
theorem q533 : (Jvm.Cond.static ({ cls := "GhostAssize", name := "isIn", desc := "(III)Z" } : Jvm.MethodName)) ∈ lw_all := lw_g (lw_at lw_m2 173 rfl) rfl
theorem q534 : (Jvm.Cond.code ({ cls := "GhostAssize", name := "isIn", desc := "(III)Z" } : Jvm.MethodName) prog_1_method_7_code (3 : Nat) (Option.some Jvm.ClassFile.FieldType.boolean)) ∈ lw_all := lw_g (lw_at lw_m2 174 rfl) rfl
theorem q536 : (Jvm.Cond.instanceMethod ({ cls := "GhostAssize", name := "fault", desc := "()I" } : Jvm.MethodName)) ∈ lw_all := lw_g (lw_at lw_m2 176 rfl) rfl
theorem q537 : (Jvm.Cond.selects "GhostAssize" ({ cls := "GhostAssize", name := "fault", desc := "()I" } : Jvm.MethodName) ({ cls := "GhostAssize", name := "fault", desc := "()I" } : Jvm.MethodName)) ∈ lw_all := lw_g (lw_at lw_m2 177 rfl) rfl
theorem q538 : (Jvm.Cond.code ({ cls := "GhostAssize", name := "fault", desc := "()I" } : Jvm.MethodName) prog_1_method_18_code (1 : Nat) (Option.some Jvm.ClassFile.FieldType.int)) ∈ lw_all := lw_g (lw_at lw_m2 178 rfl) rfl
theorem q540 : (Jvm.Cond.instanceMethod ({ cls := "GhostAssize", name := "gap", desc := "()I" } : Jvm.MethodName)) ∈ lw_all := lw_g (lw_at lw_m2 180 rfl) rfl
theorem q541 : (Jvm.Cond.selects "GhostAssize" ({ cls := "GhostAssize", name := "gap", desc := "()I" } : Jvm.MethodName) ({ cls := "GhostAssize", name := "gap", desc := "()I" } : Jvm.MethodName)) ∈ lw_all := lw_g (lw_at lw_m2 181 rfl) rfl
theorem q542 : (Jvm.Cond.code ({ cls := "GhostAssize", name := "gap", desc := "()I" } : Jvm.MethodName) prog_1_method_40_code (3 : Nat) (Option.some Jvm.ClassFile.FieldType.int)) ∈ lw_all := lw_g (lw_at lw_m2 182 rfl) rfl
theorem q543 : (Jvm.Cond.methodLink "GhostAssize" (296 : Nat) ({ cls := "GhostAssize", name := "oddsOf", desc := "(I)I" } : Jvm.MethodName)) ∈ lw_all := lw_g (lw_at lw_m2 183 rfl) rfl
theorem q544 : (Jvm.Cond.privateMethod ({ cls := "GhostAssize", name := "oddsOf", desc := "(I)I" } : Jvm.MethodName)) ∈ lw_tbl := lw_at lw_m2 184 rfl
theorem q545 : (Jvm.Cond.instanceMethod ({ cls := "GhostAssize", name := "oddsOf", desc := "(I)I" } : Jvm.MethodName)) ∈ lw_all := lw_g (lw_at lw_m2 185 rfl) rfl
theorem q546 : (Jvm.Cond.code ({ cls := "GhostAssize", name := "oddsOf", desc := "(I)I" } : Jvm.MethodName) prog_1_method_38_code (2 : Nat) (Option.some Jvm.ClassFile.FieldType.int)) ∈ lw_all := lw_g (lw_at lw_m2 186 rfl) rfl
theorem q547 : (Jvm.Cond.methodLink "GhostAssize" (283 : Nat) ({ cls := "GhostAssize$Ways", name := "counts", desc := "(LGhostAssize$One;)V" } : Jvm.MethodName)) ∈ lw_all := lw_g (lw_at lw_m2 187 rfl) rfl
theorem q627 : (Jvm.Cond.methodLink "GhostAssize" (293 : Nat) ({ cls := "GhostAssize$Ways", name := "odds", desc := "()I" } : Jvm.MethodName)) ∈ lw_all := lw_g (lw_at lw_m3 27 rfl) rfl
theorem q633 : (Jvm.Cond.instanceMethod ({ cls := "GhostAssize", name := "errors", desc := "(Z)I" } : Jvm.MethodName)) ∈ lw_all := lw_g (lw_at lw_m3 33 rfl) rfl
theorem q634 : (Jvm.Cond.selects "GhostAssize" ({ cls := "GhostAssize", name := "errors", desc := "(Z)I" } : Jvm.MethodName) ({ cls := "GhostAssize", name := "errors", desc := "(Z)I" } : Jvm.MethodName)) ∈ lw_all := lw_g (lw_at lw_m3 34 rfl) rfl
theorem q635 : (Jvm.Cond.code ({ cls := "GhostAssize", name := "errors", desc := "(Z)I" } : Jvm.MethodName) prog_1_method_41_code (4 : Nat) (Option.some Jvm.ClassFile.FieldType.int)) ∈ lw_all := lw_g (lw_at lw_m3 35 rfl) rfl
theorem q637 : (Jvm.Cond.instanceMethod ({ cls := "GhostAssize", name := "swap", desc := "()I" } : Jvm.MethodName)) ∈ lw_all := lw_g (lw_at lw_m3 37 rfl) rfl
theorem q638 : (Jvm.Cond.selects "GhostAssize" ({ cls := "GhostAssize", name := "swap", desc := "()I" } : Jvm.MethodName) ({ cls := "GhostAssize", name := "swap", desc := "()I" } : Jvm.MethodName)) ∈ lw_all := lw_g (lw_at lw_m3 38 rfl) rfl
theorem q639 : (Jvm.Cond.code ({ cls := "GhostAssize", name := "swap", desc := "()I" } : Jvm.MethodName) prog_1_method_43_code (6 : Nat) (Option.some Jvm.ClassFile.FieldType.int)) ∈ lw_all := lw_g (lw_at lw_m3 39 rfl) rfl
theorem q640 : (Jvm.Cond.methodLink "GhostAssize" (299 : Nat) ({ cls := "GhostAssize", name := "gap", desc := "()I" } : Jvm.MethodName)) ∈ lw_all := lw_g (lw_at lw_m3 40 rfl) rfl
theorem q641 : (Jvm.Cond.methodLink "GhostAssize" (302 : Nat) ({ cls := "GhostAssize", name := "changes", desc := "(II)V" } : Jvm.MethodName)) ∈ lw_all := lw_g (lw_at lw_m3 41 rfl) rfl
theorem q642 : (Jvm.Cond.privateMethod ({ cls := "GhostAssize", name := "changes", desc := "(II)V" } : Jvm.MethodName)) ∈ lw_tbl := lw_at lw_m3 42 rfl
theorem q643 : (Jvm.Cond.instanceMethod ({ cls := "GhostAssize", name := "changes", desc := "(II)V" } : Jvm.MethodName)) ∈ lw_all := lw_g (lw_at lw_m3 43 rfl) rfl
theorem q644 : (Jvm.Cond.code ({ cls := "GhostAssize", name := "changes", desc := "(II)V" } : Jvm.MethodName) prog_1_method_42_code (4 : Nat) (Option.none : Option Jvm.ClassFile.FieldType)) ∈ lw_all := lw_g (lw_at lw_m3 44 rfl) rfl
theorem q646 : (Jvm.Cond.instanceMethod ({ cls := "GhostAssize", name := "next", desc := "()I" } : Jvm.MethodName)) ∈ lw_all := lw_g (lw_at lw_m3 46 rfl) rfl
theorem q647 : (Jvm.Cond.selects "GhostAssize" ({ cls := "GhostAssize", name := "next", desc := "()I" } : Jvm.MethodName) ({ cls := "GhostAssize", name := "next", desc := "()I" } : Jvm.MethodName)) ∈ lw_all := lw_g (lw_at lw_m3 47 rfl) rfl
theorem q648 : (Jvm.Cond.code ({ cls := "GhostAssize", name := "next", desc := "()I" } : Jvm.MethodName) prog_1_method_44_code (6 : Nat) (Option.some Jvm.ClassFile.FieldType.int)) ∈ lw_all := lw_g (lw_at lw_m3 48 rfl) rfl
theorem q649 : (Jvm.Cond.constant "GhostAssize" (305 : Nat) (-100000000 : Int32)) ∈ lw_all := lw_g (lw_at lw_m3 49 rfl) rfl
theorem q651 : (Jvm.Cond.instanceMethod ({ cls := "GhostAssize", name := "cover", desc := "()I" } : Jvm.MethodName)) ∈ lw_all := lw_g (lw_at lw_m3 51 rfl) rfl
theorem q652 : (Jvm.Cond.selects "GhostAssize" ({ cls := "GhostAssize", name := "cover", desc := "()I" } : Jvm.MethodName) ({ cls := "GhostAssize", name := "cover", desc := "()I" } : Jvm.MethodName)) ∈ lw_all := lw_g (lw_at lw_m3 52 rfl) rfl
theorem q653 : (Jvm.Cond.code ({ cls := "GhostAssize", name := "cover", desc := "()I" } : Jvm.MethodName) prog_1_method_52_code (4 : Nat) (Option.some Jvm.ClassFile.FieldType.int)) ∈ lw_all := lw_g (lw_at lw_m3 53 rfl) rfl
theorem q654 : (Jvm.Cond.methodLink "GhostAssize" (316 : Nat) ({ cls := "GhostAssize", name := "shown", desc := "(I)I" } : Jvm.MethodName)) ∈ lw_all := lw_g (lw_at lw_m3 54 rfl) rfl
theorem q655 : (Jvm.Cond.privateMethod ({ cls := "GhostAssize", name := "shown", desc := "(I)I" } : Jvm.MethodName)) ∈ lw_tbl := lw_at lw_m3 55 rfl
theorem q656 : (Jvm.Cond.instanceMethod ({ cls := "GhostAssize", name := "shown", desc := "(I)I" } : Jvm.MethodName)) ∈ lw_all := lw_g (lw_at lw_m3 56 rfl) rfl
theorem q657 : (Jvm.Cond.code ({ cls := "GhostAssize", name := "shown", desc := "(I)I" } : Jvm.MethodName) prog_1_method_51_code (4 : Nat) (Option.some Jvm.ClassFile.FieldType.int)) ∈ lw_all := lw_g (lw_at lw_m3 57 rfl) rfl
theorem q658 : (Jvm.Cond.methodLink "GhostAssize" (269 : Nat) ({ cls := "java/lang/Integer", name := "bitCount", desc := "(I)I" } : Jvm.MethodName)) ∈ lw_all := lw_g (lw_at lw_m3 58 rfl) rfl
theorem q665 : (Jvm.Cond.instanceMethod ({ cls := "GhostAssize", name := "leave", desc := "()I" } : Jvm.MethodName)) ∈ lw_all := lw_g (lw_at lw_m3 65 rfl) rfl
theorem q666 : (Jvm.Cond.selects "GhostAssize" ({ cls := "GhostAssize", name := "leave", desc := "()I" } : Jvm.MethodName) ({ cls := "GhostAssize", name := "leave", desc := "()I" } : Jvm.MethodName)) ∈ lw_all := lw_g (lw_at lw_m3 66 rfl) rfl
theorem q667 : (Jvm.Cond.code ({ cls := "GhostAssize", name := "leave", desc := "()I" } : Jvm.MethodName) prog_1_method_56_code (5 : Nat) (Option.some Jvm.ClassFile.FieldType.int)) ∈ lw_all := lw_g (lw_at lw_m3 67 rfl) rfl
theorem q668 : (Jvm.Cond.methodLink "GhostAssize" (319 : Nat) ({ cls := "GhostAssize", name := "nailedOnes", desc := "()I" } : Jvm.MethodName)) ∈ lw_all := lw_g (lw_at lw_m3 68 rfl) rfl
theorem q669 : (Jvm.Cond.privateMethod ({ cls := "GhostAssize", name := "nailedOnes", desc := "()I" } : Jvm.MethodName)) ∈ lw_tbl := lw_at lw_m3 69 rfl
theorem q670 : (Jvm.Cond.instanceMethod ({ cls := "GhostAssize", name := "nailedOnes", desc := "()I" } : Jvm.MethodName)) ∈ lw_all := lw_g (lw_at lw_m3 70 rfl) rfl
theorem q671 : (Jvm.Cond.code ({ cls := "GhostAssize", name := "nailedOnes", desc := "()I" } : Jvm.MethodName) prog_1_method_53_code (3 : Nat) (Option.some Jvm.ClassFile.FieldType.int)) ∈ lw_all := lw_g (lw_at lw_m3 71 rfl) rfl
theorem q672 : (Jvm.Cond.methodLink "GhostAssize" (141 : Nat) ({ cls := "GhostAssize$State", name := "be", desc := "(LGhostAssize$State;)V" } : Jvm.MethodName)) ∈ lw_all := lw_g (lw_at lw_m3 72 rfl) rfl
theorem q685 : (Jvm.Cond.methodLink "GhostAssize" (263 : Nat) ({ cls := "GhostAssize$State", name := "takes", desc := "(I)V" } : Jvm.MethodName)) ∈ lw_all := lw_g (lw_at lw_m3 85 rfl) rfl
theorem q689 : (Jvm.Cond.methodLink "GhostAssize" (322 : Nat) ({ cls := "GhostAssize", name := "screamsNow", desc := "()I" } : Jvm.MethodName)) ∈ lw_all := lw_g (lw_at lw_m3 89 rfl) rfl
theorem q690 : (Jvm.Cond.privateMethod ({ cls := "GhostAssize", name := "screamsNow", desc := "()I" } : Jvm.MethodName)) ∈ lw_tbl := lw_at lw_m3 90 rfl
theorem q691 : (Jvm.Cond.instanceMethod ({ cls := "GhostAssize", name := "screamsNow", desc := "()I" } : Jvm.MethodName)) ∈ lw_all := lw_g (lw_at lw_m3 91 rfl) rfl
theorem q692 : (Jvm.Cond.code ({ cls := "GhostAssize", name := "screamsNow", desc := "()I" } : Jvm.MethodName) prog_1_method_54_code (3 : Nat) (Option.some Jvm.ClassFile.FieldType.int)) ∈ lw_all := lw_g (lw_at lw_m3 92 rfl) rfl
theorem q693 : (Jvm.Cond.methodLink "GhostAssize" (248 : Nat) ({ cls := "GhostAssize", name := "rides", desc := "(LGhostAssize$One;Z)V" } : Jvm.MethodName)) ∈ lw_all := lw_g (lw_at lw_m3 93 rfl) rfl
theorem q694 : (Jvm.Cond.privateMethod ({ cls := "GhostAssize", name := "rides", desc := "(LGhostAssize$One;Z)V" } : Jvm.MethodName)) ∈ lw_tbl := lw_at lw_m3 94 rfl
theorem q695 : (Jvm.Cond.instanceMethod ({ cls := "GhostAssize", name := "rides", desc := "(LGhostAssize$One;Z)V" } : Jvm.MethodName)) ∈ lw_all := lw_g (lw_at lw_m3 95 rfl) rfl
theorem q696 : (Jvm.Cond.code ({ cls := "GhostAssize", name := "rides", desc := "(LGhostAssize$One;Z)V" } : Jvm.MethodName) prog_1_method_23_code (7 : Nat) (Option.none : Option Jvm.ClassFile.FieldType)) ∈ lw_all := lw_g (lw_at lw_m3 96 rfl) rfl
theorem q697 : (Jvm.Cond.methodLink "GhostAssize" (210 : Nat) ({ cls := "GhostAssize$State", name := "wears", desc := "(LGhostAssize$One;II)I" } : Jvm.MethodName)) ∈ lw_all := lw_g (lw_at lw_m3 97 rfl) rfl
theorem q712 : (Jvm.Cond.methodLink "GhostAssize" (223 : Nat) ({ cls := "GhostAssize$State", name := "draw", desc := "(I)I" } : Jvm.MethodName)) ∈ lw_all := lw_g (lw_at lw_m3 112 rfl) rfl
theorem q717 : (Jvm.Cond.methodLink "GhostAssize" (226 : Nat) ({ cls := "GhostAssize$State", name := "behind", desc := "(LGhostAssize$One;III)I" } : Jvm.MethodName)) ∈ lw_all := lw_g (lw_at lw_m3 117 rfl) rfl
theorem q718 : (Jvm.Cond.methodLink "GhostAssize" (325 : Nat) ({ cls := "GhostAssize", name := "guiltyOnes", desc := "()I" } : Jvm.MethodName)) ∈ lw_all := lw_g (lw_at lw_m3 118 rfl) rfl
theorem q719 : (Jvm.Cond.privateMethod ({ cls := "GhostAssize", name := "guiltyOnes", desc := "()I" } : Jvm.MethodName)) ∈ lw_tbl := lw_at lw_m3 119 rfl
theorem q720 : (Jvm.Cond.instanceMethod ({ cls := "GhostAssize", name := "guiltyOnes", desc := "()I" } : Jvm.MethodName)) ∈ lw_all := lw_g (lw_at lw_m3 120 rfl) rfl
theorem q721 : (Jvm.Cond.code ({ cls := "GhostAssize", name := "guiltyOnes", desc := "()I" } : Jvm.MethodName) prog_1_method_55_code (3 : Nat) (Option.some Jvm.ClassFile.FieldType.int)) ∈ lw_all := lw_g (lw_at lw_m3 121 rfl) rfl
theorem q723 : (Jvm.Cond.instanceMethod ({ cls := "GhostAssize", name := "bravest", desc := "()I" } : Jvm.MethodName)) ∈ lw_all := lw_g (lw_at lw_m3 123 rfl) rfl
theorem q724 : (Jvm.Cond.selects "GhostAssize" ({ cls := "GhostAssize", name := "bravest", desc := "()I" } : Jvm.MethodName) ({ cls := "GhostAssize", name := "bravest", desc := "()I" } : Jvm.MethodName)) ∈ lw_all := lw_g (lw_at lw_m3 124 rfl) rfl
theorem q725 : (Jvm.Cond.code ({ cls := "GhostAssize", name := "bravest", desc := "()I" } : Jvm.MethodName) prog_1_method_57_code (5 : Nat) (Option.some Jvm.ClassFile.FieldType.int)) ∈ lw_all := lw_g (lw_at lw_m3 125 rfl) rfl
theorem q726 : (Jvm.Cond.constant "GhostAssize" (309 : Nat) (100000000 : Int32)) ∈ lw_all := lw_g (lw_at lw_m3 126 rfl) rfl
theorem q728 : (Jvm.Cond.instanceMethod ({ cls := "GhostAssize", name := "alike", desc := "()I" } : Jvm.MethodName)) ∈ lw_all := lw_g (lw_at lw_m3 128 rfl) rfl
theorem q729 : (Jvm.Cond.selects "GhostAssize" ({ cls := "GhostAssize", name := "alike", desc := "()I" } : Jvm.MethodName) ({ cls := "GhostAssize", name := "alike", desc := "()I" } : Jvm.MethodName)) ∈ lw_all := lw_g (lw_at lw_m3 129 rfl) rfl
theorem q730 : (Jvm.Cond.code ({ cls := "GhostAssize", name := "alike", desc := "()I" } : Jvm.MethodName) prog_1_method_58_code (4 : Nat) (Option.some Jvm.ClassFile.FieldType.int)) ∈ lw_all := lw_g (lw_at lw_m3 130 rfl) rfl
theorem q732 : (Jvm.Cond.instanceMethod ({ cls := "GhostAssize", name := "all", desc := "(Z)I" } : Jvm.MethodName)) ∈ lw_all := lw_g (lw_at lw_m3 132 rfl) rfl
theorem q733 : (Jvm.Cond.selects "GhostAssize" ({ cls := "GhostAssize", name := "all", desc := "(Z)I" } : Jvm.MethodName) ({ cls := "GhostAssize", name := "all", desc := "(Z)I" } : Jvm.MethodName)) ∈ lw_all := lw_g (lw_at lw_m3 133 rfl) rfl
theorem q734 : (Jvm.Cond.code ({ cls := "GhostAssize", name := "all", desc := "(Z)I" } : Jvm.MethodName) prog_1_method_63_code (4 : Nat) (Option.some Jvm.ClassFile.FieldType.int)) ∈ lw_all := lw_g (lw_at lw_m3 134 rfl) rfl
theorem q735 : (Jvm.Cond.methodLink "GhostAssize" (252 : Nat) ({ cls := "GhostAssize", name := "wearsOut", desc := "()V" } : Jvm.MethodName)) ∈ lw_all := lw_g (lw_at lw_m3 135 rfl) rfl
theorem q736 : (Jvm.Cond.privateMethod ({ cls := "GhostAssize", name := "wearsOut", desc := "()V" } : Jvm.MethodName)) ∈ lw_tbl := lw_at lw_m3 136 rfl
theorem q737 : (Jvm.Cond.instanceMethod ({ cls := "GhostAssize", name := "wearsOut", desc := "()V" } : Jvm.MethodName)) ∈ lw_all := lw_g (lw_at lw_m3 137 rfl) rfl
theorem q738 : (Jvm.Cond.code ({ cls := "GhostAssize", name := "wearsOut", desc := "()V" } : Jvm.MethodName) prog_1_method_24_code (2 : Nat) (Option.none : Option Jvm.ClassFile.FieldType)) ∈ lw_all := lw_g (lw_at lw_m3 138 rfl) rfl
theorem q739 : (Jvm.Cond.methodLink "GhostAssize" (233 : Nat) ({ cls := "java/lang/Math", name := "min", desc := "(II)I" } : Jvm.MethodName)) ∈ lw_all := lw_g (lw_at lw_m3 139 rfl) rfl
theorem q743 : (Jvm.Cond.instanceMethod ({ cls := "GhostAssize", name := "loudest", desc := "()I" } : Jvm.MethodName)) ∈ lw_all := lw_g (lw_at lw_m3 143 rfl) rfl
theorem q744 : (Jvm.Cond.selects "GhostAssize" ({ cls := "GhostAssize", name := "loudest", desc := "()I" } : Jvm.MethodName) ({ cls := "GhostAssize", name := "loudest", desc := "()I" } : Jvm.MethodName)) ∈ lw_all := lw_g (lw_at lw_m3 144 rfl) rfl
theorem q745 : (Jvm.Cond.code ({ cls := "GhostAssize", name := "loudest", desc := "()I" } : Jvm.MethodName) prog_1_method_66_code (5 : Nat) (Option.some Jvm.ClassFile.FieldType.int)) ∈ lw_all := lw_g (lw_at lw_m3 145 rfl) rfl
theorem q746 : (Jvm.Cond.methodLink "GhostAssize" (336 : Nat) ({ cls := "GhostAssize", name := "loud", desc := "(I)I" } : Jvm.MethodName)) ∈ lw_all := lw_g (lw_at lw_m3 146 rfl) rfl
theorem q747 : (Jvm.Cond.privateMethod ({ cls := "GhostAssize", name := "loud", desc := "(I)I" } : Jvm.MethodName)) ∈ lw_tbl := lw_at lw_m3 147 rfl
theorem q748 : (Jvm.Cond.instanceMethod ({ cls := "GhostAssize", name := "loud", desc := "(I)I" } : Jvm.MethodName)) ∈ lw_all := lw_g (lw_at lw_m3 148 rfl) rfl
theorem q749 : (Jvm.Cond.code ({ cls := "GhostAssize", name := "loud", desc := "(I)I" } : Jvm.MethodName) prog_1_method_65_code (4 : Nat) (Option.some Jvm.ClassFile.FieldType.int)) ∈ lw_all := lw_g (lw_at lw_m3 149 rfl) rfl
theorem q751 : (Jvm.Cond.instanceMethod ({ cls := "GhostAssize", name := "seed", desc := "(I)I" } : Jvm.MethodName)) ∈ lw_all := lw_g (lw_at lw_m3 151 rfl) rfl
theorem q752 : (Jvm.Cond.selects "GhostAssize" ({ cls := "GhostAssize", name := "seed", desc := "(I)I" } : Jvm.MethodName) ({ cls := "GhostAssize", name := "seed", desc := "(I)I" } : Jvm.MethodName)) ∈ lw_all := lw_g (lw_at lw_m3 152 rfl) rfl
theorem q753 : (Jvm.Cond.code ({ cls := "GhostAssize", name := "seed", desc := "(I)I" } : Jvm.MethodName) prog_1_method_72_code (3 : Nat) (Option.some Jvm.ClassFile.FieldType.int)) ∈ lw_all := lw_g (lw_at lw_m3 153 rfl) rfl
theorem q755 : (Jvm.Cond.instanceMethod ({ cls := "GhostAssize", name := "undo", desc := "()Z" } : Jvm.MethodName)) ∈ lw_all := lw_g (lw_at lw_m3 155 rfl) rfl
theorem q756 : (Jvm.Cond.selects "GhostAssize" ({ cls := "GhostAssize", name := "undo", desc := "()Z" } : Jvm.MethodName) ({ cls := "GhostAssize", name := "undo", desc := "()Z" } : Jvm.MethodName)) ∈ lw_all := lw_g (lw_at lw_m3 156 rfl) rfl
theorem q757 : (Jvm.Cond.code ({ cls := "GhostAssize", name := "undo", desc := "()Z" } : Jvm.MethodName) prog_1_method_73_code (1 : Nat) (Option.some Jvm.ClassFile.FieldType.boolean)) ∈ lw_all := lw_g (lw_at lw_m3 157 rfl) rfl
theorem q759 : (Jvm.Cond.instanceMethod ({ cls := "GhostAssize", name := "image", desc := "()V" } : Jvm.MethodName)) ∈ lw_all := lw_g (lw_at lw_m3 159 rfl) rfl
theorem q760 : (Jvm.Cond.selects "GhostAssize" ({ cls := "GhostAssize", name := "image", desc := "()V" } : Jvm.MethodName) ({ cls := "GhostAssize", name := "image", desc := "()V" } : Jvm.MethodName)) ∈ lw_all := lw_g (lw_at lw_m3 160 rfl) rfl
theorem q761 : (Jvm.Cond.code ({ cls := "GhostAssize", name := "image", desc := "()V" } : Jvm.MethodName) prog_1_method_74_code (1 : Nat) (Option.none : Option Jvm.ClassFile.FieldType)) ∈ lw_all := lw_g (lw_at lw_m3 161 rfl) rfl
theorem q763 : (Jvm.Cond.instanceMethod ({ cls := "GhostAssize", name := "back", desc := "()Z" } : Jvm.MethodName)) ∈ lw_all := lw_g (lw_at lw_m3 163 rfl) rfl
theorem q764 : (Jvm.Cond.selects "GhostAssize" ({ cls := "GhostAssize", name := "back", desc := "()Z" } : Jvm.MethodName) ({ cls := "GhostAssize", name := "back", desc := "()Z" } : Jvm.MethodName)) ∈ lw_all := lw_g (lw_at lw_m3 164 rfl) rfl
theorem q765 : (Jvm.Cond.code ({ cls := "GhostAssize", name := "back", desc := "()Z" } : Jvm.MethodName) prog_1_method_75_code (1 : Nat) (Option.some Jvm.ClassFile.FieldType.boolean)) ∈ lw_all := lw_g (lw_at lw_m3 165 rfl) rfl
theorem q767 : (Jvm.Cond.instanceMethod ({ cls := "GhostAssize", name := "count", desc := "(I)I" } : Jvm.MethodName)) ∈ lw_all := lw_g (lw_at lw_m3 167 rfl) rfl
theorem q768 : (Jvm.Cond.selects "GhostAssize" ({ cls := "GhostAssize", name := "count", desc := "(I)I" } : Jvm.MethodName) ({ cls := "GhostAssize", name := "count", desc := "(I)I" } : Jvm.MethodName)) ∈ lw_all := lw_g (lw_at lw_m3 168 rfl) rfl
theorem q769 : (Jvm.Cond.code ({ cls := "GhostAssize", name := "count", desc := "(I)I" } : Jvm.MethodName) prog_1_method_78_code (2 : Nat) (Option.some Jvm.ClassFile.FieldType.int)) ∈ lw_all := lw_g (lw_at lw_m3 169 rfl) rfl
theorem q770 : (Jvm.Cond.methodLink "GhostAssize" (357 : Nat) ({ cls := "GhostAssize", name := "full", desc := "()I" } : Jvm.MethodName)) ∈ lw_all := lw_g (lw_at lw_m3 170 rfl) rfl
theorem q771 : (Jvm.Cond.privateMethod ({ cls := "GhostAssize", name := "full", desc := "()I" } : Jvm.MethodName)) ∈ lw_tbl := lw_at lw_m3 171 rfl
theorem q772 : (Jvm.Cond.instanceMethod ({ cls := "GhostAssize", name := "full", desc := "()I" } : Jvm.MethodName)) ∈ lw_all := lw_g (lw_at lw_m3 172 rfl) rfl
theorem q773 : (Jvm.Cond.code ({ cls := "GhostAssize", name := "full", desc := "()I" } : Jvm.MethodName) prog_1_method_77_code (3 : Nat) (Option.some Jvm.ClassFile.FieldType.int)) ∈ lw_all := lw_g (lw_at lw_m3 173 rfl) rfl
theorem q774 : (Jvm.Cond.methodLink "GhostAssize" (266 : Nat) ({ cls := "GhostAssize$State", name := "those", desc := "(I)I" } : Jvm.MethodName)) ∈ lw_all := lw_g (lw_at lw_m3 174 rfl) rfl
theorem q778 : (Jvm.Cond.methodLink "GhostAssize" (360 : Nat) ({ cls := "GhostAssize", name := "worn", desc := "()I" } : Jvm.MethodName)) ∈ lw_all := lw_g (lw_at lw_m3 178 rfl) rfl
theorem q779 : (Jvm.Cond.privateMethod ({ cls := "GhostAssize", name := "worn", desc := "()I" } : Jvm.MethodName)) ∈ lw_tbl := lw_at lw_m3 179 rfl
theorem q780 : (Jvm.Cond.instanceMethod ({ cls := "GhostAssize", name := "worn", desc := "()I" } : Jvm.MethodName)) ∈ lw_all := lw_g (lw_at lw_m3 180 rfl) rfl
theorem q781 : (Jvm.Cond.code ({ cls := "GhostAssize", name := "worn", desc := "()I" } : Jvm.MethodName) prog_1_method_76_code (3 : Nat) (Option.some Jvm.ClassFile.FieldType.int)) ∈ lw_all := lw_g (lw_at lw_m3 181 rfl) rfl
theorem q788 : (Jvm.Cond.instanceMethod ({ cls := "GhostAssize", name := "court", desc := "()I" } : Jvm.MethodName)) ∈ lw_all := lw_g (lw_at lw_m3 188 rfl) rfl
theorem q789 : (Jvm.Cond.selects "GhostAssize" ({ cls := "GhostAssize", name := "court", desc := "()I" } : Jvm.MethodName) ({ cls := "GhostAssize", name := "court", desc := "()I" } : Jvm.MethodName)) ∈ lw_all := lw_g (lw_at lw_m3 189 rfl) rfl
theorem q790 : (Jvm.Cond.codeWith ({ cls := "GhostAssize", name := "court", desc := "()I" } : Jvm.MethodName) prog_1_method_16_code (4 : Nat) (Option.some Jvm.ClassFile.FieldType.int) [((10 : Nat), (23 : Nat), (26 : Nat), (119 : Nat))]) ∈ lw_all := lw_g (lw_at lw_m3 190 rfl) rfl
theorem q791 : (Jvm.Cond.classLink "GhostAssize" (119 : Nat) "GhostAssize$Wrong") ∈ lw_all := lw_g (lw_at lw_m3 191 rfl) rfl
theorem q792 : (Jvm.Cond.methodLink "GhostAssize" (123 : Nat) ({ cls := "GhostAssize", name := "took", desc := "()I" } : Jvm.MethodName)) ∈ lw_all := lw_g (lw_at lw_m3 192 rfl) rfl
theorem q793 : (Jvm.Cond.privateMethod ({ cls := "GhostAssize", name := "took", desc := "()I" } : Jvm.MethodName)) ∈ lw_tbl := lw_at lw_m3 193 rfl
theorem q794 : (Jvm.Cond.instanceMethod ({ cls := "GhostAssize", name := "took", desc := "()I" } : Jvm.MethodName)) ∈ lw_all := lw_g (lw_at lw_m3 194 rfl) rfl
theorem q795 : (Jvm.Cond.code ({ cls := "GhostAssize", name := "took", desc := "()I" } : Jvm.MethodName) prog_1_method_14_code (2 : Nat) (Option.some Jvm.ClassFile.FieldType.int)) ∈ lw_all := lw_g (lw_at lw_m3 195 rfl) rfl
theorem q796 : (Jvm.Cond.methodLink "GhostAssize" (127 : Nat) ({ cls := "GhostAssize$Reader", name := "court", desc := "(ILGhostAssize$State;)LGhostAssize$State;" } : Jvm.MethodName)) ∈ lw_all := lw_g (lw_at lw_m3 196 rfl) rfl
theorem q916 : (Jvm.Cond.methodLink "GhostAssize" (131 : Nat) ({ cls := "GhostAssize", name := "isWrong", desc := "(LGhostAssize$Wrong;)Ljava/lang/IllegalArgumentException;" } : Jvm.MethodName)) ∈ lw_all := lw_g (lw_at lw_m4 76 rfl) rfl
theorem q917 : (Jvm.Cond.privateMethod ({ cls := "GhostAssize", name := "isWrong", desc := "(LGhostAssize$Wrong;)Ljava/lang/IllegalArgumentException;" } : Jvm.MethodName)) ∈ lw_tbl := lw_at lw_m4 77 rfl
theorem q918 : (Jvm.Cond.instanceMethod ({ cls := "GhostAssize", name := "isWrong", desc := "(LGhostAssize$Wrong;)Ljava/lang/IllegalArgumentException;" } : Jvm.MethodName)) ∈ lw_all := lw_g (lw_at lw_m4 78 rfl) rfl
theorem q919 : (Jvm.Cond.code ({ cls := "GhostAssize", name := "isWrong", desc := "(LGhostAssize$Wrong;)Ljava/lang/IllegalArgumentException;" } : Jvm.MethodName) prog_1_method_15_code (2 : Nat) (Option.some (Jvm.ClassFile.FieldType.object "java/lang/IllegalArgumentException"))) ∈ lw_all := lw_g (lw_at lw_m4 79 rfl) rfl
theorem q920 : (Jvm.Cond.classLink "GhostAssize" (70 : Nat) "java/lang/IllegalArgumentException") ∈ lw_all := lw_g (lw_at lw_m4 80 rfl) rfl
theorem q929 : (Jvm.Cond.methodLink "GhostAssize" (72 : Nat) ({ cls := "java/lang/IllegalArgumentException", name := "<init>", desc := "()V" } : Jvm.MethodName)) ∈ lw_all := lw_g (lw_at lw_m4 89 rfl) rfl
theorem q941 : (Jvm.Cond.methodLink "GhostAssize" (138 : Nat) ({ cls := "GhostAssize", name := "mayBe", desc := "(Z)V" } : Jvm.MethodName)) ∈ lw_all := lw_g (lw_at lw_m4 101 rfl) rfl
theorem q942 : (Jvm.Cond.static ({ cls := "GhostAssize", name := "mayBe", desc := "(Z)V" } : Jvm.MethodName)) ∈ lw_all := lw_g (lw_at lw_m4 102 rfl) rfl
theorem q943 : (Jvm.Cond.code ({ cls := "GhostAssize", name := "mayBe", desc := "(Z)V" } : Jvm.MethodName) prog_1_method_3_code (1 : Nat) (Option.none : Option Jvm.ClassFile.FieldType)) ∈ lw_all := lw_g (lw_at lw_m4 103 rfl) rfl
theorem q944 : (Jvm.Cond.classLink "GhostAssize" (73 : Nat) "java/lang/UnsupportedOperationException") ∈ lw_all := lw_g (lw_at lw_m4 104 rfl) rfl
theorem q953 : (Jvm.Cond.methodLink "GhostAssize" (75 : Nat) ({ cls := "java/lang/UnsupportedOperationException", name := "<init>", desc := "()V" } : Jvm.MethodName)) ∈ lw_all := lw_g (lw_at lw_m4 113 rfl) rfl
theorem q963 : (Jvm.Cond.instanceMethod ({ cls := "GhostAssize", name := "law", desc := "()I" } : Jvm.MethodName)) ∈ lw_all := lw_g (lw_at lw_m4 123 rfl) rfl
theorem q964 : (Jvm.Cond.selects "GhostAssize" ({ cls := "GhostAssize", name := "law", desc := "()I" } : Jvm.MethodName) ({ cls := "GhostAssize", name := "law", desc := "()I" } : Jvm.MethodName)) ∈ lw_all := lw_g (lw_at lw_m4 124 rfl) rfl
theorem q965 : (Jvm.Cond.codeWith ({ cls := "GhostAssize", name := "law", desc := "()I" } : Jvm.MethodName) prog_1_method_17_code (3 : Nat) (Option.some Jvm.ClassFile.FieldType.int) [((10 : Nat), (25 : Nat), (28 : Nat), (119 : Nat))]) ∈ lw_all := lw_g (lw_at lw_m4 125 rfl) rfl
theorem q966 : (Jvm.Cond.methodLink "GhostAssize" (148 : Nat) ({ cls := "GhostAssize$Reader", name := "law", desc := "(I)I" } : Jvm.MethodName)) ∈ lw_all := lw_g (lw_at lw_m4 126 rfl) rfl
theorem q1094 : (Jvm.Cond.methodLink "GhostAssize" (161 : Nat) ({ cls := "java/lang/System", name := "arraycopy", desc := "(Ljava/lang/Object;ILjava/lang/Object;II)V" } : Jvm.MethodName)) ∈ lw_all := lw_g (lw_at lw_m5 14 rfl) rfl
theorem q1132 : (Jvm.Cond.instanceMethod ({ cls := "GhostAssize", name := "prop", desc := "(II)I" } : Jvm.MethodName)) ∈ lw_all := lw_g (lw_at lw_m5 52 rfl) rfl
theorem q1133 : (Jvm.Cond.selects "GhostAssize" ({ cls := "GhostAssize", name := "prop", desc := "(II)I" } : Jvm.MethodName) ({ cls := "GhostAssize", name := "prop", desc := "(II)I" } : Jvm.MethodName)) ∈ lw_all := lw_g (lw_at lw_m5 53 rfl) rfl
theorem q1134 : (Jvm.Cond.code ({ cls := "GhostAssize", name := "prop", desc := "(II)I" } : Jvm.MethodName) prog_1_method_19_code (4 : Nat) (Option.some Jvm.ClassFile.FieldType.int)) ∈ lw_all := lw_g (lw_at lw_m5 54 rfl) rfl
theorem q1135 : (Jvm.Cond.methodLink "GhostAssize" (167 : Nat) ({ cls := "GhostAssize", name := "propAt", desc := "(I)LGhostAssize$Prop;" } : Jvm.MethodName)) ∈ lw_all := lw_g (lw_at lw_m5 55 rfl) rfl
theorem q1136 : (Jvm.Cond.privateMethod ({ cls := "GhostAssize", name := "propAt", desc := "(I)LGhostAssize$Prop;" } : Jvm.MethodName)) ∈ lw_tbl := lw_at lw_m5 56 rfl
theorem q1137 : (Jvm.Cond.instanceMethod ({ cls := "GhostAssize", name := "propAt", desc := "(I)LGhostAssize$Prop;" } : Jvm.MethodName)) ∈ lw_all := lw_g (lw_at lw_m5 57 rfl) rfl
theorem q1138 : (Jvm.Cond.code ({ cls := "GhostAssize", name := "propAt", desc := "(I)LGhostAssize$Prop;" } : Jvm.MethodName) prog_1_method_8_code (2 : Nat) (Option.some (Jvm.ClassFile.FieldType.object "GhostAssize$Prop"))) ∈ lw_all := lw_g (lw_at lw_m5 58 rfl) rfl
theorem q1139 : (Jvm.Cond.methodLink "GhostAssize" (92 : Nat) ({ cls := "GhostAssize", name := "mustBe", desc := "(Z)V" } : Jvm.MethodName)) ∈ lw_all := lw_g (lw_at lw_m5 59 rfl) rfl
theorem q1140 : (Jvm.Cond.static ({ cls := "GhostAssize", name := "mustBe", desc := "(Z)V" } : Jvm.MethodName)) ∈ lw_all := lw_g (lw_at lw_m5 60 rfl) rfl
theorem q1141 : (Jvm.Cond.code ({ cls := "GhostAssize", name := "mustBe", desc := "(Z)V" } : Jvm.MethodName) prog_1_method_4_code (1 : Nat) (Option.none : Option Jvm.ClassFile.FieldType)) ∈ lw_all := lw_g (lw_at lw_m5 61 rfl) rfl
theorem q1142 : (Jvm.Cond.classLink "GhostAssize" (76 : Nat) "java/lang/IndexOutOfBoundsException") ∈ lw_all := lw_g (lw_at lw_m5 62 rfl) rfl
theorem q1151 : (Jvm.Cond.methodLink "GhostAssize" (78 : Nat) ({ cls := "java/lang/IndexOutOfBoundsException", name := "<init>", desc := "()V" } : Jvm.MethodName)) ∈ lw_all := lw_g (lw_at lw_m5 71 rfl) rfl
theorem q1157 : (Jvm.Cond.classLink "GhostAssize" (79 : Nat) "java/util/NoSuchElementException") ∈ lw_all := lw_g (lw_at lw_m5 77 rfl) rfl
theorem q1166 : (Jvm.Cond.methodLink "GhostAssize" (81 : Nat) ({ cls := "java/util/NoSuchElementException", name := "<init>", desc := "()V" } : Jvm.MethodName)) ∈ lw_all := lw_g (lw_at lw_m5 86 rfl) rfl
theorem q1176 : (Jvm.Cond.instanceMethod ({ cls := "GhostAssize", name := "slot", desc := "(I)I" } : Jvm.MethodName)) ∈ lw_all := lw_g (lw_at lw_m5 96 rfl) rfl
theorem q1177 : (Jvm.Cond.selects "GhostAssize" ({ cls := "GhostAssize", name := "slot", desc := "(I)I" } : Jvm.MethodName) ({ cls := "GhostAssize", name := "slot", desc := "(I)I" } : Jvm.MethodName)) ∈ lw_all := lw_g (lw_at lw_m5 97 rfl) rfl
theorem q1178 : (Jvm.Cond.code ({ cls := "GhostAssize", name := "slot", desc := "(I)I" } : Jvm.MethodName) prog_1_method_20_code (2 : Nat) (Option.some Jvm.ClassFile.FieldType.int)) ∈ lw_all := lw_g (lw_at lw_m5 98 rfl) rfl
theorem q1179 : (Jvm.Cond.methodLink "GhostAssize" (185 : Nat) ({ cls := "GhostAssize", name := "isSlot", desc := "(I)V" } : Jvm.MethodName)) ∈ lw_all := lw_g (lw_at lw_m5 99 rfl) rfl
theorem q1180 : (Jvm.Cond.static ({ cls := "GhostAssize", name := "isSlot", desc := "(I)V" } : Jvm.MethodName)) ∈ lw_all := lw_g (lw_at lw_m5 100 rfl) rfl
theorem q1181 : (Jvm.Cond.code ({ cls := "GhostAssize", name := "isSlot", desc := "(I)V" } : Jvm.MethodName) prog_1_method_10_code (1 : Nat) (Option.none : Option Jvm.ClassFile.FieldType)) ∈ lw_all := lw_g (lw_at lw_m5 101 rfl) rfl
theorem q1186 : (Jvm.Cond.instanceMethod ({ cls := "GhostAssize", name := "accused", desc := "(II)I" } : Jvm.MethodName)) ∈ lw_all := lw_g (lw_at lw_m5 106 rfl) rfl
theorem q1187 : (Jvm.Cond.selects "GhostAssize" ({ cls := "GhostAssize", name := "accused", desc := "(II)I" } : Jvm.MethodName) ({ cls := "GhostAssize", name := "accused", desc := "(II)I" } : Jvm.MethodName)) ∈ lw_all := lw_g (lw_at lw_m5 107 rfl) rfl
theorem q1188 : (Jvm.Cond.code ({ cls := "GhostAssize", name := "accused", desc := "(II)I" } : Jvm.MethodName) prog_1_method_21_code (4 : Nat) (Option.some Jvm.ClassFile.FieldType.int)) ∈ lw_all := lw_g (lw_at lw_m5 108 rfl) rfl
theorem q1189 : (Jvm.Cond.methodLink "GhostAssize" (191 : Nat) ({ cls := "GhostAssize", name := "oneAt", desc := "(I)LGhostAssize$One;" } : Jvm.MethodName)) ∈ lw_all := lw_g (lw_at lw_m5 109 rfl) rfl
theorem q1190 : (Jvm.Cond.privateMethod ({ cls := "GhostAssize", name := "oneAt", desc := "(I)LGhostAssize$One;" } : Jvm.MethodName)) ∈ lw_tbl := lw_at lw_m5 110 rfl
theorem q1191 : (Jvm.Cond.instanceMethod ({ cls := "GhostAssize", name := "oneAt", desc := "(I)LGhostAssize$One;" } : Jvm.MethodName)) ∈ lw_all := lw_g (lw_at lw_m5 111 rfl) rfl
theorem q1192 : (Jvm.Cond.code ({ cls := "GhostAssize", name := "oneAt", desc := "(I)LGhostAssize$One;" } : Jvm.MethodName) prog_1_method_9_code (2 : Nat) (Option.some (Jvm.ClassFile.FieldType.object "GhostAssize$One"))) ∈ lw_all := lw_g (lw_at lw_m5 112 rfl) rfl
theorem q1197 : (Jvm.Cond.instanceMethod ({ cls := "GhostAssize", name := "fright", desc := "(IIIZ)I" } : Jvm.MethodName)) ∈ lw_all := lw_g (lw_at lw_m5 117 rfl) rfl
theorem q1198 : (Jvm.Cond.selects "GhostAssize" ({ cls := "GhostAssize", name := "fright", desc := "(IIIZ)I" } : Jvm.MethodName) ({ cls := "GhostAssize", name := "fright", desc := "(IIIZ)I" } : Jvm.MethodName)) ∈ lw_all := lw_g (lw_at lw_m5 118 rfl) rfl
theorem q1199 : (Jvm.Cond.code ({ cls := "GhostAssize", name := "fright", desc := "(IIIZ)I" } : Jvm.MethodName) prog_1_method_22_code (6 : Nat) (Option.some Jvm.ClassFile.FieldType.int)) ∈ lw_all := lw_g (lw_at lw_m5 119 rfl) rfl
theorem q1200 : (Jvm.Cond.methodLink "GhostAssize" (207 : Nat) ({ cls := "GhostAssize", name := "must", desc := "(Z)V" } : Jvm.MethodName)) ∈ lw_all := lw_g (lw_at lw_m5 120 rfl) rfl
theorem q1201 : (Jvm.Cond.static ({ cls := "GhostAssize", name := "must", desc := "(Z)V" } : Jvm.MethodName)) ∈ lw_all := lw_g (lw_at lw_m5 121 rfl) rfl
theorem q1202 : (Jvm.Cond.code ({ cls := "GhostAssize", name := "must", desc := "(Z)V" } : Jvm.MethodName) prog_1_method_2_code (1 : Nat) (Option.none : Option Jvm.ClassFile.FieldType)) ∈ lw_all := lw_g (lw_at lw_m5 122 rfl) rfl
theorem q1203 : (Jvm.Cond.methodLink "GhostAssize" (214 : Nat) ({ cls := "GhostAssize$State", name := "frights", desc := "(LGhostAssize$One;II)I" } : Jvm.MethodName)) ∈ lw_all := lw_g (lw_at lw_m5 123 rfl) rfl
theorem q1209 : (Jvm.Cond.instanceMethod ({ cls := "GhostAssize", name := "send", desc := "(I)I" } : Jvm.MethodName)) ∈ lw_all := lw_g (lw_at lw_m5 129 rfl) rfl
theorem q1210 : (Jvm.Cond.selects "GhostAssize" ({ cls := "GhostAssize", name := "send", desc := "(I)I" } : Jvm.MethodName) ({ cls := "GhostAssize", name := "send", desc := "(I)I" } : Jvm.MethodName)) ∈ lw_all := lw_g (lw_at lw_m5 130 rfl) rfl
theorem q1211 : (Jvm.Cond.code ({ cls := "GhostAssize", name := "send", desc := "(I)I" } : Jvm.MethodName) prog_1_method_26_code (3 : Nat) (Option.some Jvm.ClassFile.FieldType.int)) ∈ lw_all := lw_g (lw_at lw_m5 131 rfl) rfl
theorem q1212 : (Jvm.Cond.methodLink "GhostAssize" (242 : Nat) ({ cls := "GhostAssize", name := "can", desc := "(Z)V" } : Jvm.MethodName)) ∈ lw_all := lw_g (lw_at lw_m5 132 rfl) rfl
theorem q1213 : (Jvm.Cond.static ({ cls := "GhostAssize", name := "can", desc := "(Z)V" } : Jvm.MethodName)) ∈ lw_all := lw_g (lw_at lw_m5 133 rfl) rfl
theorem q1214 : (Jvm.Cond.code ({ cls := "GhostAssize", name := "can", desc := "(Z)V" } : Jvm.MethodName) prog_1_method_6_code (1 : Nat) (Option.none : Option Jvm.ClassFile.FieldType)) ∈ lw_all := lw_g (lw_at lw_m5 134 rfl) rfl
theorem q1215 : (Jvm.Cond.classLink "GhostAssize" (82 : Nat) "java/lang/IllegalStateException") ∈ lw_all := lw_g (lw_at lw_m5 135 rfl) rfl
theorem q1224 : (Jvm.Cond.methodLink "GhostAssize" (84 : Nat) ({ cls := "java/lang/IllegalStateException", name := "<init>", desc := "()V" } : Jvm.MethodName)) ∈ lw_all := lw_g (lw_at lw_m5 144 rfl) rfl
theorem q1230 : (Jvm.Cond.methodLink "GhostAssize" (245 : Nat) ({ cls := "GhostAssize", name := "remembers", desc := "()V" } : Jvm.MethodName)) ∈ lw_all := lw_g (lw_at lw_m5 150 rfl) rfl
theorem q1231 : (Jvm.Cond.privateMethod ({ cls := "GhostAssize", name := "remembers", desc := "()V" } : Jvm.MethodName)) ∈ lw_tbl := lw_at lw_m5 151 rfl
theorem q1232 : (Jvm.Cond.instanceMethod ({ cls := "GhostAssize", name := "remembers", desc := "()V" } : Jvm.MethodName)) ∈ lw_all := lw_g (lw_at lw_m5 152 rfl) rfl
theorem q1233 : (Jvm.Cond.code ({ cls := "GhostAssize", name := "remembers", desc := "()V" } : Jvm.MethodName) prog_1_method_25_code (1 : Nat) (Option.none : Option Jvm.ClassFile.FieldType)) ∈ lw_all := lw_g (lw_at lw_m5 153 rfl) rfl
theorem q1234 : (Jvm.Cond.methodLink "GhostAssize" (255 : Nat) ({ cls := "GhostAssize$State", name := "writes", desc := "(III)V" } : Jvm.MethodName)) ∈ lw_all := lw_g (lw_at lw_m5 154 rfl) rfl
theorem q1242 : (Jvm.Cond.instanceMethod ({ cls := "GhostAssize", name := "nail", desc := "(II)V" } : Jvm.MethodName)) ∈ lw_all := lw_g (lw_at lw_m5 162 rfl) rfl
theorem q1243 : (Jvm.Cond.selects "GhostAssize" ({ cls := "GhostAssize", name := "nail", desc := "(II)V" } : Jvm.MethodName) ({ cls := "GhostAssize", name := "nail", desc := "(II)V" } : Jvm.MethodName)) ∈ lw_all := lw_g (lw_at lw_m5 163 rfl) rfl
theorem q1244 : (Jvm.Cond.code ({ cls := "GhostAssize", name := "nail", desc := "(II)V" } : Jvm.MethodName) prog_1_method_27_code (4 : Nat) (Option.none : Option Jvm.ClassFile.FieldType)) ∈ lw_all := lw_g (lw_at lw_m5 164 rfl) rfl
theorem q1245 : (Jvm.Cond.methodLink "GhostAssize" (259 : Nat) ({ cls := "GhostAssize$State", name := "nails", desc := "(II)V" } : Jvm.MethodName)) ∈ lw_all := lw_g (lw_at lw_m5 165 rfl) rfl
theorem q1250 : (Jvm.Cond.instanceMethod ({ cls := "GhostAssize", name := "down", desc := "(I)I" } : Jvm.MethodName)) ∈ lw_all := lw_g (lw_at lw_m5 170 rfl) rfl
theorem q1251 : (Jvm.Cond.selects "GhostAssize" ({ cls := "GhostAssize", name := "down", desc := "(I)I" } : Jvm.MethodName) ({ cls := "GhostAssize", name := "down", desc := "(I)I" } : Jvm.MethodName)) ∈ lw_all := lw_g (lw_at lw_m5 171 rfl) rfl
theorem q1252 : (Jvm.Cond.code ({ cls := "GhostAssize", name := "down", desc := "(I)I" } : Jvm.MethodName) prog_1_method_28_code (3 : Nat) (Option.some Jvm.ClassFile.FieldType.int)) ∈ lw_all := lw_g (lw_at lw_m5 172 rfl) rfl
theorem q1257 : (Jvm.Cond.instanceMethod ({ cls := "GhostAssize", name := "mend", desc := "(I)I" } : Jvm.MethodName)) ∈ lw_all := lw_g (lw_at lw_m5 177 rfl) rfl
theorem q1258 : (Jvm.Cond.selects "GhostAssize" ({ cls := "GhostAssize", name := "mend", desc := "(I)I" } : Jvm.MethodName) ({ cls := "GhostAssize", name := "mend", desc := "(I)I" } : Jvm.MethodName)) ∈ lw_all := lw_g (lw_at lw_m5 178 rfl) rfl
theorem q1259 : (Jvm.Cond.code ({ cls := "GhostAssize", name := "mend", desc := "(I)I" } : Jvm.MethodName) prog_1_method_29_code (4 : Nat) (Option.some Jvm.ClassFile.FieldType.int)) ∈ lw_all := lw_g (lw_at lw_m5 179 rfl) rfl
theorem q1264 : (Jvm.Cond.instanceMethod ({ cls := "GhostAssize", name := "recall", desc := "(I)V" } : Jvm.MethodName)) ∈ lw_all := lw_g (lw_at lw_m5 184 rfl) rfl
theorem q1265 : (Jvm.Cond.selects "GhostAssize" ({ cls := "GhostAssize", name := "recall", desc := "(I)V" } : Jvm.MethodName) ({ cls := "GhostAssize", name := "recall", desc := "(I)V" } : Jvm.MethodName)) ∈ lw_all := lw_g (lw_at lw_m5 185 rfl) rfl
theorem q1266 : (Jvm.Cond.code ({ cls := "GhostAssize", name := "recall", desc := "(I)V" } : Jvm.MethodName) prog_1_method_30_code (3 : Nat) (Option.none : Option Jvm.ClassFile.FieldType)) ∈ lw_all := lw_g (lw_at lw_m5 186 rfl) rfl
theorem q1271 : (Jvm.Cond.instanceMethod ({ cls := "GhostAssize", name := "inside", desc := "(I)I" } : Jvm.MethodName)) ∈ lw_all := lw_g (lw_at lw_m5 191 rfl) rfl
theorem q1272 : (Jvm.Cond.selects "GhostAssize" ({ cls := "GhostAssize", name := "inside", desc := "(I)I" } : Jvm.MethodName) ({ cls := "GhostAssize", name := "inside", desc := "(I)I" } : Jvm.MethodName)) ∈ lw_all := lw_g (lw_at lw_m5 192 rfl) rfl
theorem q1273 : (Jvm.Cond.code ({ cls := "GhostAssize", name := "inside", desc := "(I)I" } : Jvm.MethodName) prog_1_method_31_code (3 : Nat) (Option.some Jvm.ClassFile.FieldType.int)) ∈ lw_all := lw_g (lw_at lw_m5 193 rfl) rfl
theorem q1278 : (Jvm.Cond.instanceMethod ({ cls := "GhostAssize", name := "calm", desc := "(I)I" } : Jvm.MethodName)) ∈ lw_all := lw_g (lw_at lw_m5 198 rfl) rfl
theorem q1279 : (Jvm.Cond.selects "GhostAssize" ({ cls := "GhostAssize", name := "calm", desc := "(I)I" } : Jvm.MethodName) ({ cls := "GhostAssize", name := "calm", desc := "(I)I" } : Jvm.MethodName)) ∈ lw_all := lw_g (lw_at lw_m5 199 rfl) rfl
theorem q1280 : (Jvm.Cond.code ({ cls := "GhostAssize", name := "calm", desc := "(I)I" } : Jvm.MethodName) prog_1_method_32_code (3 : Nat) (Option.some Jvm.ClassFile.FieldType.int)) ∈ lw_all := lw_g (lw_at lw_m5 200 rfl) rfl
theorem q1285 : (Jvm.Cond.instanceMethod ({ cls := "GhostAssize", name := "mornings", desc := "(I)I" } : Jvm.MethodName)) ∈ lw_all := lw_g (lw_at lw_m5 205 rfl) rfl
theorem q1286 : (Jvm.Cond.selects "GhostAssize" ({ cls := "GhostAssize", name := "mornings", desc := "(I)I" } : Jvm.MethodName) ({ cls := "GhostAssize", name := "mornings", desc := "(I)I" } : Jvm.MethodName)) ∈ lw_all := lw_g (lw_at lw_m5 206 rfl) rfl
theorem q1287 : (Jvm.Cond.code ({ cls := "GhostAssize", name := "mornings", desc := "(I)I" } : Jvm.MethodName) prog_1_method_33_code (5 : Nat) (Option.some Jvm.ClassFile.FieldType.int)) ∈ lw_all := lw_g (lw_at lw_m5 207 rfl) rfl
theorem q1288 : (Jvm.Cond.methodLink "GhostAssize" (277 : Nat) ({ cls := "java/lang/Math", name := "max", desc := "(II)I" } : Jvm.MethodName)) ∈ lw_all := lw_g (lw_at lw_m5 208 rfl) rfl
theorem q1293 : (Jvm.Cond.instanceMethod ({ cls := "GhostAssize", name := "straight", desc := "(I)I" } : Jvm.MethodName)) ∈ lw_all := lw_g (lw_at lw_m5 213 rfl) rfl
theorem q1294 : (Jvm.Cond.selects "GhostAssize" ({ cls := "GhostAssize", name := "straight", desc := "(I)I" } : Jvm.MethodName) ({ cls := "GhostAssize", name := "straight", desc := "(I)I" } : Jvm.MethodName)) ∈ lw_all := lw_g (lw_at lw_m5 214 rfl) rfl
theorem q1295 : (Jvm.Cond.code ({ cls := "GhostAssize", name := "straight", desc := "(I)I" } : Jvm.MethodName) prog_1_method_34_code (2 : Nat) (Option.some Jvm.ClassFile.FieldType.int)) ∈ lw_all := lw_g (lw_at lw_m5 215 rfl) rfl
theorem q1300 : (Jvm.Cond.instanceMethod ({ cls := "GhostAssize", name := "tense", desc := "(II)I" } : Jvm.MethodName)) ∈ lw_all := lw_g (lw_at lw_m5 220 rfl) rfl
theorem q1301 : (Jvm.Cond.selects "GhostAssize" ({ cls := "GhostAssize", name := "tense", desc := "(II)I" } : Jvm.MethodName) ({ cls := "GhostAssize", name := "tense", desc := "(II)I" } : Jvm.MethodName)) ∈ lw_all := lw_g (lw_at lw_m5 221 rfl) rfl
theorem q1302 : (Jvm.Cond.code ({ cls := "GhostAssize", name := "tense", desc := "(II)I" } : Jvm.MethodName) prog_1_method_35_code (6 : Nat) (Option.some Jvm.ClassFile.FieldType.int)) ∈ lw_all := lw_g (lw_at lw_m5 222 rfl) rfl
theorem q1307 : (Jvm.Cond.instanceMethod ({ cls := "GhostAssize", name := "ways", desc := "(I)I" } : Jvm.MethodName)) ∈ lw_all := lw_g (lw_at lw_m5 227 rfl) rfl
theorem q1308 : (Jvm.Cond.selects "GhostAssize" ({ cls := "GhostAssize", name := "ways", desc := "(I)I" } : Jvm.MethodName) ({ cls := "GhostAssize", name := "ways", desc := "(I)I" } : Jvm.MethodName)) ∈ lw_all := lw_g (lw_at lw_m5 228 rfl) rfl
theorem q1309 : (Jvm.Cond.code ({ cls := "GhostAssize", name := "ways", desc := "(I)I" } : Jvm.MethodName) prog_1_method_36_code (2 : Nat) (Option.some Jvm.ClassFile.FieldType.int)) ∈ lw_all := lw_g (lw_at lw_m5 229 rfl) rfl
theorem q1314 : (Jvm.Cond.instanceMethod ({ cls := "GhostAssize", name := "at", desc := "(II)I" } : Jvm.MethodName)) ∈ lw_all := lw_g (lw_at lw_m5 234 rfl) rfl
theorem q1315 : (Jvm.Cond.selects "GhostAssize" ({ cls := "GhostAssize", name := "at", desc := "(II)I" } : Jvm.MethodName) ({ cls := "GhostAssize", name := "at", desc := "(II)I" } : Jvm.MethodName)) ∈ lw_all := lw_g (lw_at lw_m5 235 rfl) rfl
theorem q1316 : (Jvm.Cond.code ({ cls := "GhostAssize", name := "at", desc := "(II)I" } : Jvm.MethodName) prog_1_method_37_code (4 : Nat) (Option.some Jvm.ClassFile.FieldType.int)) ∈ lw_all := lw_g (lw_at lw_m5 236 rfl) rfl
theorem q1321 : (Jvm.Cond.instanceMethod ({ cls := "GhostAssize", name := "odds", desc := "(I)I" } : Jvm.MethodName)) ∈ lw_all := lw_g (lw_at lw_m6 1 rfl) rfl
theorem q1322 : (Jvm.Cond.selects "GhostAssize" ({ cls := "GhostAssize", name := "odds", desc := "(I)I" } : Jvm.MethodName) ({ cls := "GhostAssize", name := "odds", desc := "(I)I" } : Jvm.MethodName)) ∈ lw_all := lw_g (lw_at lw_m6 2 rfl) rfl
theorem q1323 : (Jvm.Cond.code ({ cls := "GhostAssize", name := "odds", desc := "(I)I" } : Jvm.MethodName) prog_1_method_39_code (2 : Nat) (Option.some Jvm.ClassFile.FieldType.int)) ∈ lw_all := lw_g (lw_at lw_m6 3 rfl) rfl
theorem q1328 : (Jvm.Cond.instanceMethod ({ cls := "GhostAssize", name := "found", desc := "(IZ)I" } : Jvm.MethodName)) ∈ lw_all := lw_g (lw_at lw_m6 8 rfl) rfl
theorem q1329 : (Jvm.Cond.selects "GhostAssize" ({ cls := "GhostAssize", name := "found", desc := "(IZ)I" } : Jvm.MethodName) ({ cls := "GhostAssize", name := "found", desc := "(IZ)I" } : Jvm.MethodName)) ∈ lw_all := lw_g (lw_at lw_m6 9 rfl) rfl
theorem q1330 : (Jvm.Cond.code ({ cls := "GhostAssize", name := "found", desc := "(IZ)I" } : Jvm.MethodName) prog_1_method_46_code (6 : Nat) (Option.some Jvm.ClassFile.FieldType.int)) ∈ lw_all := lw_g (lw_at lw_m6 10 rfl) rfl
theorem q1331 : (Jvm.Cond.methodLink "GhostAssize" (306 : Nat) ({ cls := "GhostAssize", name := "hears", desc := "(I)I" } : Jvm.MethodName)) ∈ lw_all := lw_g (lw_at lw_m6 11 rfl) rfl
theorem q1332 : (Jvm.Cond.privateMethod ({ cls := "GhostAssize", name := "hears", desc := "(I)I" } : Jvm.MethodName)) ∈ lw_tbl := lw_at lw_m6 12 rfl
theorem q1333 : (Jvm.Cond.instanceMethod ({ cls := "GhostAssize", name := "hears", desc := "(I)I" } : Jvm.MethodName)) ∈ lw_all := lw_g (lw_at lw_m6 13 rfl) rfl
theorem q1334 : (Jvm.Cond.code ({ cls := "GhostAssize", name := "hears", desc := "(I)I" } : Jvm.MethodName) prog_1_method_45_code (8 : Nat) (Option.some Jvm.ClassFile.FieldType.int)) ∈ lw_all := lw_g (lw_at lw_m6 14 rfl) rfl
theorem q1339 : (Jvm.Cond.instanceMethod ({ cls := "GhostAssize", name := "ask", desc := "(I)I" } : Jvm.MethodName)) ∈ lw_all := lw_g (lw_at lw_m6 19 rfl) rfl
theorem q1340 : (Jvm.Cond.selects "GhostAssize" ({ cls := "GhostAssize", name := "ask", desc := "(I)I" } : Jvm.MethodName) ({ cls := "GhostAssize", name := "ask", desc := "(I)I" } : Jvm.MethodName)) ∈ lw_all := lw_g (lw_at lw_m6 20 rfl) rfl
theorem q1341 : (Jvm.Cond.code ({ cls := "GhostAssize", name := "ask", desc := "(I)I" } : Jvm.MethodName) prog_1_method_48_code (7 : Nat) (Option.some Jvm.ClassFile.FieldType.int)) ∈ lw_all := lw_g (lw_at lw_m6 21 rfl) rfl
theorem q1342 : (Jvm.Cond.methodLink "GhostAssize" (310 : Nat) ({ cls := "GhostAssize", name := "part", desc := "(I)I" } : Jvm.MethodName)) ∈ lw_all := lw_g (lw_at lw_m6 22 rfl) rfl
theorem q1343 : (Jvm.Cond.privateMethod ({ cls := "GhostAssize", name := "part", desc := "(I)I" } : Jvm.MethodName)) ∈ lw_tbl := lw_at lw_m6 23 rfl
theorem q1344 : (Jvm.Cond.instanceMethod ({ cls := "GhostAssize", name := "part", desc := "(I)I" } : Jvm.MethodName)) ∈ lw_all := lw_g (lw_at lw_m6 24 rfl) rfl
theorem q1345 : (Jvm.Cond.code ({ cls := "GhostAssize", name := "part", desc := "(I)I" } : Jvm.MethodName) prog_1_method_47_code (6 : Nat) (Option.some Jvm.ClassFile.FieldType.int)) ∈ lw_all := lw_g (lw_at lw_m6 25 rfl) rfl
theorem q1350 : (Jvm.Cond.instanceMethod ({ cls := "GhostAssize", name := "car", desc := "(II)I" } : Jvm.MethodName)) ∈ lw_all := lw_g (lw_at lw_m6 30 rfl) rfl
theorem q1351 : (Jvm.Cond.selects "GhostAssize" ({ cls := "GhostAssize", name := "car", desc := "(II)I" } : Jvm.MethodName) ({ cls := "GhostAssize", name := "car", desc := "(II)I" } : Jvm.MethodName)) ∈ lw_all := lw_g (lw_at lw_m6 31 rfl) rfl
theorem q1352 : (Jvm.Cond.code ({ cls := "GhostAssize", name := "car", desc := "(II)I" } : Jvm.MethodName) prog_1_method_49_code (10 : Nat) (Option.some Jvm.ClassFile.FieldType.int)) ∈ lw_all := lw_g (lw_at lw_m6 32 rfl) rfl
theorem q1357 : (Jvm.Cond.instanceMethod ({ cls := "GhostAssize", name := "corners", desc := "(I)I" } : Jvm.MethodName)) ∈ lw_all := lw_g (lw_at lw_m6 37 rfl) rfl
theorem q1358 : (Jvm.Cond.selects "GhostAssize" ({ cls := "GhostAssize", name := "corners", desc := "(I)I" } : Jvm.MethodName) ({ cls := "GhostAssize", name := "corners", desc := "(I)I" } : Jvm.MethodName)) ∈ lw_all := lw_g (lw_at lw_m6 38 rfl) rfl
theorem q1359 : (Jvm.Cond.code ({ cls := "GhostAssize", name := "corners", desc := "(I)I" } : Jvm.MethodName) prog_1_method_50_code (6 : Nat) (Option.some Jvm.ClassFile.FieldType.int)) ∈ lw_all := lw_g (lw_at lw_m6 39 rfl) rfl
theorem q1364 : (Jvm.Cond.instanceMethod ({ cls := "GhostAssize", name := "usher", desc := "(I)I" } : Jvm.MethodName)) ∈ lw_all := lw_g (lw_at lw_m6 44 rfl) rfl
theorem q1365 : (Jvm.Cond.selects "GhostAssize" ({ cls := "GhostAssize", name := "usher", desc := "(I)I" } : Jvm.MethodName) ({ cls := "GhostAssize", name := "usher", desc := "(I)I" } : Jvm.MethodName)) ∈ lw_all := lw_g (lw_at lw_m6 45 rfl) rfl
theorem q1366 : (Jvm.Cond.code ({ cls := "GhostAssize", name := "usher", desc := "(I)I" } : Jvm.MethodName) prog_1_method_61_code (9 : Nat) (Option.some Jvm.ClassFile.FieldType.int)) ∈ lw_all := lw_g (lw_at lw_m6 46 rfl) rfl
theorem q1367 : (Jvm.Cond.methodLink "GhostAssize" (328 : Nat) ({ cls := "GhostAssize", name := "isChoice", desc := "(I)Z" } : Jvm.MethodName)) ∈ lw_all := lw_g (lw_at lw_m6 47 rfl) rfl
theorem q1368 : (Jvm.Cond.privateMethod ({ cls := "GhostAssize", name := "isChoice", desc := "(I)Z" } : Jvm.MethodName)) ∈ lw_tbl := lw_at lw_m6 48 rfl
theorem q1369 : (Jvm.Cond.instanceMethod ({ cls := "GhostAssize", name := "isChoice", desc := "(I)Z" } : Jvm.MethodName)) ∈ lw_all := lw_g (lw_at lw_m6 49 rfl) rfl
theorem q1370 : (Jvm.Cond.code ({ cls := "GhostAssize", name := "isChoice", desc := "(I)Z" } : Jvm.MethodName) prog_1_method_60_code (2 : Nat) (Option.some Jvm.ClassFile.FieldType.boolean)) ∈ lw_all := lw_g (lw_at lw_m6 50 rfl) rfl
theorem q1371 : (Jvm.Cond.methodLink "GhostAssize" (332 : Nat) ({ cls := "GhostAssize", name := "screamsBy", desc := "(LGhostAssize$One;II)Z" } : Jvm.MethodName)) ∈ lw_all := lw_g (lw_at lw_m6 51 rfl) rfl
theorem q1372 : (Jvm.Cond.privateMethod ({ cls := "GhostAssize", name := "screamsBy", desc := "(LGhostAssize$One;II)Z" } : Jvm.MethodName)) ∈ lw_tbl := lw_at lw_m6 52 rfl
theorem q1373 : (Jvm.Cond.instanceMethod ({ cls := "GhostAssize", name := "screamsBy", desc := "(LGhostAssize$One;II)Z" } : Jvm.MethodName)) ∈ lw_all := lw_g (lw_at lw_m6 53 rfl) rfl
theorem q1374 : (Jvm.Cond.code ({ cls := "GhostAssize", name := "screamsBy", desc := "(LGhostAssize$One;II)Z" } : Jvm.MethodName) prog_1_method_59_code (5 : Nat) (Option.some Jvm.ClassFile.FieldType.boolean)) ∈ lw_all := lw_g (lw_at lw_m6 54 rfl) rfl
theorem q1379 : (Jvm.Cond.instanceMethod ({ cls := "GhostAssize", name := "lasts", desc := "(II)I" } : Jvm.MethodName)) ∈ lw_all := lw_g (lw_at lw_m6 59 rfl) rfl
theorem q1380 : (Jvm.Cond.selects "GhostAssize" ({ cls := "GhostAssize", name := "lasts", desc := "(II)I" } : Jvm.MethodName) ({ cls := "GhostAssize", name := "lasts", desc := "(II)I" } : Jvm.MethodName)) ∈ lw_all := lw_g (lw_at lw_m6 60 rfl) rfl
theorem q1381 : (Jvm.Cond.code ({ cls := "GhostAssize", name := "lasts", desc := "(II)I" } : Jvm.MethodName) prog_1_method_62_code (6 : Nat) (Option.some Jvm.ClassFile.FieldType.int)) ∈ lw_all := lw_g (lw_at lw_m6 61 rfl) rfl
theorem q1386 : (Jvm.Cond.instanceMethod ({ cls := "GhostAssize", name := "share", desc := "(II)I" } : Jvm.MethodName)) ∈ lw_all := lw_g (lw_at lw_m6 66 rfl) rfl
theorem q1387 : (Jvm.Cond.selects "GhostAssize" ({ cls := "GhostAssize", name := "share", desc := "(II)I" } : Jvm.MethodName) ({ cls := "GhostAssize", name := "share", desc := "(II)I" } : Jvm.MethodName)) ∈ lw_all := lw_g (lw_at lw_m6 67 rfl) rfl
theorem q1388 : (Jvm.Cond.code ({ cls := "GhostAssize", name := "share", desc := "(II)I" } : Jvm.MethodName) prog_1_method_64_code (9 : Nat) (Option.some Jvm.ClassFile.FieldType.int)) ∈ lw_all := lw_g (lw_at lw_m6 68 rfl) rfl
theorem q1393 : (Jvm.Cond.instanceMethod ({ cls := "GhostAssize", name := "trial", desc := "(I)I" } : Jvm.MethodName)) ∈ lw_all := lw_g (lw_at lw_m6 73 rfl) rfl
theorem q1394 : (Jvm.Cond.selects "GhostAssize" ({ cls := "GhostAssize", name := "trial", desc := "(I)I" } : Jvm.MethodName) ({ cls := "GhostAssize", name := "trial", desc := "(I)I" } : Jvm.MethodName)) ∈ lw_all := lw_g (lw_at lw_m6 74 rfl) rfl
theorem q1395 : (Jvm.Cond.code ({ cls := "GhostAssize", name := "trial", desc := "(I)I" } : Jvm.MethodName) prog_1_method_68_code (4 : Nat) (Option.some Jvm.ClassFile.FieldType.int)) ∈ lw_all := lw_g (lw_at lw_m6 75 rfl) rfl
theorem q1396 : (Jvm.Cond.methodLink "GhostAssize" (342 : Nat) ({ cls := "GhostAssize", name := "goOn", desc := "(I)I" } : Jvm.MethodName)) ∈ lw_all := lw_g (lw_at lw_m6 76 rfl) rfl
theorem q1397 : (Jvm.Cond.privateMethod ({ cls := "GhostAssize", name := "goOn", desc := "(I)I" } : Jvm.MethodName)) ∈ lw_tbl := lw_at lw_m6 77 rfl
theorem q1398 : (Jvm.Cond.instanceMethod ({ cls := "GhostAssize", name := "goOn", desc := "(I)I" } : Jvm.MethodName)) ∈ lw_all := lw_g (lw_at lw_m6 78 rfl) rfl
theorem q1399 : (Jvm.Cond.code ({ cls := "GhostAssize", name := "goOn", desc := "(I)I" } : Jvm.MethodName) prog_1_method_67_code (5 : Nat) (Option.some Jvm.ClassFile.FieldType.int)) ∈ lw_all := lw_g (lw_at lw_m6 79 rfl) rfl
theorem q1404 : (Jvm.Cond.instanceMethod ({ cls := "GhostAssize", name := "span", desc := "(IZ)I" } : Jvm.MethodName)) ∈ lw_all := lw_g (lw_at lw_m6 84 rfl) rfl
theorem q1405 : (Jvm.Cond.selects "GhostAssize" ({ cls := "GhostAssize", name := "span", desc := "(IZ)I" } : Jvm.MethodName) ({ cls := "GhostAssize", name := "span", desc := "(IZ)I" } : Jvm.MethodName)) ∈ lw_all := lw_g (lw_at lw_m6 85 rfl) rfl
theorem q1406 : (Jvm.Cond.code ({ cls := "GhostAssize", name := "span", desc := "(IZ)I" } : Jvm.MethodName) prog_1_method_69_code (7 : Nat) (Option.some Jvm.ClassFile.FieldType.int)) ∈ lw_all := lw_g (lw_at lw_m6 86 rfl) rfl
theorem q1411 : (Jvm.Cond.instanceMethod ({ cls := "GhostAssize", name := "led", desc := "(IZ)I" } : Jvm.MethodName)) ∈ lw_all := lw_g (lw_at lw_m6 91 rfl) rfl
theorem q1412 : (Jvm.Cond.selects "GhostAssize" ({ cls := "GhostAssize", name := "led", desc := "(IZ)I" } : Jvm.MethodName) ({ cls := "GhostAssize", name := "led", desc := "(IZ)I" } : Jvm.MethodName)) ∈ lw_all := lw_g (lw_at lw_m6 92 rfl) rfl
theorem q1413 : (Jvm.Cond.code ({ cls := "GhostAssize", name := "led", desc := "(IZ)I" } : Jvm.MethodName) prog_1_method_70_code (5 : Nat) (Option.some Jvm.ClassFile.FieldType.int)) ∈ lw_all := lw_g (lw_at lw_m6 93 rfl) rfl
theorem q1414 : (Jvm.Cond.methodLink "GhostAssize" (345 : Nat) ({ cls := "GhostAssize$State", name := "isKept", desc := "(I)Z" } : Jvm.MethodName)) ∈ lw_all := lw_g (lw_at lw_m6 94 rfl) rfl
theorem q1419 : (Jvm.Cond.methodLink "GhostAssize" (348 : Nat) ({ cls := "GhostAssize$State", name := "row", desc := "(II)I" } : Jvm.MethodName)) ∈ lw_all := lw_g (lw_at lw_m6 99 rfl) rfl
theorem q1428 : (Jvm.Cond.instanceMethod ({ cls := "GhostAssize", name := "log", desc := "(II)I" } : Jvm.MethodName)) ∈ lw_all := lw_g (lw_at lw_m6 108 rfl) rfl
theorem q1429 : (Jvm.Cond.selects "GhostAssize" ({ cls := "GhostAssize", name := "log", desc := "(II)I" } : Jvm.MethodName) ({ cls := "GhostAssize", name := "log", desc := "(II)I" } : Jvm.MethodName)) ∈ lw_all := lw_g (lw_at lw_m6 109 rfl) rfl
theorem q1430 : (Jvm.Cond.code ({ cls := "GhostAssize", name := "log", desc := "(II)I" } : Jvm.MethodName) prog_1_method_71_code (3 : Nat) (Option.some Jvm.ClassFile.FieldType.int)) ∈ lw_all := lw_g (lw_at lw_m6 110 rfl) rfl
theorem q1431 : (Jvm.Cond.methodLink "GhostAssize" (350 : Nat) ({ cls := "GhostAssize", name := "thereIs", desc := "(Z)V" } : Jvm.MethodName)) ∈ lw_all := lw_g (lw_at lw_m6 111 rfl) rfl
theorem q1432 : (Jvm.Cond.static ({ cls := "GhostAssize", name := "thereIs", desc := "(Z)V" } : Jvm.MethodName)) ∈ lw_all := lw_g (lw_at lw_m6 112 rfl) rfl
theorem q1433 : (Jvm.Cond.code ({ cls := "GhostAssize", name := "thereIs", desc := "(Z)V" } : Jvm.MethodName) prog_1_method_5_code (1 : Nat) (Option.none : Option Jvm.ClassFile.FieldType)) ∈ lw_all := lw_g (lw_at lw_m6 113 rfl) rfl
theorem q2104 : (Jvm.Cond.castable "GhostAssize" "java/lang/Object") ∈ lw_tbl := lw_at lw_m9 64 rfl
theorem in_X1 : ∀ w ∈ wsX10, w ∈ lw_all := lw_in wsX10 [480, 482, 484, 486, 488, 490, 492, 494, 496, 498, 500, 502, 504, 506, 508, 510, 512, 514, 516] (by decide +kernel) (by decide +kernel)
