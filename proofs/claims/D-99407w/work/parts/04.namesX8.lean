/-! GhostAssizeModel -/
set_option maxRecDepth 100000
def RX8 : String := "GhostAssizeModel"
def TX8 : u_T := fun k => match k with
  | 0 => ("GhostAssizeModel", "thrown", "I", false)
  | 1 => ("GhostAssizeModel", "world", "[I", true)
  | 2 => ("GhostAssizeModel", "image", "[I", true)
  | 3 => ("GhostAssizeModel", "before", "[I", true)
  | 4 => ("GhostAssizeModel", "trial", "[I", true)
  | 5 => ("GhostAssizeModel", "acts", "[I", true)
  | 6 => ("GhostAssizeModel", "hasImage", "Z", false)
  | 7 => ("GhostAssizeModel", "remembered", "I", false)
  | 8 => ("GhostAssizeModel", "tape", "[B", true)
  | 9 => ("GhostAssizeModel", "taped", "I", false)
  | 10 => ("GhostAssizeModel", "point", "I", false)
  | 11 => ("GhostAssizeModel", "end", "I", false)
  | 12 => ("GhostAssizeModel", "begin", "I", false)
  | 13 => ("GhostAssizeModel", "deep", "I", false)
  | 14 => ("GhostAssizeModel", "faultAt", "I", false)
  | 15 => ("GhostAssizeModel", "five", "[I", true)
  | 16 => ("GhostAssizeModel", "steps", "I", false)
  | 17 => ("GhostAssizeModel", "value", "[I", true)
  | 18 => ("GhostAssizeModel", "itsDeeds", "I", false)
  | 19 => ("GhostAssizeModel", "itsNerve", "I", false)
  | 20 => ("GhostAssizeModel", "itsKnows", "I", false)
  | 21 => ("GhostAssizeModel", "itsProp", "I", false)
  | 22 => ("GhostAssizeModel", "itsTense", "I", false)
  | 23 => ("GhostAssizeModel", "taken", "I", false)
  | 24 => ("GhostAssizeModel", "eased", "I", false)
  | 25 => ("GhostAssizeModel", "tenseAt", "[I", true)
  | 26 => ("GhostAssizeModel", "frightAt", "[I", true)
  | 27 => ("GhostAssizeModel", "wore", "[I", true)
  | 28 => ("GhostAssizeModel", "screamedAt", "I", false)
  | 29 => ("GhostAssizeModel", "comeTo", "I", false)
  | 30 => ("GhostAssizeModel", "tenseNow", "I", false)
  | 31 => ("GhostAssizeModel", "tenseOne", "I", false)
  | 32 => ("GhostAssizeModel", "tenseOther", "I", false)
  | 33 => ("GhostAssizeModel", "rows", "[I", true)
  | 34 => ("GhostAssizeModel", "then", "[I", true)
  | 35 => ("GhostAssizeModel", "screams", "[I", true)
  | 36 => ("GhostAssizeModel", "allRows", "I", false)
  | _ => ("GhostAssizeModel", "frights", "[I", true)
def tyX8 : Nat → FieldType := fun k => match k with
  | 0 => .int
  | 1 => .array .int
  | 2 => .array .int
  | 3 => .array .int
  | 4 => .array .int
  | 5 => .array .int
  | 6 => .boolean
  | 7 => .int
  | 8 => .array .byte
  | 9 => .int
  | 10 => .int
  | 11 => .int
  | 12 => .int
  | 13 => .int
  | 14 => .int
  | 15 => .array .int
  | 16 => .int
  | 17 => .array .int
  | 18 => .int
  | 19 => .int
  | 20 => .int
  | 21 => .int
  | 22 => .int
  | 23 => .int
  | 24 => .int
  | 25 => .array .int
  | 26 => .array .int
  | 27 => .array .int
  | 28 => .int
  | 29 => .int
  | 30 => .int
  | 31 => .int
  | 32 => .int
  | 33 => .array .int
  | 34 => .array .int
  | 35 => .array .int
  | 36 => .int
  | _ => .array .int
abbrev wsX80 : List Cond := u_ws RX8 TX8 38
set_option maxRecDepth 100000 in
theorem nmX8 : ∀ a, a < 38 → ∀ b, b < 38 → a ≠ b → (TX8 a).2.1 ≠ (TX8 b).2.1 := by decide +kernel
set_option maxRecDepth 100000 in
theorem tyX8_ok : ∀ k, k < 38 → parseFieldDescriptor (TX8 k).2.2.1 = some (tyX8 k) := by decide +kernel
abbrev cX8_thrown : ByteArray := prog_18_method_1_code
def yX8_thrown : MethodName := ⟨RX8, "thrown", "()I"⟩
theorem dX8_thrown_0 : decode cX8_thrown 0 = .ok (.aload_n 0, 1) := by decide +kernel
theorem dX8_thrown_1 : decode cX8_thrown 1 = .ok (.getfield 3, 3) := by decide +kernel
theorem dX8_thrown_4 : decode cX8_thrown 4 = .ok (.ireturn, 1) := by decide +kernel
abbrev cX8_init : ByteArray := prog_18_method_5_code
def yX8_init : MethodName := ⟨RX8, "<init>", "()V"⟩
def dkwX8_init_6 : List UInt8 := [8, 5, 79, 42, 180, 0, 13, 16, 6, 16, 10, 79, 42, 180, 0, 13, 16, 8, 4, 79, 177]
abbrev dktX8_init_6 : List UInt8 := dkwX8_init_6 ++ []
def dkwX8_init_5 : List UInt8 := [181, 0, 54, 42, 16, 10, 188, 10, 181, 0, 57, 42, 17, 2, 128, 188, 10, 181, 0, 60, 42, 180, 0, 13]
abbrev dktX8_init_5 : List UInt8 := dkwX8_init_5 ++ dktX8_init_6
def dkwX8_init_4 : List UInt8 := [181, 0, 45, 42, 16, 8, 188, 10, 181, 0, 48, 42, 16, 61, 188, 10, 181, 0, 51, 42, 16, 61, 188, 10]
abbrev dktX8_init_4 : List UInt8 := dkwX8_init_4 ++ dktX8_init_5
def dkwX8_init_3 : List UInt8 := [42, 17, 1, 144, 188, 10, 181, 0, 39, 42, 16, 10, 188, 10, 181, 0, 42, 42, 16, 10, 188, 10]
abbrev dktX8_init_3 : List UInt8 := dkwX8_init_3 ++ dktX8_init_4
def dkwX8_init_2 : List UInt8 := [181, 0, 26, 42, 17, 1, 144, 188, 8, 181, 0, 29, 42, 2, 181, 0, 33, 42, 8, 188, 10, 181, 0, 36]
abbrev dktX8_init_2 : List UInt8 := dkwX8_init_2 ++ dktX8_init_3
def dkwX8_init_1 : List UInt8 := [17, 4, 130, 188, 10, 181, 0, 20, 42, 17, 1, 49, 188, 10, 181, 0, 23, 42, 17, 14, 76, 188, 10]
abbrev dktX8_init_1 : List UInt8 := dkwX8_init_1 ++ dktX8_init_2
def dkwX8_init_0 : List UInt8 := [42, 183, 0, 7, 42, 17, 7, 211, 188, 10, 181, 0, 13, 42, 17, 4, 130, 188, 10, 181, 0, 17, 42]
abbrev dktX8_init_0 : List UInt8 := dkwX8_init_0 ++ dktX8_init_1
theorem dksX8_init_0 : cX8_init.data.toList.drop 0 = dktX8_init_0 := by decide +kernel
theorem dksX8_init_1 : cX8_init.data.toList.drop 23 = dktX8_init_1 := dk_seg dksX8_init_0 23 rfl rfl
theorem dksX8_init_2 : cX8_init.data.toList.drop 46 = dktX8_init_2 := dk_seg dksX8_init_1 23 rfl rfl
theorem dksX8_init_3 : cX8_init.data.toList.drop 70 = dktX8_init_3 := dk_seg dksX8_init_2 24 rfl rfl
theorem dksX8_init_4 : cX8_init.data.toList.drop 92 = dktX8_init_4 := dk_seg dksX8_init_3 22 rfl rfl
theorem dksX8_init_5 : cX8_init.data.toList.drop 116 = dktX8_init_5 := dk_seg dksX8_init_4 24 rfl rfl
theorem dksX8_init_6 : cX8_init.data.toList.drop 140 = dktX8_init_6 := dk_seg dksX8_init_5 24 rfl rfl
theorem dX8_init_0 : decode cX8_init 0 = .ok (.aload_n 0, 1) := dk_42 (dk_at dksX8_init_0 0 rfl rfl)
theorem dX8_init_1 : decode cX8_init 1 = .ok (.invokespecial 7, 3) := dk_183 0 7 (dk_at dksX8_init_0 1 rfl rfl)
theorem dX8_init_4 : decode cX8_init 4 = .ok (.aload_n 0, 1) := dk_42 (dk_at dksX8_init_0 4 rfl rfl)
theorem dX8_init_5 : decode cX8_init 5 = .ok (.sipush 2003, 3) := dk_17 7 211 (dk_at dksX8_init_0 5 rfl rfl)
theorem dX8_init_8 : decode cX8_init 8 = .ok (.newarray .int, 2) := dk_188_10 (dk_at dksX8_init_0 8 rfl rfl)
theorem dX8_init_10 : decode cX8_init 10 = .ok (.putfield 13, 3) := dk_181 0 13 (dk_at dksX8_init_0 10 rfl rfl)
theorem dX8_init_13 : decode cX8_init 13 = .ok (.aload_n 0, 1) := dk_42 (dk_at dksX8_init_0 13 rfl rfl)
theorem dX8_init_14 : decode cX8_init 14 = .ok (.sipush 1154, 3) := dk_17 4 130 (dk_at dksX8_init_0 14 rfl rfl)
theorem dX8_init_17 : decode cX8_init 17 = .ok (.newarray .int, 2) := dk_188_10 (dk_at dksX8_init_0 17 rfl rfl)
theorem dX8_init_19 : decode cX8_init 19 = .ok (.putfield 17, 3) := dk_181 0 17 (dk_at dksX8_init_0 19 rfl rfl)
theorem dX8_init_22 : decode cX8_init 22 = .ok (.aload_n 0, 1) := dk_42 (dk_at dksX8_init_0 22 rfl rfl)
theorem dX8_init_23 : decode cX8_init 23 = .ok (.sipush 1154, 3) := dk_17 4 130 (dk_at dksX8_init_1 0 rfl rfl)
theorem dX8_init_26 : decode cX8_init 26 = .ok (.newarray .int, 2) := dk_188_10 (dk_at dksX8_init_1 3 rfl rfl)
theorem dX8_init_28 : decode cX8_init 28 = .ok (.putfield 20, 3) := dk_181 0 20 (dk_at dksX8_init_1 5 rfl rfl)
theorem dX8_init_31 : decode cX8_init 31 = .ok (.aload_n 0, 1) := dk_42 (dk_at dksX8_init_1 8 rfl rfl)
theorem dX8_init_32 : decode cX8_init 32 = .ok (.sipush 305, 3) := dk_17 1 49 (dk_at dksX8_init_1 9 rfl rfl)
theorem dX8_init_35 : decode cX8_init 35 = .ok (.newarray .int, 2) := dk_188_10 (dk_at dksX8_init_1 12 rfl rfl)
theorem dX8_init_37 : decode cX8_init 37 = .ok (.putfield 23, 3) := dk_181 0 23 (dk_at dksX8_init_1 14 rfl rfl)
theorem dX8_init_40 : decode cX8_init 40 = .ok (.aload_n 0, 1) := dk_42 (dk_at dksX8_init_1 17 rfl rfl)
theorem dX8_init_41 : decode cX8_init 41 = .ok (.sipush 3660, 3) := dk_17 14 76 (dk_at dksX8_init_1 18 rfl rfl)
theorem dX8_init_44 : decode cX8_init 44 = .ok (.newarray .int, 2) := dk_188_10 (dk_at dksX8_init_1 21 rfl rfl)
theorem dX8_init_46 : decode cX8_init 46 = .ok (.putfield 26, 3) := dk_181 0 26 (dk_at dksX8_init_2 0 rfl rfl)
theorem dX8_init_49 : decode cX8_init 49 = .ok (.aload_n 0, 1) := dk_42 (dk_at dksX8_init_2 3 rfl rfl)
theorem dX8_init_50 : decode cX8_init 50 = .ok (.sipush 400, 3) := dk_17 1 144 (dk_at dksX8_init_2 4 rfl rfl)
theorem dX8_init_53 : decode cX8_init 53 = .ok (.newarray .byte, 2) := dk_188_8 (dk_at dksX8_init_2 7 rfl rfl)
theorem dX8_init_55 : decode cX8_init 55 = .ok (.putfield 29, 3) := dk_181 0 29 (dk_at dksX8_init_2 9 rfl rfl)
theorem dX8_init_58 : decode cX8_init 58 = .ok (.aload_n 0, 1) := dk_42 (dk_at dksX8_init_2 12 rfl rfl)
theorem dX8_init_59 : decode cX8_init 59 = .ok (.iconst (-1), 1) := dk_2 (dk_at dksX8_init_2 13 rfl rfl)
theorem dX8_init_60 : decode cX8_init 60 = .ok (.putfield 33, 3) := dk_181 0 33 (dk_at dksX8_init_2 14 rfl rfl)
theorem dX8_init_63 : decode cX8_init 63 = .ok (.aload_n 0, 1) := dk_42 (dk_at dksX8_init_2 17 rfl rfl)
theorem dX8_init_64 : decode cX8_init 64 = .ok (.iconst 5, 1) := dk_8 (dk_at dksX8_init_2 18 rfl rfl)
theorem dX8_init_65 : decode cX8_init 65 = .ok (.newarray .int, 2) := dk_188_10 (dk_at dksX8_init_2 19 rfl rfl)
theorem dX8_init_67 : decode cX8_init 67 = .ok (.putfield 36, 3) := dk_181 0 36 (dk_at dksX8_init_2 21 rfl rfl)
theorem dX8_init_70 : decode cX8_init 70 = .ok (.aload_n 0, 1) := dk_42 (dk_at dksX8_init_3 0 rfl rfl)
theorem dX8_init_71 : decode cX8_init 71 = .ok (.sipush 400, 3) := dk_17 1 144 (dk_at dksX8_init_3 1 rfl rfl)
theorem dX8_init_74 : decode cX8_init 74 = .ok (.newarray .int, 2) := dk_188_10 (dk_at dksX8_init_3 4 rfl rfl)
theorem dX8_init_76 : decode cX8_init 76 = .ok (.putfield 39, 3) := dk_181 0 39 (dk_at dksX8_init_3 6 rfl rfl)
theorem dX8_init_79 : decode cX8_init 79 = .ok (.aload_n 0, 1) := dk_42 (dk_at dksX8_init_3 9 rfl rfl)
theorem dX8_init_80 : decode cX8_init 80 = .ok (.bipush 10, 2) := dk_16 10 (dk_at dksX8_init_3 10 rfl rfl)
theorem dX8_init_82 : decode cX8_init 82 = .ok (.newarray .int, 2) := dk_188_10 (dk_at dksX8_init_3 12 rfl rfl)
theorem dX8_init_84 : decode cX8_init 84 = .ok (.putfield 42, 3) := dk_181 0 42 (dk_at dksX8_init_3 14 rfl rfl)
theorem dX8_init_87 : decode cX8_init 87 = .ok (.aload_n 0, 1) := dk_42 (dk_at dksX8_init_3 17 rfl rfl)
theorem dX8_init_88 : decode cX8_init 88 = .ok (.bipush 10, 2) := dk_16 10 (dk_at dksX8_init_3 18 rfl rfl)
theorem dX8_init_90 : decode cX8_init 90 = .ok (.newarray .int, 2) := dk_188_10 (dk_at dksX8_init_3 20 rfl rfl)
theorem dX8_init_92 : decode cX8_init 92 = .ok (.putfield 45, 3) := dk_181 0 45 (dk_at dksX8_init_4 0 rfl rfl)
theorem dX8_init_95 : decode cX8_init 95 = .ok (.aload_n 0, 1) := dk_42 (dk_at dksX8_init_4 3 rfl rfl)
theorem dX8_init_96 : decode cX8_init 96 = .ok (.bipush 8, 2) := dk_16 8 (dk_at dksX8_init_4 4 rfl rfl)
theorem dX8_init_98 : decode cX8_init 98 = .ok (.newarray .int, 2) := dk_188_10 (dk_at dksX8_init_4 6 rfl rfl)
theorem dX8_init_100 : decode cX8_init 100 = .ok (.putfield 48, 3) := dk_181 0 48 (dk_at dksX8_init_4 8 rfl rfl)
theorem dX8_init_103 : decode cX8_init 103 = .ok (.aload_n 0, 1) := dk_42 (dk_at dksX8_init_4 11 rfl rfl)
theorem dX8_init_104 : decode cX8_init 104 = .ok (.bipush 61, 2) := dk_16 61 (dk_at dksX8_init_4 12 rfl rfl)
theorem dX8_init_106 : decode cX8_init 106 = .ok (.newarray .int, 2) := dk_188_10 (dk_at dksX8_init_4 14 rfl rfl)
theorem dX8_init_108 : decode cX8_init 108 = .ok (.putfield 51, 3) := dk_181 0 51 (dk_at dksX8_init_4 16 rfl rfl)
theorem dX8_init_111 : decode cX8_init 111 = .ok (.aload_n 0, 1) := dk_42 (dk_at dksX8_init_4 19 rfl rfl)
theorem dX8_init_112 : decode cX8_init 112 = .ok (.bipush 61, 2) := dk_16 61 (dk_at dksX8_init_4 20 rfl rfl)
theorem dX8_init_114 : decode cX8_init 114 = .ok (.newarray .int, 2) := dk_188_10 (dk_at dksX8_init_4 22 rfl rfl)
theorem dX8_init_116 : decode cX8_init 116 = .ok (.putfield 54, 3) := dk_181 0 54 (dk_at dksX8_init_5 0 rfl rfl)
theorem dX8_init_119 : decode cX8_init 119 = .ok (.aload_n 0, 1) := dk_42 (dk_at dksX8_init_5 3 rfl rfl)
theorem dX8_init_120 : decode cX8_init 120 = .ok (.bipush 10, 2) := dk_16 10 (dk_at dksX8_init_5 4 rfl rfl)
theorem dX8_init_122 : decode cX8_init 122 = .ok (.newarray .int, 2) := dk_188_10 (dk_at dksX8_init_5 6 rfl rfl)
theorem dX8_init_124 : decode cX8_init 124 = .ok (.putfield 57, 3) := dk_181 0 57 (dk_at dksX8_init_5 8 rfl rfl)
theorem dX8_init_127 : decode cX8_init 127 = .ok (.aload_n 0, 1) := dk_42 (dk_at dksX8_init_5 11 rfl rfl)
theorem dX8_init_128 : decode cX8_init 128 = .ok (.sipush 640, 3) := dk_17 2 128 (dk_at dksX8_init_5 12 rfl rfl)
theorem dX8_init_131 : decode cX8_init 131 = .ok (.newarray .int, 2) := dk_188_10 (dk_at dksX8_init_5 15 rfl rfl)
theorem dX8_init_133 : decode cX8_init 133 = .ok (.putfield 60, 3) := dk_181 0 60 (dk_at dksX8_init_5 17 rfl rfl)
theorem dX8_init_136 : decode cX8_init 136 = .ok (.aload_n 0, 1) := dk_42 (dk_at dksX8_init_5 20 rfl rfl)
theorem dX8_init_137 : decode cX8_init 137 = .ok (.getfield 13, 3) := dk_180 0 13 (dk_at dksX8_init_5 21 rfl rfl)
theorem dX8_init_140 : decode cX8_init 140 = .ok (.iconst 5, 1) := dk_8 (dk_at dksX8_init_6 0 rfl rfl)
theorem dX8_init_141 : decode cX8_init 141 = .ok (.iconst 2, 1) := dk_5 (dk_at dksX8_init_6 1 rfl rfl)
theorem dX8_init_142 : decode cX8_init 142 = .ok (.iastore, 1) := dk_79 (dk_at dksX8_init_6 2 rfl rfl)
theorem dX8_init_143 : decode cX8_init 143 = .ok (.aload_n 0, 1) := dk_42 (dk_at dksX8_init_6 3 rfl rfl)
theorem dX8_init_144 : decode cX8_init 144 = .ok (.getfield 13, 3) := dk_180 0 13 (dk_at dksX8_init_6 4 rfl rfl)
theorem dX8_init_147 : decode cX8_init 147 = .ok (.bipush 6, 2) := dk_16 6 (dk_at dksX8_init_6 7 rfl rfl)
theorem dX8_init_149 : decode cX8_init 149 = .ok (.bipush 10, 2) := dk_16 10 (dk_at dksX8_init_6 9 rfl rfl)
theorem dX8_init_151 : decode cX8_init 151 = .ok (.iastore, 1) := dk_79 (dk_at dksX8_init_6 11 rfl rfl)
theorem dX8_init_152 : decode cX8_init 152 = .ok (.aload_n 0, 1) := dk_42 (dk_at dksX8_init_6 12 rfl rfl)
theorem dX8_init_153 : decode cX8_init 153 = .ok (.getfield 13, 3) := dk_180 0 13 (dk_at dksX8_init_6 13 rfl rfl)
theorem dX8_init_156 : decode cX8_init 156 = .ok (.bipush 8, 2) := dk_16 8 (dk_at dksX8_init_6 16 rfl rfl)
theorem dX8_init_158 : decode cX8_init 158 = .ok (.iconst 1, 1) := dk_4 (dk_at dksX8_init_6 18 rfl rfl)
theorem dX8_init_159 : decode cX8_init 159 = .ok (.iastore, 1) := dk_79 (dk_at dksX8_init_6 19 rfl rfl)
theorem dX8_init_160 : decode cX8_init 160 = .ok (.return_, 1) := dk_177 (dk_at dksX8_init_6 20 rfl rfl)
abbrev cX8_image : ByteArray := prog_18_method_6_code
def yX8_image : MethodName := ⟨RX8, "image", "()V"⟩
def dkwX8_image_1 : List UInt8 := [46, 79, 132, 1, 1, 167, 255, 234, 42, 4, 181, 0, 63, 177]
abbrev dktX8_image_1 : List UInt8 := dkwX8_image_1 ++ []
def dkwX8_image_0 : List UInt8 := [42, 3, 181, 0, 3, 3, 60, 27, 17, 4, 130, 162, 0, 21, 42, 180, 0, 17, 27, 42, 180, 0, 13, 27]
abbrev dktX8_image_0 : List UInt8 := dkwX8_image_0 ++ dktX8_image_1
theorem dksX8_image_0 : cX8_image.data.toList.drop 0 = dktX8_image_0 := by decide +kernel
theorem dksX8_image_1 : cX8_image.data.toList.drop 24 = dktX8_image_1 := dk_seg dksX8_image_0 24 rfl rfl
theorem dX8_image_0 : decode cX8_image 0 = .ok (.aload_n 0, 1) := dk_42 (dk_at dksX8_image_0 0 rfl rfl)
theorem dX8_image_1 : decode cX8_image 1 = .ok (.iconst 0, 1) := dk_3 (dk_at dksX8_image_0 1 rfl rfl)
theorem dX8_image_2 : decode cX8_image 2 = .ok (.putfield 3, 3) := dk_181 0 3 (dk_at dksX8_image_0 2 rfl rfl)
theorem dX8_image_5 : decode cX8_image 5 = .ok (.iconst 0, 1) := dk_3 (dk_at dksX8_image_0 5 rfl rfl)
theorem dX8_image_6 : decode cX8_image 6 = .ok (.istore_n 1, 1) := dk_60 (dk_at dksX8_image_0 6 rfl rfl)
theorem dX8_image_7 : decode cX8_image 7 = .ok (.iload_n 1, 1) := dk_27 (dk_at dksX8_image_0 7 rfl rfl)
theorem dX8_image_8 : decode cX8_image 8 = .ok (.sipush 1154, 3) := dk_17 4 130 (dk_at dksX8_image_0 8 rfl rfl)
theorem dX8_image_11 : decode cX8_image 11 = .ok (.if_icmp .ge 21, 3) := dk_162 0 21 (dk_at dksX8_image_0 11 rfl rfl)
theorem dX8_image_14 : decode cX8_image 14 = .ok (.aload_n 0, 1) := dk_42 (dk_at dksX8_image_0 14 rfl rfl)
theorem dX8_image_15 : decode cX8_image 15 = .ok (.getfield 17, 3) := dk_180 0 17 (dk_at dksX8_image_0 15 rfl rfl)
theorem dX8_image_18 : decode cX8_image 18 = .ok (.iload_n 1, 1) := dk_27 (dk_at dksX8_image_0 18 rfl rfl)
theorem dX8_image_19 : decode cX8_image 19 = .ok (.aload_n 0, 1) := dk_42 (dk_at dksX8_image_0 19 rfl rfl)
theorem dX8_image_20 : decode cX8_image 20 = .ok (.getfield 13, 3) := dk_180 0 13 (dk_at dksX8_image_0 20 rfl rfl)
theorem dX8_image_23 : decode cX8_image 23 = .ok (.iload_n 1, 1) := dk_27 (dk_at dksX8_image_0 23 rfl rfl)
theorem dX8_image_24 : decode cX8_image 24 = .ok (.iaload, 1) := dk_46 (dk_at dksX8_image_1 0 rfl rfl)
theorem dX8_image_25 : decode cX8_image 25 = .ok (.iastore, 1) := dk_79 (dk_at dksX8_image_1 1 rfl rfl)
theorem dX8_image_26 : decode cX8_image 26 = .ok (.iinc 1 1, 3) := dk_132 1 1 (dk_at dksX8_image_1 2 rfl rfl)
theorem dX8_image_29 : decode cX8_image 29 = .ok (.goto (-22), 3) := dk_167 255 234 (dk_at dksX8_image_1 5 rfl rfl)
theorem dX8_image_32 : decode cX8_image 32 = .ok (.aload_n 0, 1) := dk_42 (dk_at dksX8_image_1 8 rfl rfl)
theorem dX8_image_33 : decode cX8_image 33 = .ok (.iconst 1, 1) := dk_4 (dk_at dksX8_image_1 9 rfl rfl)
theorem dX8_image_34 : decode cX8_image 34 = .ok (.putfield 63, 3) := dk_181 0 63 (dk_at dksX8_image_1 10 rfl rfl)
theorem dX8_image_37 : decode cX8_image 37 = .ok (.return_, 1) := dk_177 (dk_at dksX8_image_1 13 rfl rfl)
abbrev cX8_back : ByteArray := prog_18_method_7_code
def yX8_back : MethodName := ⟨RX8, "back", "()Z"⟩
def dkwX8_back_1 : List UInt8 := [180, 0, 13, 27, 42, 180, 0, 17, 27, 46, 79, 132, 1, 1, 167, 255, 234, 42, 3, 181, 0, 67, 4, 172]
abbrev dktX8_back_1 : List UInt8 := dkwX8_back_1 ++ []
def dkwX8_back_0 : List UInt8 := [42, 3, 181, 0, 3, 42, 180, 0, 63, 154, 0, 5, 3, 172, 3, 60, 27, 17, 4, 130, 162, 0, 21, 42]
abbrev dktX8_back_0 : List UInt8 := dkwX8_back_0 ++ dktX8_back_1
theorem dksX8_back_0 : cX8_back.data.toList.drop 0 = dktX8_back_0 := by decide +kernel
theorem dksX8_back_1 : cX8_back.data.toList.drop 24 = dktX8_back_1 := dk_seg dksX8_back_0 24 rfl rfl
theorem dX8_back_0 : decode cX8_back 0 = .ok (.aload_n 0, 1) := dk_42 (dk_at dksX8_back_0 0 rfl rfl)
theorem dX8_back_1 : decode cX8_back 1 = .ok (.iconst 0, 1) := dk_3 (dk_at dksX8_back_0 1 rfl rfl)
theorem dX8_back_2 : decode cX8_back 2 = .ok (.putfield 3, 3) := dk_181 0 3 (dk_at dksX8_back_0 2 rfl rfl)
theorem dX8_back_5 : decode cX8_back 5 = .ok (.aload_n 0, 1) := dk_42 (dk_at dksX8_back_0 5 rfl rfl)
theorem dX8_back_6 : decode cX8_back 6 = .ok (.getfield 63, 3) := dk_180 0 63 (dk_at dksX8_back_0 6 rfl rfl)
theorem dX8_back_9 : decode cX8_back 9 = .ok (.ifCond .ne 5, 3) := dk_154 0 5 (dk_at dksX8_back_0 9 rfl rfl)
theorem dX8_back_12 : decode cX8_back 12 = .ok (.iconst 0, 1) := dk_3 (dk_at dksX8_back_0 12 rfl rfl)
theorem dX8_back_13 : decode cX8_back 13 = .ok (.ireturn, 1) := dk_172 (dk_at dksX8_back_0 13 rfl rfl)
theorem dX8_back_14 : decode cX8_back 14 = .ok (.iconst 0, 1) := dk_3 (dk_at dksX8_back_0 14 rfl rfl)
theorem dX8_back_15 : decode cX8_back 15 = .ok (.istore_n 1, 1) := dk_60 (dk_at dksX8_back_0 15 rfl rfl)
theorem dX8_back_16 : decode cX8_back 16 = .ok (.iload_n 1, 1) := dk_27 (dk_at dksX8_back_0 16 rfl rfl)
theorem dX8_back_17 : decode cX8_back 17 = .ok (.sipush 1154, 3) := dk_17 4 130 (dk_at dksX8_back_0 17 rfl rfl)
theorem dX8_back_20 : decode cX8_back 20 = .ok (.if_icmp .ge 21, 3) := dk_162 0 21 (dk_at dksX8_back_0 20 rfl rfl)
theorem dX8_back_23 : decode cX8_back 23 = .ok (.aload_n 0, 1) := dk_42 (dk_at dksX8_back_0 23 rfl rfl)
theorem dX8_back_24 : decode cX8_back 24 = .ok (.getfield 13, 3) := dk_180 0 13 (dk_at dksX8_back_1 0 rfl rfl)
theorem dX8_back_27 : decode cX8_back 27 = .ok (.iload_n 1, 1) := dk_27 (dk_at dksX8_back_1 3 rfl rfl)
theorem dX8_back_28 : decode cX8_back 28 = .ok (.aload_n 0, 1) := dk_42 (dk_at dksX8_back_1 4 rfl rfl)
theorem dX8_back_29 : decode cX8_back 29 = .ok (.getfield 17, 3) := dk_180 0 17 (dk_at dksX8_back_1 5 rfl rfl)
theorem dX8_back_32 : decode cX8_back 32 = .ok (.iload_n 1, 1) := dk_27 (dk_at dksX8_back_1 8 rfl rfl)
theorem dX8_back_33 : decode cX8_back 33 = .ok (.iaload, 1) := dk_46 (dk_at dksX8_back_1 9 rfl rfl)
theorem dX8_back_34 : decode cX8_back 34 = .ok (.iastore, 1) := dk_79 (dk_at dksX8_back_1 10 rfl rfl)
theorem dX8_back_35 : decode cX8_back 35 = .ok (.iinc 1 1, 3) := dk_132 1 1 (dk_at dksX8_back_1 11 rfl rfl)
theorem dX8_back_38 : decode cX8_back 38 = .ok (.goto (-22), 3) := dk_167 255 234 (dk_at dksX8_back_1 14 rfl rfl)
theorem dX8_back_41 : decode cX8_back 41 = .ok (.aload_n 0, 1) := dk_42 (dk_at dksX8_back_1 17 rfl rfl)
theorem dX8_back_42 : decode cX8_back 42 = .ok (.iconst 0, 1) := dk_3 (dk_at dksX8_back_1 18 rfl rfl)
theorem dX8_back_43 : decode cX8_back 43 = .ok (.putfield 67, 3) := dk_181 0 67 (dk_at dksX8_back_1 19 rfl rfl)
theorem dX8_back_46 : decode cX8_back 46 = .ok (.iconst 1, 1) := dk_4 (dk_at dksX8_back_1 22 rfl rfl)
theorem dX8_back_47 : decode cX8_back 47 = .ok (.ireturn, 1) := dk_172 (dk_at dksX8_back_1 23 rfl rfl)
abbrev cX8_undo : ByteArray := prog_18_method_9_code
def yX8_undo : MethodName := ⟨RX8, "undo", "()Z"⟩
def dkwX8_undo_2 : List UInt8 := [180, 0, 67, 104, 27, 96, 46, 79, 132, 1, 1, 167, 255, 225, 4, 172]
abbrev dktX8_undo_2 : List UInt8 := dkwX8_undo_2 ++ []
def dkwX8_undo_1 : List UInt8 := [3, 60, 27, 17, 1, 49, 162, 0, 30, 42, 180, 0, 13, 27, 42, 180, 0, 26, 17, 1, 49, 42]
abbrev dktX8_undo_1 : List UInt8 := dkwX8_undo_1 ++ dktX8_undo_2
def dkwX8_undo_0 : List UInt8 := [42, 3, 181, 0, 3, 42, 180, 0, 67, 154, 0, 5, 3, 172, 42, 89, 180, 0, 67, 4, 100, 181, 0, 67]
abbrev dktX8_undo_0 : List UInt8 := dkwX8_undo_0 ++ dktX8_undo_1
theorem dksX8_undo_0 : cX8_undo.data.toList.drop 0 = dktX8_undo_0 := by decide +kernel
theorem dksX8_undo_1 : cX8_undo.data.toList.drop 24 = dktX8_undo_1 := dk_seg dksX8_undo_0 24 rfl rfl
theorem dksX8_undo_2 : cX8_undo.data.toList.drop 46 = dktX8_undo_2 := dk_seg dksX8_undo_1 22 rfl rfl
theorem dX8_undo_0 : decode cX8_undo 0 = .ok (.aload_n 0, 1) := dk_42 (dk_at dksX8_undo_0 0 rfl rfl)
theorem dX8_undo_1 : decode cX8_undo 1 = .ok (.iconst 0, 1) := dk_3 (dk_at dksX8_undo_0 1 rfl rfl)
theorem dX8_undo_2 : decode cX8_undo 2 = .ok (.putfield 3, 3) := dk_181 0 3 (dk_at dksX8_undo_0 2 rfl rfl)
theorem dX8_undo_5 : decode cX8_undo 5 = .ok (.aload_n 0, 1) := dk_42 (dk_at dksX8_undo_0 5 rfl rfl)
theorem dX8_undo_6 : decode cX8_undo 6 = .ok (.getfield 67, 3) := dk_180 0 67 (dk_at dksX8_undo_0 6 rfl rfl)
theorem dX8_undo_9 : decode cX8_undo 9 = .ok (.ifCond .ne 5, 3) := dk_154 0 5 (dk_at dksX8_undo_0 9 rfl rfl)
theorem dX8_undo_12 : decode cX8_undo 12 = .ok (.iconst 0, 1) := dk_3 (dk_at dksX8_undo_0 12 rfl rfl)
theorem dX8_undo_13 : decode cX8_undo 13 = .ok (.ireturn, 1) := dk_172 (dk_at dksX8_undo_0 13 rfl rfl)
theorem dX8_undo_14 : decode cX8_undo 14 = .ok (.aload_n 0, 1) := dk_42 (dk_at dksX8_undo_0 14 rfl rfl)
theorem dX8_undo_15 : decode cX8_undo 15 = .ok (.dup, 1) := dk_89 (dk_at dksX8_undo_0 15 rfl rfl)
theorem dX8_undo_16 : decode cX8_undo 16 = .ok (.getfield 67, 3) := dk_180 0 67 (dk_at dksX8_undo_0 16 rfl rfl)
theorem dX8_undo_19 : decode cX8_undo 19 = .ok (.iconst 1, 1) := dk_4 (dk_at dksX8_undo_0 19 rfl rfl)
theorem dX8_undo_20 : decode cX8_undo 20 = .ok (.isub, 1) := dk_100 (dk_at dksX8_undo_0 20 rfl rfl)
theorem dX8_undo_21 : decode cX8_undo 21 = .ok (.putfield 67, 3) := dk_181 0 67 (dk_at dksX8_undo_0 21 rfl rfl)
theorem dX8_undo_24 : decode cX8_undo 24 = .ok (.iconst 0, 1) := dk_3 (dk_at dksX8_undo_1 0 rfl rfl)
theorem dX8_undo_25 : decode cX8_undo 25 = .ok (.istore_n 1, 1) := dk_60 (dk_at dksX8_undo_1 1 rfl rfl)
theorem dX8_undo_26 : decode cX8_undo 26 = .ok (.iload_n 1, 1) := dk_27 (dk_at dksX8_undo_1 2 rfl rfl)
theorem dX8_undo_27 : decode cX8_undo 27 = .ok (.sipush 305, 3) := dk_17 1 49 (dk_at dksX8_undo_1 3 rfl rfl)
theorem dX8_undo_30 : decode cX8_undo 30 = .ok (.if_icmp .ge 30, 3) := dk_162 0 30 (dk_at dksX8_undo_1 6 rfl rfl)
theorem dX8_undo_33 : decode cX8_undo 33 = .ok (.aload_n 0, 1) := dk_42 (dk_at dksX8_undo_1 9 rfl rfl)
theorem dX8_undo_34 : decode cX8_undo 34 = .ok (.getfield 13, 3) := dk_180 0 13 (dk_at dksX8_undo_1 10 rfl rfl)
theorem dX8_undo_37 : decode cX8_undo 37 = .ok (.iload_n 1, 1) := dk_27 (dk_at dksX8_undo_1 13 rfl rfl)
theorem dX8_undo_38 : decode cX8_undo 38 = .ok (.aload_n 0, 1) := dk_42 (dk_at dksX8_undo_1 14 rfl rfl)
theorem dX8_undo_39 : decode cX8_undo 39 = .ok (.getfield 26, 3) := dk_180 0 26 (dk_at dksX8_undo_1 15 rfl rfl)
theorem dX8_undo_42 : decode cX8_undo 42 = .ok (.sipush 305, 3) := dk_17 1 49 (dk_at dksX8_undo_1 18 rfl rfl)
theorem dX8_undo_45 : decode cX8_undo 45 = .ok (.aload_n 0, 1) := dk_42 (dk_at dksX8_undo_1 21 rfl rfl)
theorem dX8_undo_46 : decode cX8_undo 46 = .ok (.getfield 67, 3) := dk_180 0 67 (dk_at dksX8_undo_2 0 rfl rfl)
theorem dX8_undo_49 : decode cX8_undo 49 = .ok (.imul, 1) := dk_104 (dk_at dksX8_undo_2 3 rfl rfl)
theorem dX8_undo_50 : decode cX8_undo 50 = .ok (.iload_n 1, 1) := dk_27 (dk_at dksX8_undo_2 4 rfl rfl)
theorem dX8_undo_51 : decode cX8_undo 51 = .ok (.iadd, 1) := dk_96 (dk_at dksX8_undo_2 5 rfl rfl)
theorem dX8_undo_52 : decode cX8_undo 52 = .ok (.iaload, 1) := dk_46 (dk_at dksX8_undo_2 6 rfl rfl)
theorem dX8_undo_53 : decode cX8_undo 53 = .ok (.iastore, 1) := dk_79 (dk_at dksX8_undo_2 7 rfl rfl)
theorem dX8_undo_54 : decode cX8_undo 54 = .ok (.iinc 1 1, 3) := dk_132 1 1 (dk_at dksX8_undo_2 8 rfl rfl)
theorem dX8_undo_57 : decode cX8_undo 57 = .ok (.goto (-31), 3) := dk_167 255 225 (dk_at dksX8_undo_2 11 rfl rfl)
theorem dX8_undo_60 : decode cX8_undo 60 = .ok (.iconst 1, 1) := dk_4 (dk_at dksX8_undo_2 14 rfl rfl)
theorem dX8_undo_61 : decode cX8_undo 61 = .ok (.ireturn, 1) := dk_172 (dk_at dksX8_undo_2 15 rfl rfl)
abbrev cX8_feed : ByteArray := prog_18_method_25_code
def yX8_feed : MethodName := ⟨RX8, "feed", "(IIIII)I"⟩
def dkwX8_feed_5 : List UInt8 := [180, 0, 99, 172]
abbrev dktX8_feed_5 : List UInt8 := dkwX8_feed_5 ++ []
def dkwX8_feed_4 : List UInt8 := [100, 122, 145, 84, 132, 6, 1, 167, 255, 213, 42, 89, 180, 0, 99, 16, 20, 96, 181, 0, 99, 42]
abbrev dktX8_feed_4 : List UInt8 := dkwX8_feed_4 ++ dktX8_feed_5
def dkwX8_feed_3 : List UInt8 := [180, 0, 99, 21, 6, 96, 42, 180, 0, 36, 21, 6, 7, 108, 46, 16, 24, 16, 8, 21, 6, 7, 112, 104]
abbrev dktX8_feed_3 : List UInt8 := dkwX8_feed_3 ++ dktX8_feed_4
def dkwX8_feed_2 : List UInt8 := [79, 42, 180, 0, 36, 7, 21, 5, 79, 3, 54, 6, 21, 6, 16, 20, 162, 0, 42, 42, 180, 0, 29, 42]
abbrev dktX8_feed_2 : List UInt8 := dkwX8_feed_2 ++ dktX8_feed_3
def dkwX8_feed_1 : List UInt8 := [3, 27, 79, 42, 180, 0, 36, 4, 28, 79, 42, 180, 0, 36, 5, 29, 79, 42, 180, 0, 36, 6, 21, 4]
abbrev dktX8_feed_1 : List UInt8 := dkwX8_feed_1 ++ dktX8_feed_2
def dkwX8_feed_0 : List UInt8 := [42, 3, 181, 0, 3, 42, 180, 0, 99, 16, 20, 96, 17, 1, 144, 164, 0, 5, 2, 172, 42, 180, 0, 36]
abbrev dktX8_feed_0 : List UInt8 := dkwX8_feed_0 ++ dktX8_feed_1
theorem dksX8_feed_0 : cX8_feed.data.toList.drop 0 = dktX8_feed_0 := by decide +kernel
theorem dksX8_feed_1 : cX8_feed.data.toList.drop 24 = dktX8_feed_1 := dk_seg dksX8_feed_0 24 rfl rfl
theorem dksX8_feed_2 : cX8_feed.data.toList.drop 48 = dktX8_feed_2 := dk_seg dksX8_feed_1 24 rfl rfl
theorem dksX8_feed_3 : cX8_feed.data.toList.drop 72 = dktX8_feed_3 := dk_seg dksX8_feed_2 24 rfl rfl
theorem dksX8_feed_4 : cX8_feed.data.toList.drop 96 = dktX8_feed_4 := dk_seg dksX8_feed_3 24 rfl rfl
theorem dksX8_feed_5 : cX8_feed.data.toList.drop 118 = dktX8_feed_5 := dk_seg dksX8_feed_4 22 rfl rfl
theorem dX8_feed_0 : decode cX8_feed 0 = .ok (.aload_n 0, 1) := dk_42 (dk_at dksX8_feed_0 0 rfl rfl)
theorem dX8_feed_1 : decode cX8_feed 1 = .ok (.iconst 0, 1) := dk_3 (dk_at dksX8_feed_0 1 rfl rfl)
theorem dX8_feed_2 : decode cX8_feed 2 = .ok (.putfield 3, 3) := dk_181 0 3 (dk_at dksX8_feed_0 2 rfl rfl)
theorem dX8_feed_5 : decode cX8_feed 5 = .ok (.aload_n 0, 1) := dk_42 (dk_at dksX8_feed_0 5 rfl rfl)
theorem dX8_feed_6 : decode cX8_feed 6 = .ok (.getfield 99, 3) := dk_180 0 99 (dk_at dksX8_feed_0 6 rfl rfl)
theorem dX8_feed_9 : decode cX8_feed 9 = .ok (.bipush 20, 2) := dk_16 20 (dk_at dksX8_feed_0 9 rfl rfl)
theorem dX8_feed_11 : decode cX8_feed 11 = .ok (.iadd, 1) := dk_96 (dk_at dksX8_feed_0 11 rfl rfl)
theorem dX8_feed_12 : decode cX8_feed 12 = .ok (.sipush 400, 3) := dk_17 1 144 (dk_at dksX8_feed_0 12 rfl rfl)
theorem dX8_feed_15 : decode cX8_feed 15 = .ok (.if_icmp .le 5, 3) := dk_164 0 5 (dk_at dksX8_feed_0 15 rfl rfl)
theorem dX8_feed_18 : decode cX8_feed 18 = .ok (.iconst (-1), 1) := dk_2 (dk_at dksX8_feed_0 18 rfl rfl)
theorem dX8_feed_19 : decode cX8_feed 19 = .ok (.ireturn, 1) := dk_172 (dk_at dksX8_feed_0 19 rfl rfl)
theorem dX8_feed_20 : decode cX8_feed 20 = .ok (.aload_n 0, 1) := dk_42 (dk_at dksX8_feed_0 20 rfl rfl)
theorem dX8_feed_21 : decode cX8_feed 21 = .ok (.getfield 36, 3) := dk_180 0 36 (dk_at dksX8_feed_0 21 rfl rfl)
theorem dX8_feed_24 : decode cX8_feed 24 = .ok (.iconst 0, 1) := dk_3 (dk_at dksX8_feed_1 0 rfl rfl)
theorem dX8_feed_25 : decode cX8_feed 25 = .ok (.iload_n 1, 1) := dk_27 (dk_at dksX8_feed_1 1 rfl rfl)
theorem dX8_feed_26 : decode cX8_feed 26 = .ok (.iastore, 1) := dk_79 (dk_at dksX8_feed_1 2 rfl rfl)
theorem dX8_feed_27 : decode cX8_feed 27 = .ok (.aload_n 0, 1) := dk_42 (dk_at dksX8_feed_1 3 rfl rfl)
theorem dX8_feed_28 : decode cX8_feed 28 = .ok (.getfield 36, 3) := dk_180 0 36 (dk_at dksX8_feed_1 4 rfl rfl)
theorem dX8_feed_31 : decode cX8_feed 31 = .ok (.iconst 1, 1) := dk_4 (dk_at dksX8_feed_1 7 rfl rfl)
theorem dX8_feed_32 : decode cX8_feed 32 = .ok (.iload_n 2, 1) := dk_28 (dk_at dksX8_feed_1 8 rfl rfl)
theorem dX8_feed_33 : decode cX8_feed 33 = .ok (.iastore, 1) := dk_79 (dk_at dksX8_feed_1 9 rfl rfl)
theorem dX8_feed_34 : decode cX8_feed 34 = .ok (.aload_n 0, 1) := dk_42 (dk_at dksX8_feed_1 10 rfl rfl)
theorem dX8_feed_35 : decode cX8_feed 35 = .ok (.getfield 36, 3) := dk_180 0 36 (dk_at dksX8_feed_1 11 rfl rfl)
theorem dX8_feed_38 : decode cX8_feed 38 = .ok (.iconst 2, 1) := dk_5 (dk_at dksX8_feed_1 14 rfl rfl)
theorem dX8_feed_39 : decode cX8_feed 39 = .ok (.iload_n 3, 1) := dk_29 (dk_at dksX8_feed_1 15 rfl rfl)
theorem dX8_feed_40 : decode cX8_feed 40 = .ok (.iastore, 1) := dk_79 (dk_at dksX8_feed_1 16 rfl rfl)
theorem dX8_feed_41 : decode cX8_feed 41 = .ok (.aload_n 0, 1) := dk_42 (dk_at dksX8_feed_1 17 rfl rfl)
theorem dX8_feed_42 : decode cX8_feed 42 = .ok (.getfield 36, 3) := dk_180 0 36 (dk_at dksX8_feed_1 18 rfl rfl)
theorem dX8_feed_45 : decode cX8_feed 45 = .ok (.iconst 3, 1) := dk_6 (dk_at dksX8_feed_1 21 rfl rfl)
theorem dX8_feed_46 : decode cX8_feed 46 = .ok (.iload 4, 2) := dk_21 4 (dk_at dksX8_feed_1 22 rfl rfl)
theorem dX8_feed_48 : decode cX8_feed 48 = .ok (.iastore, 1) := dk_79 (dk_at dksX8_feed_2 0 rfl rfl)
theorem dX8_feed_49 : decode cX8_feed 49 = .ok (.aload_n 0, 1) := dk_42 (dk_at dksX8_feed_2 1 rfl rfl)
theorem dX8_feed_50 : decode cX8_feed 50 = .ok (.getfield 36, 3) := dk_180 0 36 (dk_at dksX8_feed_2 2 rfl rfl)
theorem dX8_feed_53 : decode cX8_feed 53 = .ok (.iconst 4, 1) := dk_7 (dk_at dksX8_feed_2 5 rfl rfl)
theorem dX8_feed_54 : decode cX8_feed 54 = .ok (.iload 5, 2) := dk_21 5 (dk_at dksX8_feed_2 6 rfl rfl)
theorem dX8_feed_56 : decode cX8_feed 56 = .ok (.iastore, 1) := dk_79 (dk_at dksX8_feed_2 8 rfl rfl)
theorem dX8_feed_57 : decode cX8_feed 57 = .ok (.iconst 0, 1) := dk_3 (dk_at dksX8_feed_2 9 rfl rfl)
theorem dX8_feed_58 : decode cX8_feed 58 = .ok (.istore 6, 2) := dk_54 6 (dk_at dksX8_feed_2 10 rfl rfl)
theorem dX8_feed_60 : decode cX8_feed 60 = .ok (.iload 6, 2) := dk_21 6 (dk_at dksX8_feed_2 12 rfl rfl)
theorem dX8_feed_62 : decode cX8_feed 62 = .ok (.bipush 20, 2) := dk_16 20 (dk_at dksX8_feed_2 14 rfl rfl)
theorem dX8_feed_64 : decode cX8_feed 64 = .ok (.if_icmp .ge 42, 3) := dk_162 0 42 (dk_at dksX8_feed_2 16 rfl rfl)
theorem dX8_feed_67 : decode cX8_feed 67 = .ok (.aload_n 0, 1) := dk_42 (dk_at dksX8_feed_2 19 rfl rfl)
theorem dX8_feed_68 : decode cX8_feed 68 = .ok (.getfield 29, 3) := dk_180 0 29 (dk_at dksX8_feed_2 20 rfl rfl)
theorem dX8_feed_71 : decode cX8_feed 71 = .ok (.aload_n 0, 1) := dk_42 (dk_at dksX8_feed_2 23 rfl rfl)
theorem dX8_feed_72 : decode cX8_feed 72 = .ok (.getfield 99, 3) := dk_180 0 99 (dk_at dksX8_feed_3 0 rfl rfl)
theorem dX8_feed_75 : decode cX8_feed 75 = .ok (.iload 6, 2) := dk_21 6 (dk_at dksX8_feed_3 3 rfl rfl)
theorem dX8_feed_77 : decode cX8_feed 77 = .ok (.iadd, 1) := dk_96 (dk_at dksX8_feed_3 5 rfl rfl)
theorem dX8_feed_78 : decode cX8_feed 78 = .ok (.aload_n 0, 1) := dk_42 (dk_at dksX8_feed_3 6 rfl rfl)
theorem dX8_feed_79 : decode cX8_feed 79 = .ok (.getfield 36, 3) := dk_180 0 36 (dk_at dksX8_feed_3 7 rfl rfl)
theorem dX8_feed_82 : decode cX8_feed 82 = .ok (.iload 6, 2) := dk_21 6 (dk_at dksX8_feed_3 10 rfl rfl)
theorem dX8_feed_84 : decode cX8_feed 84 = .ok (.iconst 4, 1) := dk_7 (dk_at dksX8_feed_3 12 rfl rfl)
theorem dX8_feed_85 : decode cX8_feed 85 = .ok (.idiv, 1) := dk_108 (dk_at dksX8_feed_3 13 rfl rfl)
theorem dX8_feed_86 : decode cX8_feed 86 = .ok (.iaload, 1) := dk_46 (dk_at dksX8_feed_3 14 rfl rfl)
theorem dX8_feed_87 : decode cX8_feed 87 = .ok (.bipush 24, 2) := dk_16 24 (dk_at dksX8_feed_3 15 rfl rfl)
theorem dX8_feed_89 : decode cX8_feed 89 = .ok (.bipush 8, 2) := dk_16 8 (dk_at dksX8_feed_3 17 rfl rfl)
theorem dX8_feed_91 : decode cX8_feed 91 = .ok (.iload 6, 2) := dk_21 6 (dk_at dksX8_feed_3 19 rfl rfl)
theorem dX8_feed_93 : decode cX8_feed 93 = .ok (.iconst 4, 1) := dk_7 (dk_at dksX8_feed_3 21 rfl rfl)
theorem dX8_feed_94 : decode cX8_feed 94 = .ok (.irem, 1) := dk_112 (dk_at dksX8_feed_3 22 rfl rfl)
theorem dX8_feed_95 : decode cX8_feed 95 = .ok (.imul, 1) := dk_104 (dk_at dksX8_feed_3 23 rfl rfl)
theorem dX8_feed_96 : decode cX8_feed 96 = .ok (.isub, 1) := dk_100 (dk_at dksX8_feed_4 0 rfl rfl)
theorem dX8_feed_97 : decode cX8_feed 97 = .ok (.ishr, 1) := dk_122 (dk_at dksX8_feed_4 1 rfl rfl)
theorem dX8_feed_98 : decode cX8_feed 98 = .ok (.i2b, 1) := dk_145 (dk_at dksX8_feed_4 2 rfl rfl)
theorem dX8_feed_99 : decode cX8_feed 99 = .ok (.bastore, 1) := dk_84 (dk_at dksX8_feed_4 3 rfl rfl)
theorem dX8_feed_100 : decode cX8_feed 100 = .ok (.iinc 6 1, 3) := dk_132 6 1 (dk_at dksX8_feed_4 4 rfl rfl)
theorem dX8_feed_103 : decode cX8_feed 103 = .ok (.goto (-43), 3) := dk_167 255 213 (dk_at dksX8_feed_4 7 rfl rfl)
theorem dX8_feed_106 : decode cX8_feed 106 = .ok (.aload_n 0, 1) := dk_42 (dk_at dksX8_feed_4 10 rfl rfl)
theorem dX8_feed_107 : decode cX8_feed 107 = .ok (.dup, 1) := dk_89 (dk_at dksX8_feed_4 11 rfl rfl)
theorem dX8_feed_108 : decode cX8_feed 108 = .ok (.getfield 99, 3) := dk_180 0 99 (dk_at dksX8_feed_4 12 rfl rfl)
theorem dX8_feed_111 : decode cX8_feed 111 = .ok (.bipush 20, 2) := dk_16 20 (dk_at dksX8_feed_4 15 rfl rfl)
theorem dX8_feed_113 : decode cX8_feed 113 = .ok (.iadd, 1) := dk_96 (dk_at dksX8_feed_4 17 rfl rfl)
theorem dX8_feed_114 : decode cX8_feed 114 = .ok (.putfield 99, 3) := dk_181 0 99 (dk_at dksX8_feed_4 18 rfl rfl)
theorem dX8_feed_117 : decode cX8_feed 117 = .ok (.aload_n 0, 1) := dk_42 (dk_at dksX8_feed_4 21 rfl rfl)
theorem dX8_feed_118 : decode cX8_feed 118 = .ok (.getfield 99, 3) := dk_180 0 99 (dk_at dksX8_feed_5 0 rfl rfl)
theorem dX8_feed_121 : decode cX8_feed 121 = .ok (.ireturn, 1) := dk_172 (dk_at dksX8_feed_5 3 rfl rfl)
abbrev cX8_end : ByteArray := prog_18_method_26_code
def yX8_end : MethodName := ⟨RX8, "end", "(I)Z"⟩
def dkwX8_end_1 : List UInt8 := [4, 172]
abbrev dktX8_end_1 : List UInt8 := dkwX8_end_1 ++ []
def dkwX8_end_0 : List UInt8 := [42, 3, 181, 0, 3, 27, 155, 0, 11, 27, 42, 180, 0, 99, 164, 0, 5, 3, 172, 42, 27, 181, 0, 99]
abbrev dktX8_end_0 : List UInt8 := dkwX8_end_0 ++ dktX8_end_1
theorem dksX8_end_0 : cX8_end.data.toList.drop 0 = dktX8_end_0 := by decide +kernel
theorem dksX8_end_1 : cX8_end.data.toList.drop 24 = dktX8_end_1 := dk_seg dksX8_end_0 24 rfl rfl
theorem dX8_end_0 : decode cX8_end 0 = .ok (.aload_n 0, 1) := dk_42 (dk_at dksX8_end_0 0 rfl rfl)
theorem dX8_end_1 : decode cX8_end 1 = .ok (.iconst 0, 1) := dk_3 (dk_at dksX8_end_0 1 rfl rfl)
theorem dX8_end_2 : decode cX8_end 2 = .ok (.putfield 3, 3) := dk_181 0 3 (dk_at dksX8_end_0 2 rfl rfl)
theorem dX8_end_5 : decode cX8_end 5 = .ok (.iload_n 1, 1) := dk_27 (dk_at dksX8_end_0 5 rfl rfl)
theorem dX8_end_6 : decode cX8_end 6 = .ok (.ifCond .lt 11, 3) := dk_155 0 11 (dk_at dksX8_end_0 6 rfl rfl)
theorem dX8_end_9 : decode cX8_end 9 = .ok (.iload_n 1, 1) := dk_27 (dk_at dksX8_end_0 9 rfl rfl)
theorem dX8_end_10 : decode cX8_end 10 = .ok (.aload_n 0, 1) := dk_42 (dk_at dksX8_end_0 10 rfl rfl)
theorem dX8_end_11 : decode cX8_end 11 = .ok (.getfield 99, 3) := dk_180 0 99 (dk_at dksX8_end_0 11 rfl rfl)
theorem dX8_end_14 : decode cX8_end 14 = .ok (.if_icmp .le 5, 3) := dk_164 0 5 (dk_at dksX8_end_0 14 rfl rfl)
theorem dX8_end_17 : decode cX8_end 17 = .ok (.iconst 0, 1) := dk_3 (dk_at dksX8_end_0 17 rfl rfl)
theorem dX8_end_18 : decode cX8_end 18 = .ok (.ireturn, 1) := dk_172 (dk_at dksX8_end_0 18 rfl rfl)
theorem dX8_end_19 : decode cX8_end 19 = .ok (.aload_n 0, 1) := dk_42 (dk_at dksX8_end_0 19 rfl rfl)
theorem dX8_end_20 : decode cX8_end 20 = .ok (.iload_n 1, 1) := dk_27 (dk_at dksX8_end_0 20 rfl rfl)
theorem dX8_end_21 : decode cX8_end 21 = .ok (.putfield 99, 3) := dk_181 0 99 (dk_at dksX8_end_0 21 rfl rfl)
theorem dX8_end_24 : decode cX8_end 24 = .ok (.iconst 1, 1) := dk_4 (dk_at dksX8_end_1 0 rfl rfl)
theorem dX8_end_25 : decode cX8_end 25 = .ok (.ireturn, 1) := dk_172 (dk_at dksX8_end_1 1 rfl rfl)
abbrev cX8_fault : ByteArray := prog_18_method_35_code
def yX8_fault : MethodName := ⟨RX8, "fault", "()I"⟩
def dkwX8_fault_0 : List UInt8 := [42, 3, 181, 0, 3, 42, 180, 0, 33, 172]
abbrev dktX8_fault_0 : List UInt8 := dkwX8_fault_0 ++ []
theorem dksX8_fault_0 : cX8_fault.data.toList.drop 0 = dktX8_fault_0 := by decide +kernel
theorem dX8_fault_0 : decode cX8_fault 0 = .ok (.aload_n 0, 1) := dk_42 (dk_at dksX8_fault_0 0 rfl rfl)
theorem dX8_fault_1 : decode cX8_fault 1 = .ok (.iconst 0, 1) := dk_3 (dk_at dksX8_fault_0 1 rfl rfl)
theorem dX8_fault_2 : decode cX8_fault 2 = .ok (.putfield 3, 3) := dk_181 0 3 (dk_at dksX8_fault_0 2 rfl rfl)
theorem dX8_fault_5 : decode cX8_fault 5 = .ok (.aload_n 0, 1) := dk_42 (dk_at dksX8_fault_0 5 rfl rfl)
theorem dX8_fault_6 : decode cX8_fault 6 = .ok (.getfield 33, 3) := dk_180 0 33 (dk_at dksX8_fault_0 6 rfl rfl)
theorem dX8_fault_9 : decode cX8_fault 9 = .ok (.ireturn, 1) := dk_172 (dk_at dksX8_fault_0 9 rfl rfl)
abbrev cX8_court : ByteArray := prog_18_method_52_code
def yX8_court : MethodName := ⟨RX8, "court", "()I"⟩
def dkwX8_court_6 : List UInt8 := [5, 46, 172]
abbrev dktX8_court_6 : List UInt8 := dkwX8_court_6 ++ []
def dkwX8_court_5 : List UInt8 := [167, 255, 234, 3, 172, 42, 180, 0, 13, 5, 92, 46, 4, 96, 79, 42, 3, 181, 0, 67, 42, 180, 0, 13]
abbrev dktX8_court_5 : List UInt8 := dkwX8_court_5 ++ dktX8_court_6
def dkwX8_court_4 : List UInt8 := [28, 17, 4, 130, 162, 0, 21, 42, 180, 0, 13, 28, 42, 180, 0, 20, 28, 46, 79, 132, 2, 1]
abbrev dktX8_court_4 : List UInt8 := dkwX8_court_4 ++ dktX8_court_5
def dkwX8_court_3 : List UInt8 := [180, 0, 13, 5, 46, 16, 12, 160, 0, 7, 4, 167, 0, 4, 3, 5, 182, 1, 6, 153, 0, 32, 3, 61]
abbrev dktX8_court_3 : List UInt8 := dkwX8_court_3 ++ dktX8_court_4
def dkwX8_court_2 : List UInt8 := [181, 0, 33, 42, 27, 156, 0, 7, 4, 167, 0, 4, 3, 4, 182, 1, 6, 154, 0, 27, 42, 42]
abbrev dktX8_court_2 : List UInt8 := dkwX8_court_2 ++ dktX8_court_3
def dkwX8_court_1 : List UInt8 := [167, 255, 234, 42, 4, 182, 1, 2, 60, 42, 27, 156, 0, 10, 42, 180, 0, 112, 167, 0, 4, 2]
abbrev dktX8_court_1 : List UInt8 := dkwX8_court_1 ++ dktX8_court_2
def dkwX8_court_0 : List UInt8 := [3, 60, 27, 17, 4, 130, 162, 0, 21, 42, 180, 0, 20, 27, 42, 180, 0, 13, 27, 46, 79, 132, 1, 1]
abbrev dktX8_court_0 : List UInt8 := dkwX8_court_0 ++ dktX8_court_1
theorem dksX8_court_0 : cX8_court.data.toList.drop 0 = dktX8_court_0 := by decide +kernel
theorem dksX8_court_1 : cX8_court.data.toList.drop 24 = dktX8_court_1 := dk_seg dksX8_court_0 24 rfl rfl
theorem dksX8_court_2 : cX8_court.data.toList.drop 46 = dktX8_court_2 := dk_seg dksX8_court_1 22 rfl rfl
theorem dksX8_court_3 : cX8_court.data.toList.drop 68 = dktX8_court_3 := dk_seg dksX8_court_2 22 rfl rfl
theorem dksX8_court_4 : cX8_court.data.toList.drop 92 = dktX8_court_4 := dk_seg dksX8_court_3 24 rfl rfl
theorem dksX8_court_5 : cX8_court.data.toList.drop 114 = dktX8_court_5 := dk_seg dksX8_court_4 22 rfl rfl
theorem dksX8_court_6 : cX8_court.data.toList.drop 138 = dktX8_court_6 := dk_seg dksX8_court_5 24 rfl rfl
theorem dX8_court_0 : decode cX8_court 0 = .ok (.iconst 0, 1) := dk_3 (dk_at dksX8_court_0 0 rfl rfl)
theorem dX8_court_1 : decode cX8_court 1 = .ok (.istore_n 1, 1) := dk_60 (dk_at dksX8_court_0 1 rfl rfl)
theorem dX8_court_2 : decode cX8_court 2 = .ok (.iload_n 1, 1) := dk_27 (dk_at dksX8_court_0 2 rfl rfl)
theorem dX8_court_3 : decode cX8_court 3 = .ok (.sipush 1154, 3) := dk_17 4 130 (dk_at dksX8_court_0 3 rfl rfl)
theorem dX8_court_6 : decode cX8_court 6 = .ok (.if_icmp .ge 21, 3) := dk_162 0 21 (dk_at dksX8_court_0 6 rfl rfl)
theorem dX8_court_9 : decode cX8_court 9 = .ok (.aload_n 0, 1) := dk_42 (dk_at dksX8_court_0 9 rfl rfl)
theorem dX8_court_10 : decode cX8_court 10 = .ok (.getfield 20, 3) := dk_180 0 20 (dk_at dksX8_court_0 10 rfl rfl)
theorem dX8_court_13 : decode cX8_court 13 = .ok (.iload_n 1, 1) := dk_27 (dk_at dksX8_court_0 13 rfl rfl)
theorem dX8_court_14 : decode cX8_court 14 = .ok (.aload_n 0, 1) := dk_42 (dk_at dksX8_court_0 14 rfl rfl)
theorem dX8_court_15 : decode cX8_court 15 = .ok (.getfield 13, 3) := dk_180 0 13 (dk_at dksX8_court_0 15 rfl rfl)
theorem dX8_court_18 : decode cX8_court 18 = .ok (.iload_n 1, 1) := dk_27 (dk_at dksX8_court_0 18 rfl rfl)
theorem dX8_court_19 : decode cX8_court 19 = .ok (.iaload, 1) := dk_46 (dk_at dksX8_court_0 19 rfl rfl)
theorem dX8_court_20 : decode cX8_court 20 = .ok (.iastore, 1) := dk_79 (dk_at dksX8_court_0 20 rfl rfl)
theorem dX8_court_21 : decode cX8_court 21 = .ok (.iinc 1 1, 3) := dk_132 1 1 (dk_at dksX8_court_0 21 rfl rfl)
theorem dX8_court_24 : decode cX8_court 24 = .ok (.goto (-22), 3) := dk_167 255 234 (dk_at dksX8_court_1 0 rfl rfl)
theorem dX8_court_27 : decode cX8_court 27 = .ok (.aload_n 0, 1) := dk_42 (dk_at dksX8_court_1 3 rfl rfl)
theorem dX8_court_28 : decode cX8_court 28 = .ok (.iconst 1, 1) := dk_4 (dk_at dksX8_court_1 4 rfl rfl)
theorem dX8_court_29 : decode cX8_court 29 = .ok (.invokevirtual 258, 3) := dk_182 1 2 (dk_at dksX8_court_1 5 rfl rfl)
theorem dX8_court_32 : decode cX8_court 32 = .ok (.istore_n 1, 1) := dk_60 (dk_at dksX8_court_1 8 rfl rfl)
theorem dX8_court_33 : decode cX8_court 33 = .ok (.aload_n 0, 1) := dk_42 (dk_at dksX8_court_1 9 rfl rfl)
theorem dX8_court_34 : decode cX8_court 34 = .ok (.iload_n 1, 1) := dk_27 (dk_at dksX8_court_1 10 rfl rfl)
theorem dX8_court_35 : decode cX8_court 35 = .ok (.ifCond .ge 10, 3) := dk_156 0 10 (dk_at dksX8_court_1 11 rfl rfl)
theorem dX8_court_38 : decode cX8_court 38 = .ok (.aload_n 0, 1) := dk_42 (dk_at dksX8_court_1 14 rfl rfl)
theorem dX8_court_39 : decode cX8_court 39 = .ok (.getfield 112, 3) := dk_180 0 112 (dk_at dksX8_court_1 15 rfl rfl)
theorem dX8_court_42 : decode cX8_court 42 = .ok (.goto 4, 3) := dk_167 0 4 (dk_at dksX8_court_1 18 rfl rfl)
theorem dX8_court_45 : decode cX8_court 45 = .ok (.iconst (-1), 1) := dk_2 (dk_at dksX8_court_1 21 rfl rfl)
theorem dX8_court_46 : decode cX8_court 46 = .ok (.putfield 33, 3) := dk_181 0 33 (dk_at dksX8_court_2 0 rfl rfl)
theorem dX8_court_49 : decode cX8_court 49 = .ok (.aload_n 0, 1) := dk_42 (dk_at dksX8_court_2 3 rfl rfl)
theorem dX8_court_50 : decode cX8_court 50 = .ok (.iload_n 1, 1) := dk_27 (dk_at dksX8_court_2 4 rfl rfl)
theorem dX8_court_51 : decode cX8_court 51 = .ok (.ifCond .ge 7, 3) := dk_156 0 7 (dk_at dksX8_court_2 5 rfl rfl)
theorem dX8_court_54 : decode cX8_court 54 = .ok (.iconst 1, 1) := dk_4 (dk_at dksX8_court_2 8 rfl rfl)
theorem dX8_court_55 : decode cX8_court 55 = .ok (.goto 4, 3) := dk_167 0 4 (dk_at dksX8_court_2 9 rfl rfl)
theorem dX8_court_58 : decode cX8_court 58 = .ok (.iconst 0, 1) := dk_3 (dk_at dksX8_court_2 12 rfl rfl)
theorem dX8_court_59 : decode cX8_court 59 = .ok (.iconst 1, 1) := dk_4 (dk_at dksX8_court_2 13 rfl rfl)
theorem dX8_court_60 : decode cX8_court 60 = .ok (.invokevirtual 262, 3) := dk_182 1 6 (dk_at dksX8_court_2 14 rfl rfl)
theorem dX8_court_63 : decode cX8_court 63 = .ok (.ifCond .ne 27, 3) := dk_154 0 27 (dk_at dksX8_court_2 17 rfl rfl)
theorem dX8_court_66 : decode cX8_court 66 = .ok (.aload_n 0, 1) := dk_42 (dk_at dksX8_court_2 20 rfl rfl)
theorem dX8_court_67 : decode cX8_court 67 = .ok (.aload_n 0, 1) := dk_42 (dk_at dksX8_court_2 21 rfl rfl)
theorem dX8_court_68 : decode cX8_court 68 = .ok (.getfield 13, 3) := dk_180 0 13 (dk_at dksX8_court_3 0 rfl rfl)
theorem dX8_court_71 : decode cX8_court 71 = .ok (.iconst 2, 1) := dk_5 (dk_at dksX8_court_3 3 rfl rfl)
theorem dX8_court_72 : decode cX8_court 72 = .ok (.iaload, 1) := dk_46 (dk_at dksX8_court_3 4 rfl rfl)
theorem dX8_court_73 : decode cX8_court 73 = .ok (.bipush 12, 2) := dk_16 12 (dk_at dksX8_court_3 5 rfl rfl)
theorem dX8_court_75 : decode cX8_court 75 = .ok (.if_icmp .ne 7, 3) := dk_160 0 7 (dk_at dksX8_court_3 7 rfl rfl)
theorem dX8_court_78 : decode cX8_court 78 = .ok (.iconst 1, 1) := dk_4 (dk_at dksX8_court_3 10 rfl rfl)
theorem dX8_court_79 : decode cX8_court 79 = .ok (.goto 4, 3) := dk_167 0 4 (dk_at dksX8_court_3 11 rfl rfl)
theorem dX8_court_82 : decode cX8_court 82 = .ok (.iconst 0, 1) := dk_3 (dk_at dksX8_court_3 14 rfl rfl)
theorem dX8_court_83 : decode cX8_court 83 = .ok (.iconst 2, 1) := dk_5 (dk_at dksX8_court_3 15 rfl rfl)
theorem dX8_court_84 : decode cX8_court 84 = .ok (.invokevirtual 262, 3) := dk_182 1 6 (dk_at dksX8_court_3 16 rfl rfl)
theorem dX8_court_87 : decode cX8_court 87 = .ok (.ifCond .eq 32, 3) := dk_153 0 32 (dk_at dksX8_court_3 19 rfl rfl)
theorem dX8_court_90 : decode cX8_court 90 = .ok (.iconst 0, 1) := dk_3 (dk_at dksX8_court_3 22 rfl rfl)
theorem dX8_court_91 : decode cX8_court 91 = .ok (.istore_n 2, 1) := dk_61 (dk_at dksX8_court_3 23 rfl rfl)
theorem dX8_court_92 : decode cX8_court 92 = .ok (.iload_n 2, 1) := dk_28 (dk_at dksX8_court_4 0 rfl rfl)
theorem dX8_court_93 : decode cX8_court 93 = .ok (.sipush 1154, 3) := dk_17 4 130 (dk_at dksX8_court_4 1 rfl rfl)
theorem dX8_court_96 : decode cX8_court 96 = .ok (.if_icmp .ge 21, 3) := dk_162 0 21 (dk_at dksX8_court_4 4 rfl rfl)
theorem dX8_court_99 : decode cX8_court 99 = .ok (.aload_n 0, 1) := dk_42 (dk_at dksX8_court_4 7 rfl rfl)
theorem dX8_court_100 : decode cX8_court 100 = .ok (.getfield 13, 3) := dk_180 0 13 (dk_at dksX8_court_4 8 rfl rfl)
theorem dX8_court_103 : decode cX8_court 103 = .ok (.iload_n 2, 1) := dk_28 (dk_at dksX8_court_4 11 rfl rfl)
theorem dX8_court_104 : decode cX8_court 104 = .ok (.aload_n 0, 1) := dk_42 (dk_at dksX8_court_4 12 rfl rfl)
theorem dX8_court_105 : decode cX8_court 105 = .ok (.getfield 20, 3) := dk_180 0 20 (dk_at dksX8_court_4 13 rfl rfl)
theorem dX8_court_108 : decode cX8_court 108 = .ok (.iload_n 2, 1) := dk_28 (dk_at dksX8_court_4 16 rfl rfl)
theorem dX8_court_109 : decode cX8_court 109 = .ok (.iaload, 1) := dk_46 (dk_at dksX8_court_4 17 rfl rfl)
theorem dX8_court_110 : decode cX8_court 110 = .ok (.iastore, 1) := dk_79 (dk_at dksX8_court_4 18 rfl rfl)
theorem dX8_court_111 : decode cX8_court 111 = .ok (.iinc 2 1, 3) := dk_132 2 1 (dk_at dksX8_court_4 19 rfl rfl)
theorem dX8_court_114 : decode cX8_court 114 = .ok (.goto (-22), 3) := dk_167 255 234 (dk_at dksX8_court_5 0 rfl rfl)
theorem dX8_court_117 : decode cX8_court 117 = .ok (.iconst 0, 1) := dk_3 (dk_at dksX8_court_5 3 rfl rfl)
theorem dX8_court_118 : decode cX8_court 118 = .ok (.ireturn, 1) := dk_172 (dk_at dksX8_court_5 4 rfl rfl)
theorem dX8_court_119 : decode cX8_court 119 = .ok (.aload_n 0, 1) := dk_42 (dk_at dksX8_court_5 5 rfl rfl)
theorem dX8_court_120 : decode cX8_court 120 = .ok (.getfield 13, 3) := dk_180 0 13 (dk_at dksX8_court_5 6 rfl rfl)
theorem dX8_court_123 : decode cX8_court 123 = .ok (.iconst 2, 1) := dk_5 (dk_at dksX8_court_5 9 rfl rfl)
theorem dX8_court_124 : decode cX8_court 124 = .ok (.dup2, 1) := dk_92 (dk_at dksX8_court_5 10 rfl rfl)
theorem dX8_court_125 : decode cX8_court 125 = .ok (.iaload, 1) := dk_46 (dk_at dksX8_court_5 11 rfl rfl)
theorem dX8_court_126 : decode cX8_court 126 = .ok (.iconst 1, 1) := dk_4 (dk_at dksX8_court_5 12 rfl rfl)
theorem dX8_court_127 : decode cX8_court 127 = .ok (.iadd, 1) := dk_96 (dk_at dksX8_court_5 13 rfl rfl)
theorem dX8_court_128 : decode cX8_court 128 = .ok (.iastore, 1) := dk_79 (dk_at dksX8_court_5 14 rfl rfl)
theorem dX8_court_129 : decode cX8_court 129 = .ok (.aload_n 0, 1) := dk_42 (dk_at dksX8_court_5 15 rfl rfl)
theorem dX8_court_130 : decode cX8_court 130 = .ok (.iconst 0, 1) := dk_3 (dk_at dksX8_court_5 16 rfl rfl)
theorem dX8_court_131 : decode cX8_court 131 = .ok (.putfield 67, 3) := dk_181 0 67 (dk_at dksX8_court_5 17 rfl rfl)
theorem dX8_court_134 : decode cX8_court 134 = .ok (.aload_n 0, 1) := dk_42 (dk_at dksX8_court_5 20 rfl rfl)
theorem dX8_court_135 : decode cX8_court 135 = .ok (.getfield 13, 3) := dk_180 0 13 (dk_at dksX8_court_5 21 rfl rfl)
theorem dX8_court_138 : decode cX8_court 138 = .ok (.iconst 2, 1) := dk_5 (dk_at dksX8_court_6 0 rfl rfl)
theorem dX8_court_139 : decode cX8_court 139 = .ok (.iaload, 1) := dk_46 (dk_at dksX8_court_6 1 rfl rfl)
theorem dX8_court_140 : decode cX8_court 140 = .ok (.ireturn, 1) := dk_172 (dk_at dksX8_court_6 2 rfl rfl)
abbrev cX8_readAll : ByteArray := prog_18_method_51_code
def yX8_readAll : MethodName := ⟨RX8, "readAll", "(Z)I"⟩
def dkwX8_readAll_3 : List UInt8 := [89, 180, 0, 102, 4, 96, 181, 0, 102, 132, 2, 1, 167, 255, 200]
abbrev dktX8_readAll_3 : List UInt8 := dkwX8_readAll_3 ++ []
def dkwX8_readAll_2 : List UInt8 := [180, 0, 105, 160, 0, 7, 28, 4, 96, 172, 42, 16, 59, 16, 59, 182, 0, 108, 154, 0, 5, 2, 172, 42]
abbrev dktX8_readAll_2 : List UInt8 := dkwX8_readAll_2 ++ dktX8_readAll_3
def dkwX8_readAll_1 : List UInt8 := [3, 172, 3, 61, 42, 27, 28, 182, 0, 254, 154, 0, 5, 2, 172, 42, 182, 0, 115, 42, 180, 0, 102, 42]
abbrev dktX8_readAll_1 : List UInt8 := dkwX8_readAll_1 ++ dktX8_readAll_2
def dkwX8_readAll_0 : List UInt8 := [42, 182, 0, 251, 42, 3, 181, 0, 194, 42, 182, 0, 115, 42, 180, 0, 102, 42, 180, 0, 105, 160, 0, 5]
abbrev dktX8_readAll_0 : List UInt8 := dkwX8_readAll_0 ++ dktX8_readAll_1
theorem dksX8_readAll_0 : cX8_readAll.data.toList.drop 0 = dktX8_readAll_0 := by decide +kernel
theorem dksX8_readAll_1 : cX8_readAll.data.toList.drop 24 = dktX8_readAll_1 := dk_seg dksX8_readAll_0 24 rfl rfl
theorem dksX8_readAll_2 : cX8_readAll.data.toList.drop 48 = dktX8_readAll_2 := dk_seg dksX8_readAll_1 24 rfl rfl
theorem dksX8_readAll_3 : cX8_readAll.data.toList.drop 72 = dktX8_readAll_3 := dk_seg dksX8_readAll_2 24 rfl rfl
theorem dX8_readAll_0 : decode cX8_readAll 0 = .ok (.aload_n 0, 1) := dk_42 (dk_at dksX8_readAll_0 0 rfl rfl)
theorem dX8_readAll_1 : decode cX8_readAll 1 = .ok (.invokevirtual 251, 3) := dk_182 0 251 (dk_at dksX8_readAll_0 1 rfl rfl)
theorem dX8_readAll_4 : decode cX8_readAll 4 = .ok (.aload_n 0, 1) := dk_42 (dk_at dksX8_readAll_0 4 rfl rfl)
theorem dX8_readAll_5 : decode cX8_readAll 5 = .ok (.iconst 0, 1) := dk_3 (dk_at dksX8_readAll_0 5 rfl rfl)
theorem dX8_readAll_6 : decode cX8_readAll 6 = .ok (.putfield 194, 3) := dk_181 0 194 (dk_at dksX8_readAll_0 6 rfl rfl)
theorem dX8_readAll_9 : decode cX8_readAll 9 = .ok (.aload_n 0, 1) := dk_42 (dk_at dksX8_readAll_0 9 rfl rfl)
theorem dX8_readAll_10 : decode cX8_readAll 10 = .ok (.invokevirtual 115, 3) := dk_182 0 115 (dk_at dksX8_readAll_0 10 rfl rfl)
theorem dX8_readAll_13 : decode cX8_readAll 13 = .ok (.aload_n 0, 1) := dk_42 (dk_at dksX8_readAll_0 13 rfl rfl)
theorem dX8_readAll_14 : decode cX8_readAll 14 = .ok (.getfield 102, 3) := dk_180 0 102 (dk_at dksX8_readAll_0 14 rfl rfl)
theorem dX8_readAll_17 : decode cX8_readAll 17 = .ok (.aload_n 0, 1) := dk_42 (dk_at dksX8_readAll_0 17 rfl rfl)
theorem dX8_readAll_18 : decode cX8_readAll 18 = .ok (.getfield 105, 3) := dk_180 0 105 (dk_at dksX8_readAll_0 18 rfl rfl)
theorem dX8_readAll_21 : decode cX8_readAll 21 = .ok (.if_icmp .ne 5, 3) := dk_160 0 5 (dk_at dksX8_readAll_0 21 rfl rfl)
theorem dX8_readAll_24 : decode cX8_readAll 24 = .ok (.iconst 0, 1) := dk_3 (dk_at dksX8_readAll_1 0 rfl rfl)
theorem dX8_readAll_25 : decode cX8_readAll 25 = .ok (.ireturn, 1) := dk_172 (dk_at dksX8_readAll_1 1 rfl rfl)
theorem dX8_readAll_26 : decode cX8_readAll 26 = .ok (.iconst 0, 1) := dk_3 (dk_at dksX8_readAll_1 2 rfl rfl)
theorem dX8_readAll_27 : decode cX8_readAll 27 = .ok (.istore_n 2, 1) := dk_61 (dk_at dksX8_readAll_1 3 rfl rfl)
theorem dX8_readAll_28 : decode cX8_readAll 28 = .ok (.aload_n 0, 1) := dk_42 (dk_at dksX8_readAll_1 4 rfl rfl)
theorem dX8_readAll_29 : decode cX8_readAll 29 = .ok (.iload_n 1, 1) := dk_27 (dk_at dksX8_readAll_1 5 rfl rfl)
theorem dX8_readAll_30 : decode cX8_readAll 30 = .ok (.iload_n 2, 1) := dk_28 (dk_at dksX8_readAll_1 6 rfl rfl)
theorem dX8_readAll_31 : decode cX8_readAll 31 = .ok (.invokevirtual 254, 3) := dk_182 0 254 (dk_at dksX8_readAll_1 7 rfl rfl)
theorem dX8_readAll_34 : decode cX8_readAll 34 = .ok (.ifCond .ne 5, 3) := dk_154 0 5 (dk_at dksX8_readAll_1 10 rfl rfl)
theorem dX8_readAll_37 : decode cX8_readAll 37 = .ok (.iconst (-1), 1) := dk_2 (dk_at dksX8_readAll_1 13 rfl rfl)
theorem dX8_readAll_38 : decode cX8_readAll 38 = .ok (.ireturn, 1) := dk_172 (dk_at dksX8_readAll_1 14 rfl rfl)
theorem dX8_readAll_39 : decode cX8_readAll 39 = .ok (.aload_n 0, 1) := dk_42 (dk_at dksX8_readAll_1 15 rfl rfl)
theorem dX8_readAll_40 : decode cX8_readAll 40 = .ok (.invokevirtual 115, 3) := dk_182 0 115 (dk_at dksX8_readAll_1 16 rfl rfl)
theorem dX8_readAll_43 : decode cX8_readAll 43 = .ok (.aload_n 0, 1) := dk_42 (dk_at dksX8_readAll_1 19 rfl rfl)
theorem dX8_readAll_44 : decode cX8_readAll 44 = .ok (.getfield 102, 3) := dk_180 0 102 (dk_at dksX8_readAll_1 20 rfl rfl)
theorem dX8_readAll_47 : decode cX8_readAll 47 = .ok (.aload_n 0, 1) := dk_42 (dk_at dksX8_readAll_1 23 rfl rfl)
theorem dX8_readAll_48 : decode cX8_readAll 48 = .ok (.getfield 105, 3) := dk_180 0 105 (dk_at dksX8_readAll_2 0 rfl rfl)
theorem dX8_readAll_51 : decode cX8_readAll 51 = .ok (.if_icmp .ne 7, 3) := dk_160 0 7 (dk_at dksX8_readAll_2 3 rfl rfl)
theorem dX8_readAll_54 : decode cX8_readAll 54 = .ok (.iload_n 2, 1) := dk_28 (dk_at dksX8_readAll_2 6 rfl rfl)
theorem dX8_readAll_55 : decode cX8_readAll 55 = .ok (.iconst 1, 1) := dk_4 (dk_at dksX8_readAll_2 7 rfl rfl)
theorem dX8_readAll_56 : decode cX8_readAll 56 = .ok (.iadd, 1) := dk_96 (dk_at dksX8_readAll_2 8 rfl rfl)
theorem dX8_readAll_57 : decode cX8_readAll 57 = .ok (.ireturn, 1) := dk_172 (dk_at dksX8_readAll_2 9 rfl rfl)
theorem dX8_readAll_58 : decode cX8_readAll 58 = .ok (.aload_n 0, 1) := dk_42 (dk_at dksX8_readAll_2 10 rfl rfl)
theorem dX8_readAll_59 : decode cX8_readAll 59 = .ok (.bipush 59, 2) := dk_16 59 (dk_at dksX8_readAll_2 11 rfl rfl)
theorem dX8_readAll_61 : decode cX8_readAll 61 = .ok (.bipush 59, 2) := dk_16 59 (dk_at dksX8_readAll_2 13 rfl rfl)
theorem dX8_readAll_63 : decode cX8_readAll 63 = .ok (.invokevirtual 108, 3) := dk_182 0 108 (dk_at dksX8_readAll_2 15 rfl rfl)
theorem dX8_readAll_66 : decode cX8_readAll 66 = .ok (.ifCond .ne 5, 3) := dk_154 0 5 (dk_at dksX8_readAll_2 18 rfl rfl)
theorem dX8_readAll_69 : decode cX8_readAll 69 = .ok (.iconst (-1), 1) := dk_2 (dk_at dksX8_readAll_2 21 rfl rfl)
theorem dX8_readAll_70 : decode cX8_readAll 70 = .ok (.ireturn, 1) := dk_172 (dk_at dksX8_readAll_2 22 rfl rfl)
theorem dX8_readAll_71 : decode cX8_readAll 71 = .ok (.aload_n 0, 1) := dk_42 (dk_at dksX8_readAll_2 23 rfl rfl)
theorem dX8_readAll_72 : decode cX8_readAll 72 = .ok (.dup, 1) := dk_89 (dk_at dksX8_readAll_3 0 rfl rfl)
theorem dX8_readAll_73 : decode cX8_readAll 73 = .ok (.getfield 102, 3) := dk_180 0 102 (dk_at dksX8_readAll_3 1 rfl rfl)
theorem dX8_readAll_76 : decode cX8_readAll 76 = .ok (.iconst 1, 1) := dk_4 (dk_at dksX8_readAll_3 4 rfl rfl)
theorem dX8_readAll_77 : decode cX8_readAll 77 = .ok (.iadd, 1) := dk_96 (dk_at dksX8_readAll_3 5 rfl rfl)
theorem dX8_readAll_78 : decode cX8_readAll 78 = .ok (.putfield 102, 3) := dk_181 0 102 (dk_at dksX8_readAll_3 6 rfl rfl)
theorem dX8_readAll_81 : decode cX8_readAll 81 = .ok (.iinc 2 1, 3) := dk_132 2 1 (dk_at dksX8_readAll_3 9 rfl rfl)
theorem dX8_readAll_84 : decode cX8_readAll 84 = .ok (.goto (-56), 3) := dk_167 255 200 (dk_at dksX8_readAll_3 12 rfl rfl)
abbrev cX8_uses : ByteArray := prog_18_method_36_code
def yX8_uses : MethodName := ⟨RX8, "uses", "()V"⟩
def dkwX8_uses_0 : List UInt8 := [42, 3, 181, 0, 3, 42, 42, 180, 0, 99, 181, 0, 105, 42, 3, 181, 0, 99, 42, 3, 181, 0, 102, 177]
abbrev dktX8_uses_0 : List UInt8 := dkwX8_uses_0 ++ []
theorem dksX8_uses_0 : cX8_uses.data.toList.drop 0 = dktX8_uses_0 := by decide +kernel
theorem dX8_uses_0 : decode cX8_uses 0 = .ok (.aload_n 0, 1) := dk_42 (dk_at dksX8_uses_0 0 rfl rfl)
theorem dX8_uses_1 : decode cX8_uses 1 = .ok (.iconst 0, 1) := dk_3 (dk_at dksX8_uses_0 1 rfl rfl)
theorem dX8_uses_2 : decode cX8_uses 2 = .ok (.putfield 3, 3) := dk_181 0 3 (dk_at dksX8_uses_0 2 rfl rfl)
theorem dX8_uses_5 : decode cX8_uses 5 = .ok (.aload_n 0, 1) := dk_42 (dk_at dksX8_uses_0 5 rfl rfl)
theorem dX8_uses_6 : decode cX8_uses 6 = .ok (.aload_n 0, 1) := dk_42 (dk_at dksX8_uses_0 6 rfl rfl)
theorem dX8_uses_7 : decode cX8_uses 7 = .ok (.getfield 99, 3) := dk_180 0 99 (dk_at dksX8_uses_0 7 rfl rfl)
theorem dX8_uses_10 : decode cX8_uses 10 = .ok (.putfield 105, 3) := dk_181 0 105 (dk_at dksX8_uses_0 10 rfl rfl)
theorem dX8_uses_13 : decode cX8_uses 13 = .ok (.aload_n 0, 1) := dk_42 (dk_at dksX8_uses_0 13 rfl rfl)
theorem dX8_uses_14 : decode cX8_uses 14 = .ok (.iconst 0, 1) := dk_3 (dk_at dksX8_uses_0 14 rfl rfl)
theorem dX8_uses_15 : decode cX8_uses 15 = .ok (.putfield 99, 3) := dk_181 0 99 (dk_at dksX8_uses_0 15 rfl rfl)
theorem dX8_uses_18 : decode cX8_uses 18 = .ok (.aload_n 0, 1) := dk_42 (dk_at dksX8_uses_0 18 rfl rfl)
theorem dX8_uses_19 : decode cX8_uses 19 = .ok (.iconst 0, 1) := dk_3 (dk_at dksX8_uses_0 19 rfl rfl)
theorem dX8_uses_20 : decode cX8_uses 20 = .ok (.putfield 102, 3) := dk_181 0 102 (dk_at dksX8_uses_0 20 rfl rfl)
theorem dX8_uses_23 : decode cX8_uses 23 = .ok (.return_, 1) := dk_177 (dk_at dksX8_uses_0 23 rfl rfl)
abbrev cX8_blanks : ByteArray := prog_18_method_28_code
def yX8_blanks : MethodName := ⟨RX8, "blanks", "()V"⟩
def dkwX8_blanks_1 : List UInt8 := [42, 42, 180, 0, 102, 181, 0, 112, 177]
abbrev dktX8_blanks_1 : List UInt8 := dkwX8_blanks_1 ++ []
def dkwX8_blanks_0 : List UInt8 := [42, 16, 32, 16, 32, 182, 0, 108, 153, 0, 16, 42, 89, 180, 0, 102, 4, 96, 181, 0, 102, 167, 255, 235]
abbrev dktX8_blanks_0 : List UInt8 := dkwX8_blanks_0 ++ dktX8_blanks_1
theorem dksX8_blanks_0 : cX8_blanks.data.toList.drop 0 = dktX8_blanks_0 := by decide +kernel
theorem dksX8_blanks_1 : cX8_blanks.data.toList.drop 24 = dktX8_blanks_1 := dk_seg dksX8_blanks_0 24 rfl rfl
theorem dX8_blanks_0 : decode cX8_blanks 0 = .ok (.aload_n 0, 1) := dk_42 (dk_at dksX8_blanks_0 0 rfl rfl)
theorem dX8_blanks_1 : decode cX8_blanks 1 = .ok (.bipush 32, 2) := dk_16 32 (dk_at dksX8_blanks_0 1 rfl rfl)
theorem dX8_blanks_3 : decode cX8_blanks 3 = .ok (.bipush 32, 2) := dk_16 32 (dk_at dksX8_blanks_0 3 rfl rfl)
theorem dX8_blanks_5 : decode cX8_blanks 5 = .ok (.invokevirtual 108, 3) := dk_182 0 108 (dk_at dksX8_blanks_0 5 rfl rfl)
theorem dX8_blanks_8 : decode cX8_blanks 8 = .ok (.ifCond .eq 16, 3) := dk_153 0 16 (dk_at dksX8_blanks_0 8 rfl rfl)
theorem dX8_blanks_11 : decode cX8_blanks 11 = .ok (.aload_n 0, 1) := dk_42 (dk_at dksX8_blanks_0 11 rfl rfl)
theorem dX8_blanks_12 : decode cX8_blanks 12 = .ok (.dup, 1) := dk_89 (dk_at dksX8_blanks_0 12 rfl rfl)
theorem dX8_blanks_13 : decode cX8_blanks 13 = .ok (.getfield 102, 3) := dk_180 0 102 (dk_at dksX8_blanks_0 13 rfl rfl)
theorem dX8_blanks_16 : decode cX8_blanks 16 = .ok (.iconst 1, 1) := dk_4 (dk_at dksX8_blanks_0 16 rfl rfl)
theorem dX8_blanks_17 : decode cX8_blanks 17 = .ok (.iadd, 1) := dk_96 (dk_at dksX8_blanks_0 17 rfl rfl)
theorem dX8_blanks_18 : decode cX8_blanks 18 = .ok (.putfield 102, 3) := dk_181 0 102 (dk_at dksX8_blanks_0 18 rfl rfl)
theorem dX8_blanks_21 : decode cX8_blanks 21 = .ok (.goto (-21), 3) := dk_167 255 235 (dk_at dksX8_blanks_0 21 rfl rfl)
theorem dX8_blanks_24 : decode cX8_blanks 24 = .ok (.aload_n 0, 1) := dk_42 (dk_at dksX8_blanks_1 0 rfl rfl)
theorem dX8_blanks_25 : decode cX8_blanks 25 = .ok (.aload_n 0, 1) := dk_42 (dk_at dksX8_blanks_1 1 rfl rfl)
theorem dX8_blanks_26 : decode cX8_blanks 26 = .ok (.getfield 102, 3) := dk_180 0 102 (dk_at dksX8_blanks_1 2 rfl rfl)
theorem dX8_blanks_29 : decode cX8_blanks 29 = .ok (.putfield 112, 3) := dk_181 0 112 (dk_at dksX8_blanks_1 5 rfl rfl)
theorem dX8_blanks_32 : decode cX8_blanks 32 = .ok (.return_, 1) := dk_177 (dk_at dksX8_blanks_1 8 rfl rfl)
abbrev cX8_isAt : ByteArray := prog_18_method_27_code
def yX8_isAt : MethodName := ⟨RX8, "isAt", "(II)Z"⟩
def dkwX8_isAt_1 : List UInt8 := [42, 180, 0, 29, 42, 180, 0, 102, 51, 28, 163, 0, 7, 4, 167, 0, 4, 3, 172]
abbrev dktX8_isAt_1 : List UInt8 := dkwX8_isAt_1 ++ []
def dkwX8_isAt_0 : List UInt8 := [42, 180, 0, 102, 42, 180, 0, 105, 162, 0, 33, 42, 180, 0, 29, 42, 180, 0, 102, 51, 27, 161, 0, 20]
abbrev dktX8_isAt_0 : List UInt8 := dkwX8_isAt_0 ++ dktX8_isAt_1
theorem dksX8_isAt_0 : cX8_isAt.data.toList.drop 0 = dktX8_isAt_0 := by decide +kernel
theorem dksX8_isAt_1 : cX8_isAt.data.toList.drop 24 = dktX8_isAt_1 := dk_seg dksX8_isAt_0 24 rfl rfl
theorem dX8_isAt_0 : decode cX8_isAt 0 = .ok (.aload_n 0, 1) := dk_42 (dk_at dksX8_isAt_0 0 rfl rfl)
theorem dX8_isAt_1 : decode cX8_isAt 1 = .ok (.getfield 102, 3) := dk_180 0 102 (dk_at dksX8_isAt_0 1 rfl rfl)
theorem dX8_isAt_4 : decode cX8_isAt 4 = .ok (.aload_n 0, 1) := dk_42 (dk_at dksX8_isAt_0 4 rfl rfl)
theorem dX8_isAt_5 : decode cX8_isAt 5 = .ok (.getfield 105, 3) := dk_180 0 105 (dk_at dksX8_isAt_0 5 rfl rfl)
theorem dX8_isAt_8 : decode cX8_isAt 8 = .ok (.if_icmp .ge 33, 3) := dk_162 0 33 (dk_at dksX8_isAt_0 8 rfl rfl)
theorem dX8_isAt_11 : decode cX8_isAt 11 = .ok (.aload_n 0, 1) := dk_42 (dk_at dksX8_isAt_0 11 rfl rfl)
theorem dX8_isAt_12 : decode cX8_isAt 12 = .ok (.getfield 29, 3) := dk_180 0 29 (dk_at dksX8_isAt_0 12 rfl rfl)
theorem dX8_isAt_15 : decode cX8_isAt 15 = .ok (.aload_n 0, 1) := dk_42 (dk_at dksX8_isAt_0 15 rfl rfl)
theorem dX8_isAt_16 : decode cX8_isAt 16 = .ok (.getfield 102, 3) := dk_180 0 102 (dk_at dksX8_isAt_0 16 rfl rfl)
theorem dX8_isAt_19 : decode cX8_isAt 19 = .ok (.baload, 1) := dk_51 (dk_at dksX8_isAt_0 19 rfl rfl)
theorem dX8_isAt_20 : decode cX8_isAt 20 = .ok (.iload_n 1, 1) := dk_27 (dk_at dksX8_isAt_0 20 rfl rfl)
theorem dX8_isAt_21 : decode cX8_isAt 21 = .ok (.if_icmp .lt 20, 3) := dk_161 0 20 (dk_at dksX8_isAt_0 21 rfl rfl)
theorem dX8_isAt_24 : decode cX8_isAt 24 = .ok (.aload_n 0, 1) := dk_42 (dk_at dksX8_isAt_1 0 rfl rfl)
theorem dX8_isAt_25 : decode cX8_isAt 25 = .ok (.getfield 29, 3) := dk_180 0 29 (dk_at dksX8_isAt_1 1 rfl rfl)
theorem dX8_isAt_28 : decode cX8_isAt 28 = .ok (.aload_n 0, 1) := dk_42 (dk_at dksX8_isAt_1 4 rfl rfl)
theorem dX8_isAt_29 : decode cX8_isAt 29 = .ok (.getfield 102, 3) := dk_180 0 102 (dk_at dksX8_isAt_1 5 rfl rfl)
theorem dX8_isAt_32 : decode cX8_isAt 32 = .ok (.baload, 1) := dk_51 (dk_at dksX8_isAt_1 8 rfl rfl)
theorem dX8_isAt_33 : decode cX8_isAt 33 = .ok (.iload_n 2, 1) := dk_28 (dk_at dksX8_isAt_1 9 rfl rfl)
theorem dX8_isAt_34 : decode cX8_isAt 34 = .ok (.if_icmp .gt 7, 3) := dk_163 0 7 (dk_at dksX8_isAt_1 10 rfl rfl)
theorem dX8_isAt_37 : decode cX8_isAt 37 = .ok (.iconst 1, 1) := dk_4 (dk_at dksX8_isAt_1 13 rfl rfl)
theorem dX8_isAt_38 : decode cX8_isAt 38 = .ok (.goto 4, 3) := dk_167 0 4 (dk_at dksX8_isAt_1 14 rfl rfl)
theorem dX8_isAt_41 : decode cX8_isAt 41 = .ok (.iconst 0, 1) := dk_3 (dk_at dksX8_isAt_1 17 rfl rfl)
theorem dX8_isAt_42 : decode cX8_isAt 42 = .ok (.ireturn, 1) := dk_172 (dk_at dksX8_isAt_1 18 rfl rfl)
abbrev cX8_readLine : ByteArray := prog_18_method_50_code
def yX8_readLine : MethodName := ⟨RX8, "readLine", "(ZI)Z"⟩
def dkwX8_readLine_1 : List UInt8 := [182, 0, 245, 153, 0, 18, 167, 0, 11, 42, 28, 182, 0, 248, 153, 0, 7, 4, 167, 0, 4, 3, 172]
abbrev dktX8_readLine_1 : List UInt8 := dkwX8_readLine_1 ++ []
def dkwX8_readLine_0 : List UInt8 := [42, 182, 0, 127, 28, 27, 153, 0, 8, 16, 14, 167, 0, 5, 16, 12, 162, 0, 29, 27, 153, 0, 13, 42]
abbrev dktX8_readLine_0 : List UInt8 := dkwX8_readLine_0 ++ dktX8_readLine_1
theorem dksX8_readLine_0 : cX8_readLine.data.toList.drop 0 = dktX8_readLine_0 := by decide +kernel
theorem dksX8_readLine_1 : cX8_readLine.data.toList.drop 24 = dktX8_readLine_1 := dk_seg dksX8_readLine_0 24 rfl rfl
theorem dX8_readLine_0 : decode cX8_readLine 0 = .ok (.aload_n 0, 1) := dk_42 (dk_at dksX8_readLine_0 0 rfl rfl)
theorem dX8_readLine_1 : decode cX8_readLine 1 = .ok (.invokevirtual 127, 3) := dk_182 0 127 (dk_at dksX8_readLine_0 1 rfl rfl)
theorem dX8_readLine_4 : decode cX8_readLine 4 = .ok (.iload_n 2, 1) := dk_28 (dk_at dksX8_readLine_0 4 rfl rfl)
theorem dX8_readLine_5 : decode cX8_readLine 5 = .ok (.iload_n 1, 1) := dk_27 (dk_at dksX8_readLine_0 5 rfl rfl)
theorem dX8_readLine_6 : decode cX8_readLine 6 = .ok (.ifCond .eq 8, 3) := dk_153 0 8 (dk_at dksX8_readLine_0 6 rfl rfl)
theorem dX8_readLine_9 : decode cX8_readLine 9 = .ok (.bipush 14, 2) := dk_16 14 (dk_at dksX8_readLine_0 9 rfl rfl)
theorem dX8_readLine_11 : decode cX8_readLine 11 = .ok (.goto 5, 3) := dk_167 0 5 (dk_at dksX8_readLine_0 11 rfl rfl)
theorem dX8_readLine_14 : decode cX8_readLine 14 = .ok (.bipush 12, 2) := dk_16 12 (dk_at dksX8_readLine_0 14 rfl rfl)
theorem dX8_readLine_16 : decode cX8_readLine 16 = .ok (.if_icmp .ge 29, 3) := dk_162 0 29 (dk_at dksX8_readLine_0 16 rfl rfl)
theorem dX8_readLine_19 : decode cX8_readLine 19 = .ok (.iload_n 1, 1) := dk_27 (dk_at dksX8_readLine_0 19 rfl rfl)
theorem dX8_readLine_20 : decode cX8_readLine 20 = .ok (.ifCond .eq 13, 3) := dk_153 0 13 (dk_at dksX8_readLine_0 20 rfl rfl)
theorem dX8_readLine_23 : decode cX8_readLine 23 = .ok (.aload_n 0, 1) := dk_42 (dk_at dksX8_readLine_0 23 rfl rfl)
theorem dX8_readLine_24 : decode cX8_readLine 24 = .ok (.invokevirtual 245, 3) := dk_182 0 245 (dk_at dksX8_readLine_1 0 rfl rfl)
theorem dX8_readLine_27 : decode cX8_readLine 27 = .ok (.ifCond .eq 18, 3) := dk_153 0 18 (dk_at dksX8_readLine_1 3 rfl rfl)
theorem dX8_readLine_30 : decode cX8_readLine 30 = .ok (.goto 11, 3) := dk_167 0 11 (dk_at dksX8_readLine_1 6 rfl rfl)
theorem dX8_readLine_33 : decode cX8_readLine 33 = .ok (.aload_n 0, 1) := dk_42 (dk_at dksX8_readLine_1 9 rfl rfl)
theorem dX8_readLine_34 : decode cX8_readLine 34 = .ok (.iload_n 2, 1) := dk_28 (dk_at dksX8_readLine_1 10 rfl rfl)
theorem dX8_readLine_35 : decode cX8_readLine 35 = .ok (.invokevirtual 248, 3) := dk_182 0 248 (dk_at dksX8_readLine_1 11 rfl rfl)
theorem dX8_readLine_38 : decode cX8_readLine 38 = .ok (.ifCond .eq 7, 3) := dk_153 0 7 (dk_at dksX8_readLine_1 14 rfl rfl)
theorem dX8_readLine_41 : decode cX8_readLine 41 = .ok (.iconst 1, 1) := dk_4 (dk_at dksX8_readLine_1 17 rfl rfl)
theorem dX8_readLine_42 : decode cX8_readLine 42 = .ok (.goto 4, 3) := dk_167 0 4 (dk_at dksX8_readLine_1 18 rfl rfl)
theorem dX8_readLine_45 : decode cX8_readLine 45 = .ok (.iconst 0, 1) := dk_3 (dk_at dksX8_readLine_1 21 rfl rfl)
theorem dX8_readLine_46 : decode cX8_readLine 46 = .ok (.ireturn, 1) := dk_172 (dk_at dksX8_readLine_1 22 rfl rfl)
abbrev cX8_letters : ByteArray := prog_18_method_29_code
def yX8_letters : MethodName := ⟨RX8, "letters", "()V"⟩
def dkwX8_letters_1 : List UInt8 := [181, 0, 102, 167, 255, 235, 177]
abbrev dktX8_letters_1 : List UInt8 := dkwX8_letters_1 ++ []
def dkwX8_letters_0 : List UInt8 := [42, 182, 0, 115, 42, 16, 97, 16, 122, 182, 0, 108, 153, 0, 16, 42, 89, 180, 0, 102, 4, 96]
abbrev dktX8_letters_0 : List UInt8 := dkwX8_letters_0 ++ dktX8_letters_1
theorem dksX8_letters_0 : cX8_letters.data.toList.drop 0 = dktX8_letters_0 := by decide +kernel
theorem dksX8_letters_1 : cX8_letters.data.toList.drop 22 = dktX8_letters_1 := dk_seg dksX8_letters_0 22 rfl rfl
theorem dX8_letters_0 : decode cX8_letters 0 = .ok (.aload_n 0, 1) := dk_42 (dk_at dksX8_letters_0 0 rfl rfl)
theorem dX8_letters_1 : decode cX8_letters 1 = .ok (.invokevirtual 115, 3) := dk_182 0 115 (dk_at dksX8_letters_0 1 rfl rfl)
theorem dX8_letters_4 : decode cX8_letters 4 = .ok (.aload_n 0, 1) := dk_42 (dk_at dksX8_letters_0 4 rfl rfl)
theorem dX8_letters_5 : decode cX8_letters 5 = .ok (.bipush 97, 2) := dk_16 97 (dk_at dksX8_letters_0 5 rfl rfl)
theorem dX8_letters_7 : decode cX8_letters 7 = .ok (.bipush 122, 2) := dk_16 122 (dk_at dksX8_letters_0 7 rfl rfl)
theorem dX8_letters_9 : decode cX8_letters 9 = .ok (.invokevirtual 108, 3) := dk_182 0 108 (dk_at dksX8_letters_0 9 rfl rfl)
theorem dX8_letters_12 : decode cX8_letters 12 = .ok (.ifCond .eq 16, 3) := dk_153 0 16 (dk_at dksX8_letters_0 12 rfl rfl)
theorem dX8_letters_15 : decode cX8_letters 15 = .ok (.aload_n 0, 1) := dk_42 (dk_at dksX8_letters_0 15 rfl rfl)
theorem dX8_letters_16 : decode cX8_letters 16 = .ok (.dup, 1) := dk_89 (dk_at dksX8_letters_0 16 rfl rfl)
theorem dX8_letters_17 : decode cX8_letters 17 = .ok (.getfield 102, 3) := dk_180 0 102 (dk_at dksX8_letters_0 17 rfl rfl)
theorem dX8_letters_20 : decode cX8_letters 20 = .ok (.iconst 1, 1) := dk_4 (dk_at dksX8_letters_0 20 rfl rfl)
theorem dX8_letters_21 : decode cX8_letters 21 = .ok (.iadd, 1) := dk_96 (dk_at dksX8_letters_0 21 rfl rfl)
theorem dX8_letters_22 : decode cX8_letters 22 = .ok (.putfield 102, 3) := dk_181 0 102 (dk_at dksX8_letters_1 0 rfl rfl)
theorem dX8_letters_25 : decode cX8_letters 25 = .ok (.goto (-21), 3) := dk_167 255 235 (dk_at dksX8_letters_1 3 rfl rfl)
theorem dX8_letters_28 : decode cX8_letters 28 = .ok (.return_, 1) := dk_177 (dk_at dksX8_letters_1 6 rfl rfl)
abbrev cX8_readCourtLine : ByteArray := prog_18_method_41_code
def yX8_readCourtLine : MethodName := ⟨RX8, "readCourtLine", "()Z"⟩
def dkwX8_readCourtLine_3 : List UInt8 := [153, 0, 19, 42, 7, 3, 17, 3, 231, 182, 0, 187, 153, 0, 7, 4, 167, 0, 4, 3, 172]
abbrev dktX8_readCourtLine_3 : List UInt8 := dkwX8_readCourtLine_3 ++ []
def dkwX8_readCourtLine_2 : List UInt8 := [18, 190, 182, 0, 130, 153, 0, 13, 42, 16, 6, 3, 16, 20, 182, 0, 187, 172, 42, 18, 192, 182, 0, 130]
abbrev dktX8_readCourtLine_2 : List UInt8 := dkwX8_readCourtLine_2 ++ dktX8_readCourtLine_3
def dkwX8_readCourtLine_1 : List UInt8 := [182, 0, 182, 172, 42, 18, 185, 182, 0, 130, 153, 0, 12, 42, 8, 3, 16, 9, 182, 0, 187, 172, 42]
abbrev dktX8_readCourtLine_1 : List UInt8 := dkwX8_readCourtLine_1 ++ dktX8_readCourtLine_2
def dkwX8_readCourtLine_0 : List UInt8 := [42, 18, 174, 182, 0, 130, 153, 0, 8, 42, 182, 0, 176, 172, 42, 18, 180, 182, 0, 130, 153, 0, 8, 42]
abbrev dktX8_readCourtLine_0 : List UInt8 := dkwX8_readCourtLine_0 ++ dktX8_readCourtLine_1
theorem dksX8_readCourtLine_0 : cX8_readCourtLine.data.toList.drop 0 = dktX8_readCourtLine_0 := by decide +kernel
theorem dksX8_readCourtLine_1 : cX8_readCourtLine.data.toList.drop 24 = dktX8_readCourtLine_1 := dk_seg dksX8_readCourtLine_0 24 rfl rfl
theorem dksX8_readCourtLine_2 : cX8_readCourtLine.data.toList.drop 47 = dktX8_readCourtLine_2 := dk_seg dksX8_readCourtLine_1 23 rfl rfl
theorem dksX8_readCourtLine_3 : cX8_readCourtLine.data.toList.drop 71 = dktX8_readCourtLine_3 := dk_seg dksX8_readCourtLine_2 24 rfl rfl
theorem dX8_readCourtLine_0 : decode cX8_readCourtLine 0 = .ok (.aload_n 0, 1) := dk_42 (dk_at dksX8_readCourtLine_0 0 rfl rfl)
theorem dX8_readCourtLine_1 : decode cX8_readCourtLine 1 = .ok (.ldc 174, 2) := dk_18 174 (dk_at dksX8_readCourtLine_0 1 rfl rfl)
theorem dX8_readCourtLine_3 : decode cX8_readCourtLine 3 = .ok (.invokevirtual 130, 3) := dk_182 0 130 (dk_at dksX8_readCourtLine_0 3 rfl rfl)
theorem dX8_readCourtLine_6 : decode cX8_readCourtLine 6 = .ok (.ifCond .eq 8, 3) := dk_153 0 8 (dk_at dksX8_readCourtLine_0 6 rfl rfl)
theorem dX8_readCourtLine_9 : decode cX8_readCourtLine 9 = .ok (.aload_n 0, 1) := dk_42 (dk_at dksX8_readCourtLine_0 9 rfl rfl)
theorem dX8_readCourtLine_10 : decode cX8_readCourtLine 10 = .ok (.invokevirtual 176, 3) := dk_182 0 176 (dk_at dksX8_readCourtLine_0 10 rfl rfl)
theorem dX8_readCourtLine_13 : decode cX8_readCourtLine 13 = .ok (.ireturn, 1) := dk_172 (dk_at dksX8_readCourtLine_0 13 rfl rfl)
theorem dX8_readCourtLine_14 : decode cX8_readCourtLine 14 = .ok (.aload_n 0, 1) := dk_42 (dk_at dksX8_readCourtLine_0 14 rfl rfl)
theorem dX8_readCourtLine_15 : decode cX8_readCourtLine 15 = .ok (.ldc 180, 2) := dk_18 180 (dk_at dksX8_readCourtLine_0 15 rfl rfl)
theorem dX8_readCourtLine_17 : decode cX8_readCourtLine 17 = .ok (.invokevirtual 130, 3) := dk_182 0 130 (dk_at dksX8_readCourtLine_0 17 rfl rfl)
theorem dX8_readCourtLine_20 : decode cX8_readCourtLine 20 = .ok (.ifCond .eq 8, 3) := dk_153 0 8 (dk_at dksX8_readCourtLine_0 20 rfl rfl)
theorem dX8_readCourtLine_23 : decode cX8_readCourtLine 23 = .ok (.aload_n 0, 1) := dk_42 (dk_at dksX8_readCourtLine_0 23 rfl rfl)
theorem dX8_readCourtLine_24 : decode cX8_readCourtLine 24 = .ok (.invokevirtual 182, 3) := dk_182 0 182 (dk_at dksX8_readCourtLine_1 0 rfl rfl)
theorem dX8_readCourtLine_27 : decode cX8_readCourtLine 27 = .ok (.ireturn, 1) := dk_172 (dk_at dksX8_readCourtLine_1 3 rfl rfl)
theorem dX8_readCourtLine_28 : decode cX8_readCourtLine 28 = .ok (.aload_n 0, 1) := dk_42 (dk_at dksX8_readCourtLine_1 4 rfl rfl)
theorem dX8_readCourtLine_29 : decode cX8_readCourtLine 29 = .ok (.ldc 185, 2) := dk_18 185 (dk_at dksX8_readCourtLine_1 5 rfl rfl)
theorem dX8_readCourtLine_31 : decode cX8_readCourtLine 31 = .ok (.invokevirtual 130, 3) := dk_182 0 130 (dk_at dksX8_readCourtLine_1 7 rfl rfl)
theorem dX8_readCourtLine_34 : decode cX8_readCourtLine 34 = .ok (.ifCond .eq 12, 3) := dk_153 0 12 (dk_at dksX8_readCourtLine_1 10 rfl rfl)
theorem dX8_readCourtLine_37 : decode cX8_readCourtLine 37 = .ok (.aload_n 0, 1) := dk_42 (dk_at dksX8_readCourtLine_1 13 rfl rfl)
theorem dX8_readCourtLine_38 : decode cX8_readCourtLine 38 = .ok (.iconst 5, 1) := dk_8 (dk_at dksX8_readCourtLine_1 14 rfl rfl)
theorem dX8_readCourtLine_39 : decode cX8_readCourtLine 39 = .ok (.iconst 0, 1) := dk_3 (dk_at dksX8_readCourtLine_1 15 rfl rfl)
theorem dX8_readCourtLine_40 : decode cX8_readCourtLine 40 = .ok (.bipush 9, 2) := dk_16 9 (dk_at dksX8_readCourtLine_1 16 rfl rfl)
theorem dX8_readCourtLine_42 : decode cX8_readCourtLine 42 = .ok (.invokevirtual 187, 3) := dk_182 0 187 (dk_at dksX8_readCourtLine_1 18 rfl rfl)
theorem dX8_readCourtLine_45 : decode cX8_readCourtLine 45 = .ok (.ireturn, 1) := dk_172 (dk_at dksX8_readCourtLine_1 21 rfl rfl)
theorem dX8_readCourtLine_46 : decode cX8_readCourtLine 46 = .ok (.aload_n 0, 1) := dk_42 (dk_at dksX8_readCourtLine_1 22 rfl rfl)
theorem dX8_readCourtLine_47 : decode cX8_readCourtLine 47 = .ok (.ldc 190, 2) := dk_18 190 (dk_at dksX8_readCourtLine_2 0 rfl rfl)
theorem dX8_readCourtLine_49 : decode cX8_readCourtLine 49 = .ok (.invokevirtual 130, 3) := dk_182 0 130 (dk_at dksX8_readCourtLine_2 2 rfl rfl)
theorem dX8_readCourtLine_52 : decode cX8_readCourtLine 52 = .ok (.ifCond .eq 13, 3) := dk_153 0 13 (dk_at dksX8_readCourtLine_2 5 rfl rfl)
theorem dX8_readCourtLine_55 : decode cX8_readCourtLine 55 = .ok (.aload_n 0, 1) := dk_42 (dk_at dksX8_readCourtLine_2 8 rfl rfl)
theorem dX8_readCourtLine_56 : decode cX8_readCourtLine 56 = .ok (.bipush 6, 2) := dk_16 6 (dk_at dksX8_readCourtLine_2 9 rfl rfl)
theorem dX8_readCourtLine_58 : decode cX8_readCourtLine 58 = .ok (.iconst 0, 1) := dk_3 (dk_at dksX8_readCourtLine_2 11 rfl rfl)
theorem dX8_readCourtLine_59 : decode cX8_readCourtLine 59 = .ok (.bipush 20, 2) := dk_16 20 (dk_at dksX8_readCourtLine_2 12 rfl rfl)
theorem dX8_readCourtLine_61 : decode cX8_readCourtLine 61 = .ok (.invokevirtual 187, 3) := dk_182 0 187 (dk_at dksX8_readCourtLine_2 14 rfl rfl)
theorem dX8_readCourtLine_64 : decode cX8_readCourtLine 64 = .ok (.ireturn, 1) := dk_172 (dk_at dksX8_readCourtLine_2 17 rfl rfl)
theorem dX8_readCourtLine_65 : decode cX8_readCourtLine 65 = .ok (.aload_n 0, 1) := dk_42 (dk_at dksX8_readCourtLine_2 18 rfl rfl)
theorem dX8_readCourtLine_66 : decode cX8_readCourtLine 66 = .ok (.ldc 192, 2) := dk_18 192 (dk_at dksX8_readCourtLine_2 19 rfl rfl)
theorem dX8_readCourtLine_68 : decode cX8_readCourtLine 68 = .ok (.invokevirtual 130, 3) := dk_182 0 130 (dk_at dksX8_readCourtLine_2 21 rfl rfl)
theorem dX8_readCourtLine_71 : decode cX8_readCourtLine 71 = .ok (.ifCond .eq 19, 3) := dk_153 0 19 (dk_at dksX8_readCourtLine_3 0 rfl rfl)
theorem dX8_readCourtLine_74 : decode cX8_readCourtLine 74 = .ok (.aload_n 0, 1) := dk_42 (dk_at dksX8_readCourtLine_3 3 rfl rfl)
theorem dX8_readCourtLine_75 : decode cX8_readCourtLine 75 = .ok (.iconst 4, 1) := dk_7 (dk_at dksX8_readCourtLine_3 4 rfl rfl)
theorem dX8_readCourtLine_76 : decode cX8_readCourtLine 76 = .ok (.iconst 0, 1) := dk_3 (dk_at dksX8_readCourtLine_3 5 rfl rfl)
theorem dX8_readCourtLine_77 : decode cX8_readCourtLine 77 = .ok (.sipush 999, 3) := dk_17 3 231 (dk_at dksX8_readCourtLine_3 6 rfl rfl)
theorem dX8_readCourtLine_80 : decode cX8_readCourtLine 80 = .ok (.invokevirtual 187, 3) := dk_182 0 187 (dk_at dksX8_readCourtLine_3 9 rfl rfl)
theorem dX8_readCourtLine_83 : decode cX8_readCourtLine 83 = .ok (.ifCond .eq 7, 3) := dk_153 0 7 (dk_at dksX8_readCourtLine_3 12 rfl rfl)
theorem dX8_readCourtLine_86 : decode cX8_readCourtLine 86 = .ok (.iconst 1, 1) := dk_4 (dk_at dksX8_readCourtLine_3 15 rfl rfl)
theorem dX8_readCourtLine_87 : decode cX8_readCourtLine 87 = .ok (.goto 4, 3) := dk_167 0 4 (dk_at dksX8_readCourtLine_3 16 rfl rfl)
theorem dX8_readCourtLine_90 : decode cX8_readCourtLine 90 = .ok (.iconst 0, 1) := dk_3 (dk_at dksX8_readCourtLine_3 19 rfl rfl)
theorem dX8_readCourtLine_91 : decode cX8_readCourtLine 91 = .ok (.ireturn, 1) := dk_172 (dk_at dksX8_readCourtLine_3 20 rfl rfl)
abbrev cX8_isWord : ByteArray := prog_18_method_30_code
def yX8_isWord : MethodName := ⟨RX8, "isWord", "(Ljava/lang/String;)Z"⟩
def dkwX8_isWord_2 : List UInt8 := [29, 182, 0, 123, 160, 0, 7, 4, 167, 0, 4, 3, 61, 132, 3, 1, 167, 255, 216, 28, 172]
abbrev dktX8_isWord_2 : List UInt8 := dkwX8_isWord_2 ++ []
def dkwX8_isWord_1 : List UInt8 := [28, 153, 0, 42, 29, 43, 182, 0, 118, 162, 0, 34, 42, 180, 0, 29, 42, 180, 0, 112, 29, 96, 51, 43]
abbrev dktX8_isWord_1 : List UInt8 := dkwX8_isWord_1 ++ dktX8_isWord_2
def dkwX8_isWord_0 : List UInt8 := [42, 180, 0, 102, 42, 180, 0, 112, 100, 43, 182, 0, 118, 160, 0, 7, 4, 167, 0, 4, 3, 61, 3, 62]
abbrev dktX8_isWord_0 : List UInt8 := dkwX8_isWord_0 ++ dktX8_isWord_1
theorem dksX8_isWord_0 : cX8_isWord.data.toList.drop 0 = dktX8_isWord_0 := by decide +kernel
theorem dksX8_isWord_1 : cX8_isWord.data.toList.drop 24 = dktX8_isWord_1 := dk_seg dksX8_isWord_0 24 rfl rfl
theorem dksX8_isWord_2 : cX8_isWord.data.toList.drop 48 = dktX8_isWord_2 := dk_seg dksX8_isWord_1 24 rfl rfl
theorem dX8_isWord_0 : decode cX8_isWord 0 = .ok (.aload_n 0, 1) := dk_42 (dk_at dksX8_isWord_0 0 rfl rfl)
theorem dX8_isWord_1 : decode cX8_isWord 1 = .ok (.getfield 102, 3) := dk_180 0 102 (dk_at dksX8_isWord_0 1 rfl rfl)
theorem dX8_isWord_4 : decode cX8_isWord 4 = .ok (.aload_n 0, 1) := dk_42 (dk_at dksX8_isWord_0 4 rfl rfl)
theorem dX8_isWord_5 : decode cX8_isWord 5 = .ok (.getfield 112, 3) := dk_180 0 112 (dk_at dksX8_isWord_0 5 rfl rfl)
theorem dX8_isWord_8 : decode cX8_isWord 8 = .ok (.isub, 1) := dk_100 (dk_at dksX8_isWord_0 8 rfl rfl)
theorem dX8_isWord_9 : decode cX8_isWord 9 = .ok (.aload_n 1, 1) := dk_43 (dk_at dksX8_isWord_0 9 rfl rfl)
theorem dX8_isWord_10 : decode cX8_isWord 10 = .ok (.invokevirtual 118, 3) := dk_182 0 118 (dk_at dksX8_isWord_0 10 rfl rfl)
theorem dX8_isWord_13 : decode cX8_isWord 13 = .ok (.if_icmp .ne 7, 3) := dk_160 0 7 (dk_at dksX8_isWord_0 13 rfl rfl)
theorem dX8_isWord_16 : decode cX8_isWord 16 = .ok (.iconst 1, 1) := dk_4 (dk_at dksX8_isWord_0 16 rfl rfl)
theorem dX8_isWord_17 : decode cX8_isWord 17 = .ok (.goto 4, 3) := dk_167 0 4 (dk_at dksX8_isWord_0 17 rfl rfl)
theorem dX8_isWord_20 : decode cX8_isWord 20 = .ok (.iconst 0, 1) := dk_3 (dk_at dksX8_isWord_0 20 rfl rfl)
theorem dX8_isWord_21 : decode cX8_isWord 21 = .ok (.istore_n 2, 1) := dk_61 (dk_at dksX8_isWord_0 21 rfl rfl)
theorem dX8_isWord_22 : decode cX8_isWord 22 = .ok (.iconst 0, 1) := dk_3 (dk_at dksX8_isWord_0 22 rfl rfl)
theorem dX8_isWord_23 : decode cX8_isWord 23 = .ok (.istore_n 3, 1) := dk_62 (dk_at dksX8_isWord_0 23 rfl rfl)
theorem dX8_isWord_24 : decode cX8_isWord 24 = .ok (.iload_n 2, 1) := dk_28 (dk_at dksX8_isWord_1 0 rfl rfl)
theorem dX8_isWord_25 : decode cX8_isWord 25 = .ok (.ifCond .eq 42, 3) := dk_153 0 42 (dk_at dksX8_isWord_1 1 rfl rfl)
theorem dX8_isWord_28 : decode cX8_isWord 28 = .ok (.iload_n 3, 1) := dk_29 (dk_at dksX8_isWord_1 4 rfl rfl)
theorem dX8_isWord_29 : decode cX8_isWord 29 = .ok (.aload_n 1, 1) := dk_43 (dk_at dksX8_isWord_1 5 rfl rfl)
theorem dX8_isWord_30 : decode cX8_isWord 30 = .ok (.invokevirtual 118, 3) := dk_182 0 118 (dk_at dksX8_isWord_1 6 rfl rfl)
theorem dX8_isWord_33 : decode cX8_isWord 33 = .ok (.if_icmp .ge 34, 3) := dk_162 0 34 (dk_at dksX8_isWord_1 9 rfl rfl)
theorem dX8_isWord_36 : decode cX8_isWord 36 = .ok (.aload_n 0, 1) := dk_42 (dk_at dksX8_isWord_1 12 rfl rfl)
theorem dX8_isWord_37 : decode cX8_isWord 37 = .ok (.getfield 29, 3) := dk_180 0 29 (dk_at dksX8_isWord_1 13 rfl rfl)
theorem dX8_isWord_40 : decode cX8_isWord 40 = .ok (.aload_n 0, 1) := dk_42 (dk_at dksX8_isWord_1 16 rfl rfl)
theorem dX8_isWord_41 : decode cX8_isWord 41 = .ok (.getfield 112, 3) := dk_180 0 112 (dk_at dksX8_isWord_1 17 rfl rfl)
theorem dX8_isWord_44 : decode cX8_isWord 44 = .ok (.iload_n 3, 1) := dk_29 (dk_at dksX8_isWord_1 20 rfl rfl)
theorem dX8_isWord_45 : decode cX8_isWord 45 = .ok (.iadd, 1) := dk_96 (dk_at dksX8_isWord_1 21 rfl rfl)
theorem dX8_isWord_46 : decode cX8_isWord 46 = .ok (.baload, 1) := dk_51 (dk_at dksX8_isWord_1 22 rfl rfl)
theorem dX8_isWord_47 : decode cX8_isWord 47 = .ok (.aload_n 1, 1) := dk_43 (dk_at dksX8_isWord_1 23 rfl rfl)
theorem dX8_isWord_48 : decode cX8_isWord 48 = .ok (.iload_n 3, 1) := dk_29 (dk_at dksX8_isWord_2 0 rfl rfl)
theorem dX8_isWord_49 : decode cX8_isWord 49 = .ok (.invokevirtual 123, 3) := dk_182 0 123 (dk_at dksX8_isWord_2 1 rfl rfl)
theorem dX8_isWord_52 : decode cX8_isWord 52 = .ok (.if_icmp .ne 7, 3) := dk_160 0 7 (dk_at dksX8_isWord_2 4 rfl rfl)
theorem dX8_isWord_55 : decode cX8_isWord 55 = .ok (.iconst 1, 1) := dk_4 (dk_at dksX8_isWord_2 7 rfl rfl)
theorem dX8_isWord_56 : decode cX8_isWord 56 = .ok (.goto 4, 3) := dk_167 0 4 (dk_at dksX8_isWord_2 8 rfl rfl)
theorem dX8_isWord_59 : decode cX8_isWord 59 = .ok (.iconst 0, 1) := dk_3 (dk_at dksX8_isWord_2 11 rfl rfl)
theorem dX8_isWord_60 : decode cX8_isWord 60 = .ok (.istore_n 2, 1) := dk_61 (dk_at dksX8_isWord_2 12 rfl rfl)
theorem dX8_isWord_61 : decode cX8_isWord 61 = .ok (.iinc 3 1, 3) := dk_132 3 1 (dk_at dksX8_isWord_2 13 rfl rfl)
theorem dX8_isWord_64 : decode cX8_isWord 64 = .ok (.goto (-40), 3) := dk_167 255 216 (dk_at dksX8_isWord_2 16 rfl rfl)
theorem dX8_isWord_67 : decode cX8_isWord 67 = .ok (.iload_n 2, 1) := dk_28 (dk_at dksX8_isWord_2 19 rfl rfl)
theorem dX8_isWord_68 : decode cX8_isWord 68 = .ok (.ireturn, 1) := dk_172 (dk_at dksX8_isWord_2 20 rfl rfl)
abbrev cX8_readProp : ByteArray := prog_18_method_39_code
def yX8_readProp : MethodName := ⟨RX8, "readProp", "()Z"⟩
def dkwX8_readProp_7 : List UInt8 := [180, 0, 13, 3, 92, 46, 4, 96, 79, 4, 172]
abbrev dktX8_readProp_7 : List UInt8 := dkwX8_readProp_7 ++ []
def dkwX8_readProp_6 : List UInt8 := [180, 0, 13, 27, 5, 184, 0, 70, 21, 5, 79, 42, 180, 0, 13, 27, 6, 184, 0, 70, 21, 4, 79, 42]
abbrev dktX8_readProp_6 : List UInt8 := dkwX8_readProp_6 ++ dktX8_readProp_7
def dkwX8_readProp_5 : List UInt8 := [27, 3, 184, 0, 70, 28, 184, 0, 165, 79, 42, 180, 0, 13, 27, 4, 184, 0, 70, 29, 79, 42]
abbrev dktX8_readProp_5 : List UInt8 := dkwX8_readProp_5 ++ dktX8_readProp_6
def dkwX8_readProp_4 : List UInt8 := [42, 3, 16, 99, 182, 0, 134, 167, 0, 4, 3, 54, 5, 21, 5, 156, 0, 5, 3, 172, 42, 180, 0, 13]
abbrev dktX8_readProp_4 : List UInt8 := dkwX8_readProp_4 ++ dktX8_readProp_5
def dkwX8_readProp_3 : List UInt8 := [155, 0, 13, 42, 21, 4, 182, 0, 160, 2, 159, 0, 5, 3, 172, 42, 18, 163, 182, 0, 157, 153, 0, 13]
abbrev dktX8_readProp_3 : List UInt8 := dkwX8_readProp_3 ++ dktX8_readProp_4
def dkwX8_readProp_2 : List UInt8 := [172, 2, 54, 4, 42, 18, 155, 182, 0, 157, 153, 0, 29, 42, 3, 16, 9, 182, 0, 134, 54, 4, 21, 4]
abbrev dktX8_readProp_2 : List UInt8 := dkwX8_readProp_2 ++ dktX8_readProp_3
def dkwX8_readProp_1 : List UInt8 := [184, 0, 143, 4, 159, 0, 5, 3, 172, 42, 18, 149, 3, 16, 20, 182, 0, 151, 62, 29, 156, 0, 5, 3]
abbrev dktX8_readProp_1 : List UInt8 := dkwX8_readProp_1 ++ dktX8_readProp_2
def dkwX8_readProp_0 : List UInt8 := [42, 182, 0, 83, 60, 27, 16, 8, 160, 0, 5, 3, 172, 42, 182, 0, 140, 61, 28, 155, 0, 11, 28]
abbrev dktX8_readProp_0 : List UInt8 := dkwX8_readProp_0 ++ dktX8_readProp_1
theorem dksX8_readProp_0 : cX8_readProp.data.toList.drop 0 = dktX8_readProp_0 := by decide +kernel
theorem dksX8_readProp_1 : cX8_readProp.data.toList.drop 23 = dktX8_readProp_1 := dk_seg dksX8_readProp_0 23 rfl rfl
theorem dksX8_readProp_2 : cX8_readProp.data.toList.drop 47 = dktX8_readProp_2 := dk_seg dksX8_readProp_1 24 rfl rfl
theorem dksX8_readProp_3 : cX8_readProp.data.toList.drop 71 = dktX8_readProp_3 := dk_seg dksX8_readProp_2 24 rfl rfl
theorem dksX8_readProp_4 : cX8_readProp.data.toList.drop 95 = dktX8_readProp_4 := dk_seg dksX8_readProp_3 24 rfl rfl
theorem dksX8_readProp_5 : cX8_readProp.data.toList.drop 119 = dktX8_readProp_5 := dk_seg dksX8_readProp_4 24 rfl rfl
theorem dksX8_readProp_6 : cX8_readProp.data.toList.drop 141 = dktX8_readProp_6 := dk_seg dksX8_readProp_5 22 rfl rfl
theorem dksX8_readProp_7 : cX8_readProp.data.toList.drop 165 = dktX8_readProp_7 := dk_seg dksX8_readProp_6 24 rfl rfl
theorem dX8_readProp_0 : decode cX8_readProp 0 = .ok (.aload_n 0, 1) := dk_42 (dk_at dksX8_readProp_0 0 rfl rfl)
theorem dX8_readProp_1 : decode cX8_readProp 1 = .ok (.invokevirtual 83, 3) := dk_182 0 83 (dk_at dksX8_readProp_0 1 rfl rfl)
theorem dX8_readProp_4 : decode cX8_readProp 4 = .ok (.istore_n 1, 1) := dk_60 (dk_at dksX8_readProp_0 4 rfl rfl)
theorem dX8_readProp_5 : decode cX8_readProp 5 = .ok (.iload_n 1, 1) := dk_27 (dk_at dksX8_readProp_0 5 rfl rfl)
theorem dX8_readProp_6 : decode cX8_readProp 6 = .ok (.bipush 8, 2) := dk_16 8 (dk_at dksX8_readProp_0 6 rfl rfl)
theorem dX8_readProp_8 : decode cX8_readProp 8 = .ok (.if_icmp .ne 5, 3) := dk_160 0 5 (dk_at dksX8_readProp_0 8 rfl rfl)
theorem dX8_readProp_11 : decode cX8_readProp 11 = .ok (.iconst 0, 1) := dk_3 (dk_at dksX8_readProp_0 11 rfl rfl)
theorem dX8_readProp_12 : decode cX8_readProp 12 = .ok (.ireturn, 1) := dk_172 (dk_at dksX8_readProp_0 12 rfl rfl)
theorem dX8_readProp_13 : decode cX8_readProp 13 = .ok (.aload_n 0, 1) := dk_42 (dk_at dksX8_readProp_0 13 rfl rfl)
theorem dX8_readProp_14 : decode cX8_readProp 14 = .ok (.invokevirtual 140, 3) := dk_182 0 140 (dk_at dksX8_readProp_0 14 rfl rfl)
theorem dX8_readProp_17 : decode cX8_readProp 17 = .ok (.istore_n 2, 1) := dk_61 (dk_at dksX8_readProp_0 17 rfl rfl)
theorem dX8_readProp_18 : decode cX8_readProp 18 = .ok (.iload_n 2, 1) := dk_28 (dk_at dksX8_readProp_0 18 rfl rfl)
theorem dX8_readProp_19 : decode cX8_readProp 19 = .ok (.ifCond .lt 11, 3) := dk_155 0 11 (dk_at dksX8_readProp_0 19 rfl rfl)
theorem dX8_readProp_22 : decode cX8_readProp 22 = .ok (.iload_n 2, 1) := dk_28 (dk_at dksX8_readProp_0 22 rfl rfl)
theorem dX8_readProp_23 : decode cX8_readProp 23 = .ok (.invokestatic 143, 3) := dk_184 0 143 (dk_at dksX8_readProp_1 0 rfl rfl)
theorem dX8_readProp_26 : decode cX8_readProp 26 = .ok (.iconst 1, 1) := dk_4 (dk_at dksX8_readProp_1 3 rfl rfl)
theorem dX8_readProp_27 : decode cX8_readProp 27 = .ok (.if_icmp .eq 5, 3) := dk_159 0 5 (dk_at dksX8_readProp_1 4 rfl rfl)
theorem dX8_readProp_30 : decode cX8_readProp 30 = .ok (.iconst 0, 1) := dk_3 (dk_at dksX8_readProp_1 7 rfl rfl)
theorem dX8_readProp_31 : decode cX8_readProp 31 = .ok (.ireturn, 1) := dk_172 (dk_at dksX8_readProp_1 8 rfl rfl)
theorem dX8_readProp_32 : decode cX8_readProp 32 = .ok (.aload_n 0, 1) := dk_42 (dk_at dksX8_readProp_1 9 rfl rfl)
theorem dX8_readProp_33 : decode cX8_readProp 33 = .ok (.ldc 149, 2) := dk_18 149 (dk_at dksX8_readProp_1 10 rfl rfl)
theorem dX8_readProp_35 : decode cX8_readProp 35 = .ok (.iconst 0, 1) := dk_3 (dk_at dksX8_readProp_1 12 rfl rfl)
theorem dX8_readProp_36 : decode cX8_readProp 36 = .ok (.bipush 20, 2) := dk_16 20 (dk_at dksX8_readProp_1 13 rfl rfl)
theorem dX8_readProp_38 : decode cX8_readProp 38 = .ok (.invokevirtual 151, 3) := dk_182 0 151 (dk_at dksX8_readProp_1 15 rfl rfl)
theorem dX8_readProp_41 : decode cX8_readProp 41 = .ok (.istore_n 3, 1) := dk_62 (dk_at dksX8_readProp_1 18 rfl rfl)
theorem dX8_readProp_42 : decode cX8_readProp 42 = .ok (.iload_n 3, 1) := dk_29 (dk_at dksX8_readProp_1 19 rfl rfl)
theorem dX8_readProp_43 : decode cX8_readProp 43 = .ok (.ifCond .ge 5, 3) := dk_156 0 5 (dk_at dksX8_readProp_1 20 rfl rfl)
theorem dX8_readProp_46 : decode cX8_readProp 46 = .ok (.iconst 0, 1) := dk_3 (dk_at dksX8_readProp_1 23 rfl rfl)
theorem dX8_readProp_47 : decode cX8_readProp 47 = .ok (.ireturn, 1) := dk_172 (dk_at dksX8_readProp_2 0 rfl rfl)
theorem dX8_readProp_48 : decode cX8_readProp 48 = .ok (.iconst (-1), 1) := dk_2 (dk_at dksX8_readProp_2 1 rfl rfl)
theorem dX8_readProp_49 : decode cX8_readProp 49 = .ok (.istore 4, 2) := dk_54 4 (dk_at dksX8_readProp_2 2 rfl rfl)
theorem dX8_readProp_51 : decode cX8_readProp 51 = .ok (.aload_n 0, 1) := dk_42 (dk_at dksX8_readProp_2 4 rfl rfl)
theorem dX8_readProp_52 : decode cX8_readProp 52 = .ok (.ldc 155, 2) := dk_18 155 (dk_at dksX8_readProp_2 5 rfl rfl)
theorem dX8_readProp_54 : decode cX8_readProp 54 = .ok (.invokevirtual 157, 3) := dk_182 0 157 (dk_at dksX8_readProp_2 7 rfl rfl)
theorem dX8_readProp_57 : decode cX8_readProp 57 = .ok (.ifCond .eq 29, 3) := dk_153 0 29 (dk_at dksX8_readProp_2 10 rfl rfl)
theorem dX8_readProp_60 : decode cX8_readProp 60 = .ok (.aload_n 0, 1) := dk_42 (dk_at dksX8_readProp_2 13 rfl rfl)
theorem dX8_readProp_61 : decode cX8_readProp 61 = .ok (.iconst 0, 1) := dk_3 (dk_at dksX8_readProp_2 14 rfl rfl)
theorem dX8_readProp_62 : decode cX8_readProp 62 = .ok (.bipush 9, 2) := dk_16 9 (dk_at dksX8_readProp_2 15 rfl rfl)
theorem dX8_readProp_64 : decode cX8_readProp 64 = .ok (.invokevirtual 134, 3) := dk_182 0 134 (dk_at dksX8_readProp_2 17 rfl rfl)
theorem dX8_readProp_67 : decode cX8_readProp 67 = .ok (.istore 4, 2) := dk_54 4 (dk_at dksX8_readProp_2 20 rfl rfl)
theorem dX8_readProp_69 : decode cX8_readProp 69 = .ok (.iload 4, 2) := dk_21 4 (dk_at dksX8_readProp_2 22 rfl rfl)
theorem dX8_readProp_71 : decode cX8_readProp 71 = .ok (.ifCond .lt 13, 3) := dk_155 0 13 (dk_at dksX8_readProp_3 0 rfl rfl)
theorem dX8_readProp_74 : decode cX8_readProp 74 = .ok (.aload_n 0, 1) := dk_42 (dk_at dksX8_readProp_3 3 rfl rfl)
theorem dX8_readProp_75 : decode cX8_readProp 75 = .ok (.iload 4, 2) := dk_21 4 (dk_at dksX8_readProp_3 4 rfl rfl)
theorem dX8_readProp_77 : decode cX8_readProp 77 = .ok (.invokevirtual 160, 3) := dk_182 0 160 (dk_at dksX8_readProp_3 6 rfl rfl)
theorem dX8_readProp_80 : decode cX8_readProp 80 = .ok (.iconst (-1), 1) := dk_2 (dk_at dksX8_readProp_3 9 rfl rfl)
theorem dX8_readProp_81 : decode cX8_readProp 81 = .ok (.if_icmp .eq 5, 3) := dk_159 0 5 (dk_at dksX8_readProp_3 10 rfl rfl)
theorem dX8_readProp_84 : decode cX8_readProp 84 = .ok (.iconst 0, 1) := dk_3 (dk_at dksX8_readProp_3 13 rfl rfl)
theorem dX8_readProp_85 : decode cX8_readProp 85 = .ok (.ireturn, 1) := dk_172 (dk_at dksX8_readProp_3 14 rfl rfl)
theorem dX8_readProp_86 : decode cX8_readProp 86 = .ok (.aload_n 0, 1) := dk_42 (dk_at dksX8_readProp_3 15 rfl rfl)
theorem dX8_readProp_87 : decode cX8_readProp 87 = .ok (.ldc 163, 2) := dk_18 163 (dk_at dksX8_readProp_3 16 rfl rfl)
theorem dX8_readProp_89 : decode cX8_readProp 89 = .ok (.invokevirtual 157, 3) := dk_182 0 157 (dk_at dksX8_readProp_3 18 rfl rfl)
theorem dX8_readProp_92 : decode cX8_readProp 92 = .ok (.ifCond .eq 13, 3) := dk_153 0 13 (dk_at dksX8_readProp_3 21 rfl rfl)
theorem dX8_readProp_95 : decode cX8_readProp 95 = .ok (.aload_n 0, 1) := dk_42 (dk_at dksX8_readProp_4 0 rfl rfl)
theorem dX8_readProp_96 : decode cX8_readProp 96 = .ok (.iconst 0, 1) := dk_3 (dk_at dksX8_readProp_4 1 rfl rfl)
theorem dX8_readProp_97 : decode cX8_readProp 97 = .ok (.bipush 99, 2) := dk_16 99 (dk_at dksX8_readProp_4 2 rfl rfl)
theorem dX8_readProp_99 : decode cX8_readProp 99 = .ok (.invokevirtual 134, 3) := dk_182 0 134 (dk_at dksX8_readProp_4 4 rfl rfl)
theorem dX8_readProp_102 : decode cX8_readProp 102 = .ok (.goto 4, 3) := dk_167 0 4 (dk_at dksX8_readProp_4 7 rfl rfl)
theorem dX8_readProp_105 : decode cX8_readProp 105 = .ok (.iconst 0, 1) := dk_3 (dk_at dksX8_readProp_4 10 rfl rfl)
theorem dX8_readProp_106 : decode cX8_readProp 106 = .ok (.istore 5, 2) := dk_54 5 (dk_at dksX8_readProp_4 11 rfl rfl)
theorem dX8_readProp_108 : decode cX8_readProp 108 = .ok (.iload 5, 2) := dk_21 5 (dk_at dksX8_readProp_4 13 rfl rfl)
theorem dX8_readProp_110 : decode cX8_readProp 110 = .ok (.ifCond .ge 5, 3) := dk_156 0 5 (dk_at dksX8_readProp_4 15 rfl rfl)
theorem dX8_readProp_113 : decode cX8_readProp 113 = .ok (.iconst 0, 1) := dk_3 (dk_at dksX8_readProp_4 18 rfl rfl)
theorem dX8_readProp_114 : decode cX8_readProp 114 = .ok (.ireturn, 1) := dk_172 (dk_at dksX8_readProp_4 19 rfl rfl)
theorem dX8_readProp_115 : decode cX8_readProp 115 = .ok (.aload_n 0, 1) := dk_42 (dk_at dksX8_readProp_4 20 rfl rfl)
theorem dX8_readProp_116 : decode cX8_readProp 116 = .ok (.getfield 13, 3) := dk_180 0 13 (dk_at dksX8_readProp_4 21 rfl rfl)
theorem dX8_readProp_119 : decode cX8_readProp 119 = .ok (.iload_n 1, 1) := dk_27 (dk_at dksX8_readProp_5 0 rfl rfl)
theorem dX8_readProp_120 : decode cX8_readProp 120 = .ok (.iconst 0, 1) := dk_3 (dk_at dksX8_readProp_5 1 rfl rfl)
theorem dX8_readProp_121 : decode cX8_readProp 121 = .ok (.invokestatic 70, 3) := dk_184 0 70 (dk_at dksX8_readProp_5 2 rfl rfl)
theorem dX8_readProp_124 : decode cX8_readProp 124 = .ok (.iload_n 2, 1) := dk_28 (dk_at dksX8_readProp_5 5 rfl rfl)
theorem dX8_readProp_125 : decode cX8_readProp 125 = .ok (.invokestatic 165, 3) := dk_184 0 165 (dk_at dksX8_readProp_5 6 rfl rfl)
theorem dX8_readProp_128 : decode cX8_readProp 128 = .ok (.iastore, 1) := dk_79 (dk_at dksX8_readProp_5 9 rfl rfl)
theorem dX8_readProp_129 : decode cX8_readProp 129 = .ok (.aload_n 0, 1) := dk_42 (dk_at dksX8_readProp_5 10 rfl rfl)
theorem dX8_readProp_130 : decode cX8_readProp 130 = .ok (.getfield 13, 3) := dk_180 0 13 (dk_at dksX8_readProp_5 11 rfl rfl)
theorem dX8_readProp_133 : decode cX8_readProp 133 = .ok (.iload_n 1, 1) := dk_27 (dk_at dksX8_readProp_5 14 rfl rfl)
theorem dX8_readProp_134 : decode cX8_readProp 134 = .ok (.iconst 1, 1) := dk_4 (dk_at dksX8_readProp_5 15 rfl rfl)
theorem dX8_readProp_135 : decode cX8_readProp 135 = .ok (.invokestatic 70, 3) := dk_184 0 70 (dk_at dksX8_readProp_5 16 rfl rfl)
theorem dX8_readProp_138 : decode cX8_readProp 138 = .ok (.iload_n 3, 1) := dk_29 (dk_at dksX8_readProp_5 19 rfl rfl)
theorem dX8_readProp_139 : decode cX8_readProp 139 = .ok (.iastore, 1) := dk_79 (dk_at dksX8_readProp_5 20 rfl rfl)
theorem dX8_readProp_140 : decode cX8_readProp 140 = .ok (.aload_n 0, 1) := dk_42 (dk_at dksX8_readProp_5 21 rfl rfl)
theorem dX8_readProp_141 : decode cX8_readProp 141 = .ok (.getfield 13, 3) := dk_180 0 13 (dk_at dksX8_readProp_6 0 rfl rfl)
theorem dX8_readProp_144 : decode cX8_readProp 144 = .ok (.iload_n 1, 1) := dk_27 (dk_at dksX8_readProp_6 3 rfl rfl)
theorem dX8_readProp_145 : decode cX8_readProp 145 = .ok (.iconst 2, 1) := dk_5 (dk_at dksX8_readProp_6 4 rfl rfl)
theorem dX8_readProp_146 : decode cX8_readProp 146 = .ok (.invokestatic 70, 3) := dk_184 0 70 (dk_at dksX8_readProp_6 5 rfl rfl)
theorem dX8_readProp_149 : decode cX8_readProp 149 = .ok (.iload 5, 2) := dk_21 5 (dk_at dksX8_readProp_6 8 rfl rfl)
theorem dX8_readProp_151 : decode cX8_readProp 151 = .ok (.iastore, 1) := dk_79 (dk_at dksX8_readProp_6 10 rfl rfl)
theorem dX8_readProp_152 : decode cX8_readProp 152 = .ok (.aload_n 0, 1) := dk_42 (dk_at dksX8_readProp_6 11 rfl rfl)
theorem dX8_readProp_153 : decode cX8_readProp 153 = .ok (.getfield 13, 3) := dk_180 0 13 (dk_at dksX8_readProp_6 12 rfl rfl)
theorem dX8_readProp_156 : decode cX8_readProp 156 = .ok (.iload_n 1, 1) := dk_27 (dk_at dksX8_readProp_6 15 rfl rfl)
theorem dX8_readProp_157 : decode cX8_readProp 157 = .ok (.iconst 3, 1) := dk_6 (dk_at dksX8_readProp_6 16 rfl rfl)
theorem dX8_readProp_158 : decode cX8_readProp 158 = .ok (.invokestatic 70, 3) := dk_184 0 70 (dk_at dksX8_readProp_6 17 rfl rfl)
theorem dX8_readProp_161 : decode cX8_readProp 161 = .ok (.iload 4, 2) := dk_21 4 (dk_at dksX8_readProp_6 20 rfl rfl)
theorem dX8_readProp_163 : decode cX8_readProp 163 = .ok (.iastore, 1) := dk_79 (dk_at dksX8_readProp_6 22 rfl rfl)
theorem dX8_readProp_164 : decode cX8_readProp 164 = .ok (.aload_n 0, 1) := dk_42 (dk_at dksX8_readProp_6 23 rfl rfl)
theorem dX8_readProp_165 : decode cX8_readProp 165 = .ok (.getfield 13, 3) := dk_180 0 13 (dk_at dksX8_readProp_7 0 rfl rfl)
theorem dX8_readProp_168 : decode cX8_readProp 168 = .ok (.iconst 0, 1) := dk_3 (dk_at dksX8_readProp_7 3 rfl rfl)
theorem dX8_readProp_169 : decode cX8_readProp 169 = .ok (.dup2, 1) := dk_92 (dk_at dksX8_readProp_7 4 rfl rfl)
theorem dX8_readProp_170 : decode cX8_readProp 170 = .ok (.iaload, 1) := dk_46 (dk_at dksX8_readProp_7 5 rfl rfl)
theorem dX8_readProp_171 : decode cX8_readProp 171 = .ok (.iconst 1, 1) := dk_4 (dk_at dksX8_readProp_7 6 rfl rfl)
theorem dX8_readProp_172 : decode cX8_readProp 172 = .ok (.iadd, 1) := dk_96 (dk_at dksX8_readProp_7 7 rfl rfl)
theorem dX8_readProp_173 : decode cX8_readProp 173 = .ok (.iastore, 1) := dk_79 (dk_at dksX8_readProp_7 8 rfl rfl)
theorem dX8_readProp_174 : decode cX8_readProp 174 = .ok (.iconst 1, 1) := dk_4 (dk_at dksX8_readProp_7 9 rfl rfl)
theorem dX8_readProp_175 : decode cX8_readProp 175 = .ok (.ireturn, 1) := dk_172 (dk_at dksX8_readProp_7 10 rfl rfl)
abbrev cX8_props : ByteArray := prog_18_method_10_code
def yX8_props : MethodName := ⟨RX8, "props", "()I"⟩
def dkwX8_props_0 : List UInt8 := [42, 180, 0, 13, 3, 46, 172]
abbrev dktX8_props_0 : List UInt8 := dkwX8_props_0 ++ []
theorem dksX8_props_0 : cX8_props.data.toList.drop 0 = dktX8_props_0 := by decide +kernel
theorem dX8_props_0 : decode cX8_props 0 = .ok (.aload_n 0, 1) := dk_42 (dk_at dksX8_props_0 0 rfl rfl)
theorem dX8_props_1 : decode cX8_props 1 = .ok (.getfield 13, 3) := dk_180 0 13 (dk_at dksX8_props_0 1 rfl rfl)
theorem dX8_props_4 : decode cX8_props 4 = .ok (.iconst 0, 1) := dk_3 (dk_at dksX8_props_0 4 rfl rfl)
theorem dX8_props_5 : decode cX8_props 5 = .ok (.iaload, 1) := dk_46 (dk_at dksX8_props_0 5 rfl rfl)
theorem dX8_props_6 : decode cX8_props 6 = .ok (.ireturn, 1) := dk_172 (dk_at dksX8_props_0 6 rfl rfl)
abbrev cX8_deedsTold : ByteArray := prog_18_method_38_code
def yX8_deedsTold : MethodName := ⟨RX8, "deedsTold", "()I"⟩
def dkwX8_deedsTold_4 : List UInt8 := [167, 255, 190, 28, 153, 0, 7, 27, 167, 0, 4, 2, 172]
abbrev dktX8_deedsTold_4 : List UInt8 := dkwX8_deedsTold_4 ++ []
def dkwX8_deedsTold_3 : List UInt8 := [167, 0, 4, 3, 61, 27, 28, 153, 0, 10, 4, 21, 4, 120, 167, 0, 4, 3, 128, 60, 132, 3, 1]
abbrev dktX8_deedsTold_3 : List UInt8 := dkwX8_deedsTold_3 ++ dktX8_deedsTold_4
def dkwX8_deedsTold_2 : List UInt8 := [100, 54, 4, 21, 4, 3, 8, 184, 0, 87, 153, 0, 16, 27, 21, 4, 184, 0, 137, 154, 0, 7, 4]
abbrev dktX8_deedsTold_2 : List UInt8 := dkwX8_deedsTold_2 ++ dktX8_deedsTold_3
def dkwX8_deedsTold_1 : List UInt8 := [180, 0, 112, 62, 29, 42, 180, 0, 102, 162, 0, 64, 28, 153, 0, 60, 42, 180, 0, 29, 29, 51, 16, 97]
abbrev dktX8_deedsTold_1 : List UInt8 := dkwX8_deedsTold_1 ++ dktX8_deedsTold_2
def dkwX8_deedsTold_0 : List UInt8 := [42, 182, 0, 127, 3, 60, 42, 180, 0, 102, 42, 180, 0, 112, 164, 0, 7, 4, 167, 0, 4, 3, 61, 42]
abbrev dktX8_deedsTold_0 : List UInt8 := dkwX8_deedsTold_0 ++ dktX8_deedsTold_1
theorem dksX8_deedsTold_0 : cX8_deedsTold.data.toList.drop 0 = dktX8_deedsTold_0 := by decide +kernel
theorem dksX8_deedsTold_1 : cX8_deedsTold.data.toList.drop 24 = dktX8_deedsTold_1 := dk_seg dksX8_deedsTold_0 24 rfl rfl
theorem dksX8_deedsTold_2 : cX8_deedsTold.data.toList.drop 48 = dktX8_deedsTold_2 := dk_seg dksX8_deedsTold_1 24 rfl rfl
theorem dksX8_deedsTold_3 : cX8_deedsTold.data.toList.drop 71 = dktX8_deedsTold_3 := dk_seg dksX8_deedsTold_2 23 rfl rfl
theorem dksX8_deedsTold_4 : cX8_deedsTold.data.toList.drop 94 = dktX8_deedsTold_4 := dk_seg dksX8_deedsTold_3 23 rfl rfl
theorem dX8_deedsTold_0 : decode cX8_deedsTold 0 = .ok (.aload_n 0, 1) := dk_42 (dk_at dksX8_deedsTold_0 0 rfl rfl)
theorem dX8_deedsTold_1 : decode cX8_deedsTold 1 = .ok (.invokevirtual 127, 3) := dk_182 0 127 (dk_at dksX8_deedsTold_0 1 rfl rfl)
theorem dX8_deedsTold_4 : decode cX8_deedsTold 4 = .ok (.iconst 0, 1) := dk_3 (dk_at dksX8_deedsTold_0 4 rfl rfl)
theorem dX8_deedsTold_5 : decode cX8_deedsTold 5 = .ok (.istore_n 1, 1) := dk_60 (dk_at dksX8_deedsTold_0 5 rfl rfl)
theorem dX8_deedsTold_6 : decode cX8_deedsTold 6 = .ok (.aload_n 0, 1) := dk_42 (dk_at dksX8_deedsTold_0 6 rfl rfl)
theorem dX8_deedsTold_7 : decode cX8_deedsTold 7 = .ok (.getfield 102, 3) := dk_180 0 102 (dk_at dksX8_deedsTold_0 7 rfl rfl)
theorem dX8_deedsTold_10 : decode cX8_deedsTold 10 = .ok (.aload_n 0, 1) := dk_42 (dk_at dksX8_deedsTold_0 10 rfl rfl)
theorem dX8_deedsTold_11 : decode cX8_deedsTold 11 = .ok (.getfield 112, 3) := dk_180 0 112 (dk_at dksX8_deedsTold_0 11 rfl rfl)
theorem dX8_deedsTold_14 : decode cX8_deedsTold 14 = .ok (.if_icmp .le 7, 3) := dk_164 0 7 (dk_at dksX8_deedsTold_0 14 rfl rfl)
theorem dX8_deedsTold_17 : decode cX8_deedsTold 17 = .ok (.iconst 1, 1) := dk_4 (dk_at dksX8_deedsTold_0 17 rfl rfl)
theorem dX8_deedsTold_18 : decode cX8_deedsTold 18 = .ok (.goto 4, 3) := dk_167 0 4 (dk_at dksX8_deedsTold_0 18 rfl rfl)
theorem dX8_deedsTold_21 : decode cX8_deedsTold 21 = .ok (.iconst 0, 1) := dk_3 (dk_at dksX8_deedsTold_0 21 rfl rfl)
theorem dX8_deedsTold_22 : decode cX8_deedsTold 22 = .ok (.istore_n 2, 1) := dk_61 (dk_at dksX8_deedsTold_0 22 rfl rfl)
theorem dX8_deedsTold_23 : decode cX8_deedsTold 23 = .ok (.aload_n 0, 1) := dk_42 (dk_at dksX8_deedsTold_0 23 rfl rfl)
theorem dX8_deedsTold_24 : decode cX8_deedsTold 24 = .ok (.getfield 112, 3) := dk_180 0 112 (dk_at dksX8_deedsTold_1 0 rfl rfl)
theorem dX8_deedsTold_27 : decode cX8_deedsTold 27 = .ok (.istore_n 3, 1) := dk_62 (dk_at dksX8_deedsTold_1 3 rfl rfl)
theorem dX8_deedsTold_28 : decode cX8_deedsTold 28 = .ok (.iload_n 3, 1) := dk_29 (dk_at dksX8_deedsTold_1 4 rfl rfl)
theorem dX8_deedsTold_29 : decode cX8_deedsTold 29 = .ok (.aload_n 0, 1) := dk_42 (dk_at dksX8_deedsTold_1 5 rfl rfl)
theorem dX8_deedsTold_30 : decode cX8_deedsTold 30 = .ok (.getfield 102, 3) := dk_180 0 102 (dk_at dksX8_deedsTold_1 6 rfl rfl)
theorem dX8_deedsTold_33 : decode cX8_deedsTold 33 = .ok (.if_icmp .ge 64, 3) := dk_162 0 64 (dk_at dksX8_deedsTold_1 9 rfl rfl)
theorem dX8_deedsTold_36 : decode cX8_deedsTold 36 = .ok (.iload_n 2, 1) := dk_28 (dk_at dksX8_deedsTold_1 12 rfl rfl)
theorem dX8_deedsTold_37 : decode cX8_deedsTold 37 = .ok (.ifCond .eq 60, 3) := dk_153 0 60 (dk_at dksX8_deedsTold_1 13 rfl rfl)
theorem dX8_deedsTold_40 : decode cX8_deedsTold 40 = .ok (.aload_n 0, 1) := dk_42 (dk_at dksX8_deedsTold_1 16 rfl rfl)
theorem dX8_deedsTold_41 : decode cX8_deedsTold 41 = .ok (.getfield 29, 3) := dk_180 0 29 (dk_at dksX8_deedsTold_1 17 rfl rfl)
theorem dX8_deedsTold_44 : decode cX8_deedsTold 44 = .ok (.iload_n 3, 1) := dk_29 (dk_at dksX8_deedsTold_1 20 rfl rfl)
theorem dX8_deedsTold_45 : decode cX8_deedsTold 45 = .ok (.baload, 1) := dk_51 (dk_at dksX8_deedsTold_1 21 rfl rfl)
theorem dX8_deedsTold_46 : decode cX8_deedsTold 46 = .ok (.bipush 97, 2) := dk_16 97 (dk_at dksX8_deedsTold_1 22 rfl rfl)
theorem dX8_deedsTold_48 : decode cX8_deedsTold 48 = .ok (.isub, 1) := dk_100 (dk_at dksX8_deedsTold_2 0 rfl rfl)
theorem dX8_deedsTold_49 : decode cX8_deedsTold 49 = .ok (.istore 4, 2) := dk_54 4 (dk_at dksX8_deedsTold_2 1 rfl rfl)
theorem dX8_deedsTold_51 : decode cX8_deedsTold 51 = .ok (.iload 4, 2) := dk_21 4 (dk_at dksX8_deedsTold_2 3 rfl rfl)
theorem dX8_deedsTold_53 : decode cX8_deedsTold 53 = .ok (.iconst 0, 1) := dk_3 (dk_at dksX8_deedsTold_2 5 rfl rfl)
theorem dX8_deedsTold_54 : decode cX8_deedsTold 54 = .ok (.iconst 5, 1) := dk_8 (dk_at dksX8_deedsTold_2 6 rfl rfl)
theorem dX8_deedsTold_55 : decode cX8_deedsTold 55 = .ok (.invokestatic 87, 3) := dk_184 0 87 (dk_at dksX8_deedsTold_2 7 rfl rfl)
theorem dX8_deedsTold_58 : decode cX8_deedsTold 58 = .ok (.ifCond .eq 16, 3) := dk_153 0 16 (dk_at dksX8_deedsTold_2 10 rfl rfl)
theorem dX8_deedsTold_61 : decode cX8_deedsTold 61 = .ok (.iload_n 1, 1) := dk_27 (dk_at dksX8_deedsTold_2 13 rfl rfl)
theorem dX8_deedsTold_62 : decode cX8_deedsTold 62 = .ok (.iload 4, 2) := dk_21 4 (dk_at dksX8_deedsTold_2 14 rfl rfl)
theorem dX8_deedsTold_64 : decode cX8_deedsTold 64 = .ok (.invokestatic 137, 3) := dk_184 0 137 (dk_at dksX8_deedsTold_2 16 rfl rfl)
theorem dX8_deedsTold_67 : decode cX8_deedsTold 67 = .ok (.ifCond .ne 7, 3) := dk_154 0 7 (dk_at dksX8_deedsTold_2 19 rfl rfl)
theorem dX8_deedsTold_70 : decode cX8_deedsTold 70 = .ok (.iconst 1, 1) := dk_4 (dk_at dksX8_deedsTold_2 22 rfl rfl)
theorem dX8_deedsTold_71 : decode cX8_deedsTold 71 = .ok (.goto 4, 3) := dk_167 0 4 (dk_at dksX8_deedsTold_3 0 rfl rfl)
theorem dX8_deedsTold_74 : decode cX8_deedsTold 74 = .ok (.iconst 0, 1) := dk_3 (dk_at dksX8_deedsTold_3 3 rfl rfl)
theorem dX8_deedsTold_75 : decode cX8_deedsTold 75 = .ok (.istore_n 2, 1) := dk_61 (dk_at dksX8_deedsTold_3 4 rfl rfl)
theorem dX8_deedsTold_76 : decode cX8_deedsTold 76 = .ok (.iload_n 1, 1) := dk_27 (dk_at dksX8_deedsTold_3 5 rfl rfl)
theorem dX8_deedsTold_77 : decode cX8_deedsTold 77 = .ok (.iload_n 2, 1) := dk_28 (dk_at dksX8_deedsTold_3 6 rfl rfl)
theorem dX8_deedsTold_78 : decode cX8_deedsTold 78 = .ok (.ifCond .eq 10, 3) := dk_153 0 10 (dk_at dksX8_deedsTold_3 7 rfl rfl)
theorem dX8_deedsTold_81 : decode cX8_deedsTold 81 = .ok (.iconst 1, 1) := dk_4 (dk_at dksX8_deedsTold_3 10 rfl rfl)
theorem dX8_deedsTold_82 : decode cX8_deedsTold 82 = .ok (.iload 4, 2) := dk_21 4 (dk_at dksX8_deedsTold_3 11 rfl rfl)
theorem dX8_deedsTold_84 : decode cX8_deedsTold 84 = .ok (.ishl, 1) := dk_120 (dk_at dksX8_deedsTold_3 13 rfl rfl)
theorem dX8_deedsTold_85 : decode cX8_deedsTold 85 = .ok (.goto 4, 3) := dk_167 0 4 (dk_at dksX8_deedsTold_3 14 rfl rfl)
theorem dX8_deedsTold_88 : decode cX8_deedsTold 88 = .ok (.iconst 0, 1) := dk_3 (dk_at dksX8_deedsTold_3 17 rfl rfl)
theorem dX8_deedsTold_89 : decode cX8_deedsTold 89 = .ok (.ior, 1) := dk_128 (dk_at dksX8_deedsTold_3 18 rfl rfl)
theorem dX8_deedsTold_90 : decode cX8_deedsTold 90 = .ok (.istore_n 1, 1) := dk_60 (dk_at dksX8_deedsTold_3 19 rfl rfl)
theorem dX8_deedsTold_91 : decode cX8_deedsTold 91 = .ok (.iinc 3 1, 3) := dk_132 3 1 (dk_at dksX8_deedsTold_3 20 rfl rfl)
theorem dX8_deedsTold_94 : decode cX8_deedsTold 94 = .ok (.goto (-66), 3) := dk_167 255 190 (dk_at dksX8_deedsTold_4 0 rfl rfl)
theorem dX8_deedsTold_97 : decode cX8_deedsTold 97 = .ok (.iload_n 2, 1) := dk_28 (dk_at dksX8_deedsTold_4 3 rfl rfl)
theorem dX8_deedsTold_98 : decode cX8_deedsTold 98 = .ok (.ifCond .eq 7, 3) := dk_153 0 7 (dk_at dksX8_deedsTold_4 4 rfl rfl)
theorem dX8_deedsTold_101 : decode cX8_deedsTold 101 = .ok (.iload_n 1, 1) := dk_27 (dk_at dksX8_deedsTold_4 7 rfl rfl)
theorem dX8_deedsTold_102 : decode cX8_deedsTold 102 = .ok (.goto 4, 3) := dk_167 0 4 (dk_at dksX8_deedsTold_4 8 rfl rfl)
theorem dX8_deedsTold_105 : decode cX8_deedsTold 105 = .ok (.iconst (-1), 1) := dk_2 (dk_at dksX8_deedsTold_4 11 rfl rfl)
theorem dX8_deedsTold_106 : decode cX8_deedsTold 106 = .ok (.ireturn, 1) := dk_172 (dk_at dksX8_deedsTold_4 12 rfl rfl)
abbrev cX8_in : ByteArray := prog_18_method_3_code
def yX8_in : MethodName := ⟨RX8, "in", "(III)Z"⟩
def dkwX8_in_0 : List UInt8 := [26, 27, 161, 0, 12, 26, 28, 163, 0, 7, 4, 167, 0, 4, 3, 172]
abbrev dktX8_in_0 : List UInt8 := dkwX8_in_0 ++ []
theorem dksX8_in_0 : cX8_in.data.toList.drop 0 = dktX8_in_0 := by decide +kernel
theorem dX8_in_0 : decode cX8_in 0 = .ok (.iload_n 0, 1) := dk_26 (dk_at dksX8_in_0 0 rfl rfl)
theorem dX8_in_1 : decode cX8_in 1 = .ok (.iload_n 1, 1) := dk_27 (dk_at dksX8_in_0 1 rfl rfl)
theorem dX8_in_2 : decode cX8_in 2 = .ok (.if_icmp .lt 12, 3) := dk_161 0 12 (dk_at dksX8_in_0 2 rfl rfl)
theorem dX8_in_5 : decode cX8_in 5 = .ok (.iload_n 0, 1) := dk_26 (dk_at dksX8_in_0 5 rfl rfl)
theorem dX8_in_6 : decode cX8_in 6 = .ok (.iload_n 2, 1) := dk_28 (dk_at dksX8_in_0 6 rfl rfl)
theorem dX8_in_7 : decode cX8_in 7 = .ok (.if_icmp .gt 7, 3) := dk_163 0 7 (dk_at dksX8_in_0 7 rfl rfl)
theorem dX8_in_10 : decode cX8_in 10 = .ok (.iconst 1, 1) := dk_4 (dk_at dksX8_in_0 10 rfl rfl)
theorem dX8_in_11 : decode cX8_in 11 = .ok (.goto 4, 3) := dk_167 0 4 (dk_at dksX8_in_0 11 rfl rfl)
theorem dX8_in_14 : decode cX8_in 14 = .ok (.iconst 0, 1) := dk_3 (dk_at dksX8_in_0 14 rfl rfl)
theorem dX8_in_15 : decode cX8_in 15 = .ok (.ireturn, 1) := dk_172 (dk_at dksX8_in_0 15 rfl rfl)
abbrev cX8_has : ByteArray := prog_18_method_4_code
def yX8_has : MethodName := ⟨RX8, "has", "(II)Z"⟩
def dkwX8_has_0 : List UInt8 := [26, 27, 122, 4, 126, 4, 160, 0, 7, 4, 167, 0, 4, 3, 172]
abbrev dktX8_has_0 : List UInt8 := dkwX8_has_0 ++ []
theorem dksX8_has_0 : cX8_has.data.toList.drop 0 = dktX8_has_0 := by decide +kernel
theorem dX8_has_0 : decode cX8_has 0 = .ok (.iload_n 0, 1) := dk_26 (dk_at dksX8_has_0 0 rfl rfl)
theorem dX8_has_1 : decode cX8_has 1 = .ok (.iload_n 1, 1) := dk_27 (dk_at dksX8_has_0 1 rfl rfl)
theorem dX8_has_2 : decode cX8_has 2 = .ok (.ishr, 1) := dk_122 (dk_at dksX8_has_0 2 rfl rfl)
theorem dX8_has_3 : decode cX8_has 3 = .ok (.iconst 1, 1) := dk_4 (dk_at dksX8_has_0 3 rfl rfl)
theorem dX8_has_4 : decode cX8_has 4 = .ok (.iand, 1) := dk_126 (dk_at dksX8_has_0 4 rfl rfl)
theorem dX8_has_5 : decode cX8_has 5 = .ok (.iconst 1, 1) := dk_4 (dk_at dksX8_has_0 5 rfl rfl)
theorem dX8_has_6 : decode cX8_has 6 = .ok (.if_icmp .ne 7, 3) := dk_160 0 7 (dk_at dksX8_has_0 6 rfl rfl)
theorem dX8_has_9 : decode cX8_has 9 = .ok (.iconst 1, 1) := dk_4 (dk_at dksX8_has_0 9 rfl rfl)
theorem dX8_has_10 : decode cX8_has 10 = .ok (.goto 4, 3) := dk_167 0 4 (dk_at dksX8_has_0 10 rfl rfl)
theorem dX8_has_13 : decode cX8_has 13 = .ok (.iconst 0, 1) := dk_3 (dk_at dksX8_has_0 13 rfl rfl)
theorem dX8_has_14 : decode cX8_has 14 = .ok (.ireturn, 1) := dk_172 (dk_at dksX8_has_0 14 rfl rfl)
abbrev cX8_after : ByteArray := prog_18_method_34_code
def yX8_after : MethodName := ⟨RX8, "after", "(Ljava/lang/String;II)I"⟩
def dkwX8_after_0 : List UInt8 := [42, 182, 0, 127, 42, 43, 182, 0, 130, 153, 0, 12, 42, 28, 29, 182, 0, 134, 167, 0, 4, 2, 172]
abbrev dktX8_after_0 : List UInt8 := dkwX8_after_0 ++ []
theorem dksX8_after_0 : cX8_after.data.toList.drop 0 = dktX8_after_0 := by decide +kernel
theorem dX8_after_0 : decode cX8_after 0 = .ok (.aload_n 0, 1) := dk_42 (dk_at dksX8_after_0 0 rfl rfl)
theorem dX8_after_1 : decode cX8_after 1 = .ok (.invokevirtual 127, 3) := dk_182 0 127 (dk_at dksX8_after_0 1 rfl rfl)
theorem dX8_after_4 : decode cX8_after 4 = .ok (.aload_n 0, 1) := dk_42 (dk_at dksX8_after_0 4 rfl rfl)
theorem dX8_after_5 : decode cX8_after 5 = .ok (.aload_n 1, 1) := dk_43 (dk_at dksX8_after_0 5 rfl rfl)
theorem dX8_after_6 : decode cX8_after 6 = .ok (.invokevirtual 130, 3) := dk_182 0 130 (dk_at dksX8_after_0 6 rfl rfl)
theorem dX8_after_9 : decode cX8_after 9 = .ok (.ifCond .eq 12, 3) := dk_153 0 12 (dk_at dksX8_after_0 9 rfl rfl)
theorem dX8_after_12 : decode cX8_after 12 = .ok (.aload_n 0, 1) := dk_42 (dk_at dksX8_after_0 12 rfl rfl)
theorem dX8_after_13 : decode cX8_after 13 = .ok (.iload_n 2, 1) := dk_28 (dk_at dksX8_after_0 13 rfl rfl)
theorem dX8_after_14 : decode cX8_after 14 = .ok (.iload_n 3, 1) := dk_29 (dk_at dksX8_after_0 14 rfl rfl)
theorem dX8_after_15 : decode cX8_after 15 = .ok (.invokevirtual 134, 3) := dk_182 0 134 (dk_at dksX8_after_0 15 rfl rfl)
theorem dX8_after_18 : decode cX8_after 18 = .ok (.goto 4, 3) := dk_167 0 4 (dk_at dksX8_after_0 18 rfl rfl)
theorem dX8_after_21 : decode cX8_after 21 = .ok (.iconst (-1), 1) := dk_2 (dk_at dksX8_after_0 21 rfl rfl)
theorem dX8_after_22 : decode cX8_after 22 = .ok (.ireturn, 1) := dk_172 (dk_at dksX8_after_0 22 rfl rfl)
abbrev cX8_number : ByteArray := prog_18_method_33_code
def yX8_number : MethodName := ⟨RX8, "number", "(II)I"⟩
def dkwX8_number_4 : List UInt8 := [29, 28, 164, 0, 7, 2, 167, 0, 4, 29, 172]
abbrev dktX8_number_4 : List UInt8 := dkwX8_number_4 ++ []
def dkwX8_number_3 : List UInt8 := [180, 0, 112, 159, 0, 26, 42, 180, 0, 102, 42, 180, 0, 112, 100, 6, 163, 0, 13, 29, 27, 161, 0, 8]
abbrev dktX8_number_3 : List UInt8 := dkwX8_number_3 ++ dktX8_number_4
def dkwX8_number_2 : List UInt8 := [100, 167, 0, 4, 29, 62, 42, 89, 180, 0, 102, 4, 96, 181, 0, 102, 167, 255, 200, 42, 180, 0, 102, 42]
abbrev dktX8_number_2 : List UInt8 := dkwX8_number_2 ++ dktX8_number_3
def dkwX8_number_1 : List UInt8 := [180, 0, 112, 100, 6, 162, 0, 23, 16, 10, 29, 104, 42, 180, 0, 29, 42, 180, 0, 102, 51, 96, 16, 48]
abbrev dktX8_number_1 : List UInt8 := dkwX8_number_1 ++ dktX8_number_2
def dkwX8_number_0 : List UInt8 := [42, 182, 0, 115, 3, 62, 42, 16, 48, 16, 57, 182, 0, 108, 153, 0, 51, 42, 180, 0, 102, 42]
abbrev dktX8_number_0 : List UInt8 := dkwX8_number_0 ++ dktX8_number_1
theorem dksX8_number_0 : cX8_number.data.toList.drop 0 = dktX8_number_0 := by decide +kernel
theorem dksX8_number_1 : cX8_number.data.toList.drop 22 = dktX8_number_1 := dk_seg dksX8_number_0 22 rfl rfl
theorem dksX8_number_2 : cX8_number.data.toList.drop 46 = dktX8_number_2 := dk_seg dksX8_number_1 24 rfl rfl
theorem dksX8_number_3 : cX8_number.data.toList.drop 70 = dktX8_number_3 := dk_seg dksX8_number_2 24 rfl rfl
theorem dksX8_number_4 : cX8_number.data.toList.drop 94 = dktX8_number_4 := dk_seg dksX8_number_3 24 rfl rfl
theorem dX8_number_0 : decode cX8_number 0 = .ok (.aload_n 0, 1) := dk_42 (dk_at dksX8_number_0 0 rfl rfl)
theorem dX8_number_1 : decode cX8_number 1 = .ok (.invokevirtual 115, 3) := dk_182 0 115 (dk_at dksX8_number_0 1 rfl rfl)
theorem dX8_number_4 : decode cX8_number 4 = .ok (.iconst 0, 1) := dk_3 (dk_at dksX8_number_0 4 rfl rfl)
theorem dX8_number_5 : decode cX8_number 5 = .ok (.istore_n 3, 1) := dk_62 (dk_at dksX8_number_0 5 rfl rfl)
theorem dX8_number_6 : decode cX8_number 6 = .ok (.aload_n 0, 1) := dk_42 (dk_at dksX8_number_0 6 rfl rfl)
theorem dX8_number_7 : decode cX8_number 7 = .ok (.bipush 48, 2) := dk_16 48 (dk_at dksX8_number_0 7 rfl rfl)
theorem dX8_number_9 : decode cX8_number 9 = .ok (.bipush 57, 2) := dk_16 57 (dk_at dksX8_number_0 9 rfl rfl)
theorem dX8_number_11 : decode cX8_number 11 = .ok (.invokevirtual 108, 3) := dk_182 0 108 (dk_at dksX8_number_0 11 rfl rfl)
theorem dX8_number_14 : decode cX8_number 14 = .ok (.ifCond .eq 51, 3) := dk_153 0 51 (dk_at dksX8_number_0 14 rfl rfl)
theorem dX8_number_17 : decode cX8_number 17 = .ok (.aload_n 0, 1) := dk_42 (dk_at dksX8_number_0 17 rfl rfl)
theorem dX8_number_18 : decode cX8_number 18 = .ok (.getfield 102, 3) := dk_180 0 102 (dk_at dksX8_number_0 18 rfl rfl)
theorem dX8_number_21 : decode cX8_number 21 = .ok (.aload_n 0, 1) := dk_42 (dk_at dksX8_number_0 21 rfl rfl)
theorem dX8_number_22 : decode cX8_number 22 = .ok (.getfield 112, 3) := dk_180 0 112 (dk_at dksX8_number_1 0 rfl rfl)
theorem dX8_number_25 : decode cX8_number 25 = .ok (.isub, 1) := dk_100 (dk_at dksX8_number_1 3 rfl rfl)
theorem dX8_number_26 : decode cX8_number 26 = .ok (.iconst 3, 1) := dk_6 (dk_at dksX8_number_1 4 rfl rfl)
theorem dX8_number_27 : decode cX8_number 27 = .ok (.if_icmp .ge 23, 3) := dk_162 0 23 (dk_at dksX8_number_1 5 rfl rfl)
theorem dX8_number_30 : decode cX8_number 30 = .ok (.bipush 10, 2) := dk_16 10 (dk_at dksX8_number_1 8 rfl rfl)
theorem dX8_number_32 : decode cX8_number 32 = .ok (.iload_n 3, 1) := dk_29 (dk_at dksX8_number_1 10 rfl rfl)
theorem dX8_number_33 : decode cX8_number 33 = .ok (.imul, 1) := dk_104 (dk_at dksX8_number_1 11 rfl rfl)
theorem dX8_number_34 : decode cX8_number 34 = .ok (.aload_n 0, 1) := dk_42 (dk_at dksX8_number_1 12 rfl rfl)
theorem dX8_number_35 : decode cX8_number 35 = .ok (.getfield 29, 3) := dk_180 0 29 (dk_at dksX8_number_1 13 rfl rfl)
theorem dX8_number_38 : decode cX8_number 38 = .ok (.aload_n 0, 1) := dk_42 (dk_at dksX8_number_1 16 rfl rfl)
theorem dX8_number_39 : decode cX8_number 39 = .ok (.getfield 102, 3) := dk_180 0 102 (dk_at dksX8_number_1 17 rfl rfl)
theorem dX8_number_42 : decode cX8_number 42 = .ok (.baload, 1) := dk_51 (dk_at dksX8_number_1 20 rfl rfl)
theorem dX8_number_43 : decode cX8_number 43 = .ok (.iadd, 1) := dk_96 (dk_at dksX8_number_1 21 rfl rfl)
theorem dX8_number_44 : decode cX8_number 44 = .ok (.bipush 48, 2) := dk_16 48 (dk_at dksX8_number_1 22 rfl rfl)
theorem dX8_number_46 : decode cX8_number 46 = .ok (.isub, 1) := dk_100 (dk_at dksX8_number_2 0 rfl rfl)
theorem dX8_number_47 : decode cX8_number 47 = .ok (.goto 4, 3) := dk_167 0 4 (dk_at dksX8_number_2 1 rfl rfl)
theorem dX8_number_50 : decode cX8_number 50 = .ok (.iload_n 3, 1) := dk_29 (dk_at dksX8_number_2 4 rfl rfl)
theorem dX8_number_51 : decode cX8_number 51 = .ok (.istore_n 3, 1) := dk_62 (dk_at dksX8_number_2 5 rfl rfl)
theorem dX8_number_52 : decode cX8_number 52 = .ok (.aload_n 0, 1) := dk_42 (dk_at dksX8_number_2 6 rfl rfl)
theorem dX8_number_53 : decode cX8_number 53 = .ok (.dup, 1) := dk_89 (dk_at dksX8_number_2 7 rfl rfl)
theorem dX8_number_54 : decode cX8_number 54 = .ok (.getfield 102, 3) := dk_180 0 102 (dk_at dksX8_number_2 8 rfl rfl)
theorem dX8_number_57 : decode cX8_number 57 = .ok (.iconst 1, 1) := dk_4 (dk_at dksX8_number_2 11 rfl rfl)
theorem dX8_number_58 : decode cX8_number 58 = .ok (.iadd, 1) := dk_96 (dk_at dksX8_number_2 12 rfl rfl)
theorem dX8_number_59 : decode cX8_number 59 = .ok (.putfield 102, 3) := dk_181 0 102 (dk_at dksX8_number_2 13 rfl rfl)
theorem dX8_number_62 : decode cX8_number 62 = .ok (.goto (-56), 3) := dk_167 255 200 (dk_at dksX8_number_2 16 rfl rfl)
theorem dX8_number_65 : decode cX8_number 65 = .ok (.aload_n 0, 1) := dk_42 (dk_at dksX8_number_2 19 rfl rfl)
theorem dX8_number_66 : decode cX8_number 66 = .ok (.getfield 102, 3) := dk_180 0 102 (dk_at dksX8_number_2 20 rfl rfl)
theorem dX8_number_69 : decode cX8_number 69 = .ok (.aload_n 0, 1) := dk_42 (dk_at dksX8_number_2 23 rfl rfl)
theorem dX8_number_70 : decode cX8_number 70 = .ok (.getfield 112, 3) := dk_180 0 112 (dk_at dksX8_number_3 0 rfl rfl)
theorem dX8_number_73 : decode cX8_number 73 = .ok (.if_icmp .eq 26, 3) := dk_159 0 26 (dk_at dksX8_number_3 3 rfl rfl)
theorem dX8_number_76 : decode cX8_number 76 = .ok (.aload_n 0, 1) := dk_42 (dk_at dksX8_number_3 6 rfl rfl)
theorem dX8_number_77 : decode cX8_number 77 = .ok (.getfield 102, 3) := dk_180 0 102 (dk_at dksX8_number_3 7 rfl rfl)
theorem dX8_number_80 : decode cX8_number 80 = .ok (.aload_n 0, 1) := dk_42 (dk_at dksX8_number_3 10 rfl rfl)
theorem dX8_number_81 : decode cX8_number 81 = .ok (.getfield 112, 3) := dk_180 0 112 (dk_at dksX8_number_3 11 rfl rfl)
theorem dX8_number_84 : decode cX8_number 84 = .ok (.isub, 1) := dk_100 (dk_at dksX8_number_3 14 rfl rfl)
theorem dX8_number_85 : decode cX8_number 85 = .ok (.iconst 3, 1) := dk_6 (dk_at dksX8_number_3 15 rfl rfl)
theorem dX8_number_86 : decode cX8_number 86 = .ok (.if_icmp .gt 13, 3) := dk_163 0 13 (dk_at dksX8_number_3 16 rfl rfl)
theorem dX8_number_89 : decode cX8_number 89 = .ok (.iload_n 3, 1) := dk_29 (dk_at dksX8_number_3 19 rfl rfl)
theorem dX8_number_90 : decode cX8_number 90 = .ok (.iload_n 1, 1) := dk_27 (dk_at dksX8_number_3 20 rfl rfl)
theorem dX8_number_91 : decode cX8_number 91 = .ok (.if_icmp .lt 8, 3) := dk_161 0 8 (dk_at dksX8_number_3 21 rfl rfl)
theorem dX8_number_94 : decode cX8_number 94 = .ok (.iload_n 3, 1) := dk_29 (dk_at dksX8_number_4 0 rfl rfl)
theorem dX8_number_95 : decode cX8_number 95 = .ok (.iload_n 2, 1) := dk_28 (dk_at dksX8_number_4 1 rfl rfl)
theorem dX8_number_96 : decode cX8_number 96 = .ok (.if_icmp .le 7, 3) := dk_164 0 7 (dk_at dksX8_number_4 2 rfl rfl)
theorem dX8_number_99 : decode cX8_number 99 = .ok (.iconst (-1), 1) := dk_2 (dk_at dksX8_number_4 5 rfl rfl)
theorem dX8_number_100 : decode cX8_number 100 = .ok (.goto 4, 3) := dk_167 0 4 (dk_at dksX8_number_4 6 rfl rfl)
theorem dX8_number_103 : decode cX8_number 103 = .ok (.iload_n 3, 1) := dk_29 (dk_at dksX8_number_4 9 rfl rfl)
theorem dX8_number_104 : decode cX8_number 104 = .ok (.ireturn, 1) := dk_172 (dk_at dksX8_number_4 10 rfl rfl)
abbrev cX8_passes : ByteArray := prog_18_method_31_code
def yX8_passes : MethodName := ⟨RX8, "passes", "(Ljava/lang/String;)Z"⟩
def dkwX8_passes_0 : List UInt8 := [42, 182, 0, 127, 42, 43, 182, 0, 130, 153, 0, 5, 4, 172, 42, 42, 180, 0, 112, 181, 0, 102, 3, 172]
abbrev dktX8_passes_0 : List UInt8 := dkwX8_passes_0 ++ []
theorem dksX8_passes_0 : cX8_passes.data.toList.drop 0 = dktX8_passes_0 := by decide +kernel
theorem dX8_passes_0 : decode cX8_passes 0 = .ok (.aload_n 0, 1) := dk_42 (dk_at dksX8_passes_0 0 rfl rfl)
theorem dX8_passes_1 : decode cX8_passes 1 = .ok (.invokevirtual 127, 3) := dk_182 0 127 (dk_at dksX8_passes_0 1 rfl rfl)
theorem dX8_passes_4 : decode cX8_passes 4 = .ok (.aload_n 0, 1) := dk_42 (dk_at dksX8_passes_0 4 rfl rfl)
theorem dX8_passes_5 : decode cX8_passes 5 = .ok (.aload_n 1, 1) := dk_43 (dk_at dksX8_passes_0 5 rfl rfl)
theorem dX8_passes_6 : decode cX8_passes 6 = .ok (.invokevirtual 130, 3) := dk_182 0 130 (dk_at dksX8_passes_0 6 rfl rfl)
theorem dX8_passes_9 : decode cX8_passes 9 = .ok (.ifCond .eq 5, 3) := dk_153 0 5 (dk_at dksX8_passes_0 9 rfl rfl)
theorem dX8_passes_12 : decode cX8_passes 12 = .ok (.iconst 1, 1) := dk_4 (dk_at dksX8_passes_0 12 rfl rfl)
theorem dX8_passes_13 : decode cX8_passes 13 = .ok (.ireturn, 1) := dk_172 (dk_at dksX8_passes_0 13 rfl rfl)
theorem dX8_passes_14 : decode cX8_passes 14 = .ok (.aload_n 0, 1) := dk_42 (dk_at dksX8_passes_0 14 rfl rfl)
theorem dX8_passes_15 : decode cX8_passes 15 = .ok (.aload_n 0, 1) := dk_42 (dk_at dksX8_passes_0 15 rfl rfl)
theorem dX8_passes_16 : decode cX8_passes 16 = .ok (.getfield 112, 3) := dk_180 0 112 (dk_at dksX8_passes_0 16 rfl rfl)
theorem dX8_passes_19 : decode cX8_passes 19 = .ok (.putfield 102, 3) := dk_181 0 102 (dk_at dksX8_passes_0 19 rfl rfl)
theorem dX8_passes_22 : decode cX8_passes 22 = .ok (.iconst 0, 1) := dk_3 (dk_at dksX8_passes_0 22 rfl rfl)
theorem dX8_passes_23 : decode cX8_passes 23 = .ok (.ireturn, 1) := dk_172 (dk_at dksX8_passes_0 23 rfl rfl)
abbrev cX8_propIn : ByteArray := prog_18_method_22_code
def yX8_propIn : MethodName := ⟨RX8, "propIn", "(I)I"⟩
def dkwX8_propIn_1 : List UInt8 := [132, 2, 1, 167, 255, 233, 2, 172]
abbrev dktX8_propIn_1 : List UInt8 := dkwX8_propIn_1 ++ []
def dkwX8_propIn_0 : List UInt8 := [3, 61, 28, 42, 182, 0, 83, 162, 0, 21, 42, 28, 6, 182, 0, 74, 27, 160, 0, 5, 28, 172]
abbrev dktX8_propIn_0 : List UInt8 := dkwX8_propIn_0 ++ dktX8_propIn_1
theorem dksX8_propIn_0 : cX8_propIn.data.toList.drop 0 = dktX8_propIn_0 := by decide +kernel
theorem dksX8_propIn_1 : cX8_propIn.data.toList.drop 22 = dktX8_propIn_1 := dk_seg dksX8_propIn_0 22 rfl rfl
theorem dX8_propIn_0 : decode cX8_propIn 0 = .ok (.iconst 0, 1) := dk_3 (dk_at dksX8_propIn_0 0 rfl rfl)
theorem dX8_propIn_1 : decode cX8_propIn 1 = .ok (.istore_n 2, 1) := dk_61 (dk_at dksX8_propIn_0 1 rfl rfl)
theorem dX8_propIn_2 : decode cX8_propIn 2 = .ok (.iload_n 2, 1) := dk_28 (dk_at dksX8_propIn_0 2 rfl rfl)
theorem dX8_propIn_3 : decode cX8_propIn 3 = .ok (.aload_n 0, 1) := dk_42 (dk_at dksX8_propIn_0 3 rfl rfl)
theorem dX8_propIn_4 : decode cX8_propIn 4 = .ok (.invokevirtual 83, 3) := dk_182 0 83 (dk_at dksX8_propIn_0 4 rfl rfl)
theorem dX8_propIn_7 : decode cX8_propIn 7 = .ok (.if_icmp .ge 21, 3) := dk_162 0 21 (dk_at dksX8_propIn_0 7 rfl rfl)
theorem dX8_propIn_10 : decode cX8_propIn 10 = .ok (.aload_n 0, 1) := dk_42 (dk_at dksX8_propIn_0 10 rfl rfl)
theorem dX8_propIn_11 : decode cX8_propIn 11 = .ok (.iload_n 2, 1) := dk_28 (dk_at dksX8_propIn_0 11 rfl rfl)
theorem dX8_propIn_12 : decode cX8_propIn 12 = .ok (.iconst 3, 1) := dk_6 (dk_at dksX8_propIn_0 12 rfl rfl)
theorem dX8_propIn_13 : decode cX8_propIn 13 = .ok (.invokevirtual 74, 3) := dk_182 0 74 (dk_at dksX8_propIn_0 13 rfl rfl)
theorem dX8_propIn_16 : decode cX8_propIn 16 = .ok (.iload_n 1, 1) := dk_27 (dk_at dksX8_propIn_0 16 rfl rfl)
theorem dX8_propIn_17 : decode cX8_propIn 17 = .ok (.if_icmp .ne 5, 3) := dk_160 0 5 (dk_at dksX8_propIn_0 17 rfl rfl)
theorem dX8_propIn_20 : decode cX8_propIn 20 = .ok (.iload_n 2, 1) := dk_28 (dk_at dksX8_propIn_0 20 rfl rfl)
theorem dX8_propIn_21 : decode cX8_propIn 21 = .ok (.ireturn, 1) := dk_172 (dk_at dksX8_propIn_0 21 rfl rfl)
theorem dX8_propIn_22 : decode cX8_propIn 22 = .ok (.iinc 2 1, 3) := dk_132 2 1 (dk_at dksX8_propIn_1 0 rfl rfl)
theorem dX8_propIn_25 : decode cX8_propIn 25 = .ok (.goto (-23), 3) := dk_167 255 233 (dk_at dksX8_propIn_1 3 rfl rfl)
theorem dX8_propIn_28 : decode cX8_propIn 28 = .ok (.iconst (-1), 1) := dk_2 (dk_at dksX8_propIn_1 6 rfl rfl)
theorem dX8_propIn_29 : decode cX8_propIn 29 = .ok (.ireturn, 1) := dk_172 (dk_at dksX8_propIn_1 7 rfl rfl)
abbrev cX8_ofProp : ByteArray := prog_18_method_13_code
def yX8_ofProp : MethodName := ⟨RX8, "ofProp", "(II)I"⟩
def dkwX8_ofProp_0 : List UInt8 := [42, 180, 0, 13, 27, 28, 184, 0, 70, 46, 172]
abbrev dktX8_ofProp_0 : List UInt8 := dkwX8_ofProp_0 ++ []
theorem dksX8_ofProp_0 : cX8_ofProp.data.toList.drop 0 = dktX8_ofProp_0 := by decide +kernel
theorem dX8_ofProp_0 : decode cX8_ofProp 0 = .ok (.aload_n 0, 1) := dk_42 (dk_at dksX8_ofProp_0 0 rfl rfl)
theorem dX8_ofProp_1 : decode cX8_ofProp 1 = .ok (.getfield 13, 3) := dk_180 0 13 (dk_at dksX8_ofProp_0 1 rfl rfl)
theorem dX8_ofProp_4 : decode cX8_ofProp 4 = .ok (.iload_n 1, 1) := dk_27 (dk_at dksX8_ofProp_0 4 rfl rfl)
theorem dX8_ofProp_5 : decode cX8_ofProp 5 = .ok (.iload_n 2, 1) := dk_28 (dk_at dksX8_ofProp_0 5 rfl rfl)
theorem dX8_ofProp_6 : decode cX8_ofProp 6 = .ok (.invokestatic 70, 3) := dk_184 0 70 (dk_at dksX8_ofProp_0 6 rfl rfl)
theorem dX8_ofProp_9 : decode cX8_ofProp 9 = .ok (.iaload, 1) := dk_46 (dk_at dksX8_ofProp_0 9 rfl rfl)
theorem dX8_ofProp_10 : decode cX8_ofProp 10 = .ok (.ireturn, 1) := dk_172 (dk_at dksX8_ofProp_0 10 rfl rfl)
abbrev cX8_propAt : ByteArray := prog_18_method_12_code
def yX8_propAt : MethodName := ⟨RX8, "propAt", "(II)I"⟩
def dkwX8_propAt_0 : List UInt8 := [16, 9, 7, 26, 104, 96, 27, 96, 172]
abbrev dktX8_propAt_0 : List UInt8 := dkwX8_propAt_0 ++ []
theorem dksX8_propAt_0 : cX8_propAt.data.toList.drop 0 = dktX8_propAt_0 := by decide +kernel
theorem dX8_propAt_0 : decode cX8_propAt 0 = .ok (.bipush 9, 2) := dk_16 9 (dk_at dksX8_propAt_0 0 rfl rfl)
theorem dX8_propAt_2 : decode cX8_propAt 2 = .ok (.iconst 4, 1) := dk_7 (dk_at dksX8_propAt_0 2 rfl rfl)
theorem dX8_propAt_3 : decode cX8_propAt 3 = .ok (.iload_n 0, 1) := dk_26 (dk_at dksX8_propAt_0 3 rfl rfl)
theorem dX8_propAt_4 : decode cX8_propAt 4 = .ok (.imul, 1) := dk_104 (dk_at dksX8_propAt_0 4 rfl rfl)
theorem dX8_propAt_5 : decode cX8_propAt 5 = .ok (.iadd, 1) := dk_96 (dk_at dksX8_propAt_0 5 rfl rfl)
theorem dX8_propAt_6 : decode cX8_propAt 6 = .ok (.iload_n 1, 1) := dk_27 (dk_at dksX8_propAt_0 6 rfl rfl)
theorem dX8_propAt_7 : decode cX8_propAt 7 = .ok (.iadd, 1) := dk_96 (dk_at dksX8_propAt_0 7 rfl rfl)
theorem dX8_propAt_8 : decode cX8_propAt 8 = .ok (.ireturn, 1) := dk_172 (dk_at dksX8_propAt_0 8 rfl rfl)
abbrev cX8_readAccused : ByteArray := prog_18_method_40_code
def yX8_readAccused : MethodName := ⟨RX8, "readAccused", "()Z"⟩
def dkwX8_readAccused_6 : List UInt8 := [4, 96, 79, 4, 172]
abbrev dktX8_readAccused_6 : List UInt8 := dkwX8_readAccused_6 ++ []
def dkwX8_readAccused_5 : List UInt8 := [184, 0, 77, 21, 4, 79, 42, 180, 0, 13, 27, 6, 184, 0, 77, 3, 79, 42, 180, 0, 13, 4, 92, 46]
abbrev dktX8_readAccused_5 : List UInt8 := dkwX8_readAccused_5 ++ dktX8_readAccused_6
def dkwX8_readAccused_4 : List UInt8 := [3, 184, 0, 77, 29, 79, 42, 180, 0, 13, 27, 4, 184, 0, 77, 28, 79, 42, 180, 0, 13, 27, 5]
abbrev dktX8_readAccused_4 : List UInt8 := dkwX8_readAccused_4 ++ dktX8_readAccused_5
def dkwX8_readAccused_3 : List UInt8 := [100, 182, 0, 134, 54, 5, 21, 5, 156, 0, 5, 3, 172, 4, 21, 5, 120, 54, 4, 42, 180, 0, 13, 27]
abbrev dktX8_readAccused_3 : List UInt8 := dkwX8_readAccused_3 ++ dktX8_readAccused_4
def dkwX8_readAccused_2 : List UInt8 := [156, 0, 5, 3, 172, 3, 54, 4, 42, 18, 172, 182, 0, 157, 153, 0, 29, 42, 3, 42, 182, 0, 83, 4]
abbrev dktX8_readAccused_2 : List UInt8 := dkwX8_readAccused_2 ++ dktX8_readAccused_3
def dkwX8_readAccused_1 : List UInt8 := [156, 0, 5, 3, 172, 42, 18, 170, 182, 0, 157, 153, 0, 10, 42, 182, 0, 140, 167, 0, 4, 3, 62, 29]
abbrev dktX8_readAccused_1 : List UInt8 := dkwX8_readAccused_1 ++ dktX8_readAccused_2
def dkwX8_readAccused_0 : List UInt8 := [42, 182, 0, 91, 60, 27, 16, 6, 160, 0, 5, 3, 172, 42, 18, 168, 4, 16, 60, 182, 0, 151, 61, 28]
abbrev dktX8_readAccused_0 : List UInt8 := dkwX8_readAccused_0 ++ dktX8_readAccused_1
theorem dksX8_readAccused_0 : cX8_readAccused.data.toList.drop 0 = dktX8_readAccused_0 := by decide +kernel
theorem dksX8_readAccused_1 : cX8_readAccused.data.toList.drop 24 = dktX8_readAccused_1 := dk_seg dksX8_readAccused_0 24 rfl rfl
theorem dksX8_readAccused_2 : cX8_readAccused.data.toList.drop 48 = dktX8_readAccused_2 := dk_seg dksX8_readAccused_1 24 rfl rfl
theorem dksX8_readAccused_3 : cX8_readAccused.data.toList.drop 72 = dktX8_readAccused_3 := dk_seg dksX8_readAccused_2 24 rfl rfl
theorem dksX8_readAccused_4 : cX8_readAccused.data.toList.drop 96 = dktX8_readAccused_4 := dk_seg dksX8_readAccused_3 24 rfl rfl
theorem dksX8_readAccused_5 : cX8_readAccused.data.toList.drop 119 = dktX8_readAccused_5 := dk_seg dksX8_readAccused_4 23 rfl rfl
theorem dksX8_readAccused_6 : cX8_readAccused.data.toList.drop 143 = dktX8_readAccused_6 := dk_seg dksX8_readAccused_5 24 rfl rfl
theorem dX8_readAccused_0 : decode cX8_readAccused 0 = .ok (.aload_n 0, 1) := dk_42 (dk_at dksX8_readAccused_0 0 rfl rfl)
theorem dX8_readAccused_1 : decode cX8_readAccused 1 = .ok (.invokevirtual 91, 3) := dk_182 0 91 (dk_at dksX8_readAccused_0 1 rfl rfl)
theorem dX8_readAccused_4 : decode cX8_readAccused 4 = .ok (.istore_n 1, 1) := dk_60 (dk_at dksX8_readAccused_0 4 rfl rfl)
theorem dX8_readAccused_5 : decode cX8_readAccused 5 = .ok (.iload_n 1, 1) := dk_27 (dk_at dksX8_readAccused_0 5 rfl rfl)
theorem dX8_readAccused_6 : decode cX8_readAccused 6 = .ok (.bipush 6, 2) := dk_16 6 (dk_at dksX8_readAccused_0 6 rfl rfl)
theorem dX8_readAccused_8 : decode cX8_readAccused 8 = .ok (.if_icmp .ne 5, 3) := dk_160 0 5 (dk_at dksX8_readAccused_0 8 rfl rfl)
theorem dX8_readAccused_11 : decode cX8_readAccused 11 = .ok (.iconst 0, 1) := dk_3 (dk_at dksX8_readAccused_0 11 rfl rfl)
theorem dX8_readAccused_12 : decode cX8_readAccused 12 = .ok (.ireturn, 1) := dk_172 (dk_at dksX8_readAccused_0 12 rfl rfl)
theorem dX8_readAccused_13 : decode cX8_readAccused 13 = .ok (.aload_n 0, 1) := dk_42 (dk_at dksX8_readAccused_0 13 rfl rfl)
theorem dX8_readAccused_14 : decode cX8_readAccused 14 = .ok (.ldc 168, 2) := dk_18 168 (dk_at dksX8_readAccused_0 14 rfl rfl)
theorem dX8_readAccused_16 : decode cX8_readAccused 16 = .ok (.iconst 1, 1) := dk_4 (dk_at dksX8_readAccused_0 16 rfl rfl)
theorem dX8_readAccused_17 : decode cX8_readAccused 17 = .ok (.bipush 60, 2) := dk_16 60 (dk_at dksX8_readAccused_0 17 rfl rfl)
theorem dX8_readAccused_19 : decode cX8_readAccused 19 = .ok (.invokevirtual 151, 3) := dk_182 0 151 (dk_at dksX8_readAccused_0 19 rfl rfl)
theorem dX8_readAccused_22 : decode cX8_readAccused 22 = .ok (.istore_n 2, 1) := dk_61 (dk_at dksX8_readAccused_0 22 rfl rfl)
theorem dX8_readAccused_23 : decode cX8_readAccused 23 = .ok (.iload_n 2, 1) := dk_28 (dk_at dksX8_readAccused_0 23 rfl rfl)
theorem dX8_readAccused_24 : decode cX8_readAccused 24 = .ok (.ifCond .ge 5, 3) := dk_156 0 5 (dk_at dksX8_readAccused_1 0 rfl rfl)
theorem dX8_readAccused_27 : decode cX8_readAccused 27 = .ok (.iconst 0, 1) := dk_3 (dk_at dksX8_readAccused_1 3 rfl rfl)
theorem dX8_readAccused_28 : decode cX8_readAccused 28 = .ok (.ireturn, 1) := dk_172 (dk_at dksX8_readAccused_1 4 rfl rfl)
theorem dX8_readAccused_29 : decode cX8_readAccused 29 = .ok (.aload_n 0, 1) := dk_42 (dk_at dksX8_readAccused_1 5 rfl rfl)
theorem dX8_readAccused_30 : decode cX8_readAccused 30 = .ok (.ldc 170, 2) := dk_18 170 (dk_at dksX8_readAccused_1 6 rfl rfl)
theorem dX8_readAccused_32 : decode cX8_readAccused 32 = .ok (.invokevirtual 157, 3) := dk_182 0 157 (dk_at dksX8_readAccused_1 8 rfl rfl)
theorem dX8_readAccused_35 : decode cX8_readAccused 35 = .ok (.ifCond .eq 10, 3) := dk_153 0 10 (dk_at dksX8_readAccused_1 11 rfl rfl)
theorem dX8_readAccused_38 : decode cX8_readAccused 38 = .ok (.aload_n 0, 1) := dk_42 (dk_at dksX8_readAccused_1 14 rfl rfl)
theorem dX8_readAccused_39 : decode cX8_readAccused 39 = .ok (.invokevirtual 140, 3) := dk_182 0 140 (dk_at dksX8_readAccused_1 15 rfl rfl)
theorem dX8_readAccused_42 : decode cX8_readAccused 42 = .ok (.goto 4, 3) := dk_167 0 4 (dk_at dksX8_readAccused_1 18 rfl rfl)
theorem dX8_readAccused_45 : decode cX8_readAccused 45 = .ok (.iconst 0, 1) := dk_3 (dk_at dksX8_readAccused_1 21 rfl rfl)
theorem dX8_readAccused_46 : decode cX8_readAccused 46 = .ok (.istore_n 3, 1) := dk_62 (dk_at dksX8_readAccused_1 22 rfl rfl)
theorem dX8_readAccused_47 : decode cX8_readAccused 47 = .ok (.iload_n 3, 1) := dk_29 (dk_at dksX8_readAccused_1 23 rfl rfl)
theorem dX8_readAccused_48 : decode cX8_readAccused 48 = .ok (.ifCond .ge 5, 3) := dk_156 0 5 (dk_at dksX8_readAccused_2 0 rfl rfl)
theorem dX8_readAccused_51 : decode cX8_readAccused 51 = .ok (.iconst 0, 1) := dk_3 (dk_at dksX8_readAccused_2 3 rfl rfl)
theorem dX8_readAccused_52 : decode cX8_readAccused 52 = .ok (.ireturn, 1) := dk_172 (dk_at dksX8_readAccused_2 4 rfl rfl)
theorem dX8_readAccused_53 : decode cX8_readAccused 53 = .ok (.iconst 0, 1) := dk_3 (dk_at dksX8_readAccused_2 5 rfl rfl)
theorem dX8_readAccused_54 : decode cX8_readAccused 54 = .ok (.istore 4, 2) := dk_54 4 (dk_at dksX8_readAccused_2 6 rfl rfl)
theorem dX8_readAccused_56 : decode cX8_readAccused 56 = .ok (.aload_n 0, 1) := dk_42 (dk_at dksX8_readAccused_2 8 rfl rfl)
theorem dX8_readAccused_57 : decode cX8_readAccused 57 = .ok (.ldc 172, 2) := dk_18 172 (dk_at dksX8_readAccused_2 9 rfl rfl)
theorem dX8_readAccused_59 : decode cX8_readAccused 59 = .ok (.invokevirtual 157, 3) := dk_182 0 157 (dk_at dksX8_readAccused_2 11 rfl rfl)
theorem dX8_readAccused_62 : decode cX8_readAccused 62 = .ok (.ifCond .eq 29, 3) := dk_153 0 29 (dk_at dksX8_readAccused_2 14 rfl rfl)
theorem dX8_readAccused_65 : decode cX8_readAccused 65 = .ok (.aload_n 0, 1) := dk_42 (dk_at dksX8_readAccused_2 17 rfl rfl)
theorem dX8_readAccused_66 : decode cX8_readAccused 66 = .ok (.iconst 0, 1) := dk_3 (dk_at dksX8_readAccused_2 18 rfl rfl)
theorem dX8_readAccused_67 : decode cX8_readAccused 67 = .ok (.aload_n 0, 1) := dk_42 (dk_at dksX8_readAccused_2 19 rfl rfl)
theorem dX8_readAccused_68 : decode cX8_readAccused 68 = .ok (.invokevirtual 83, 3) := dk_182 0 83 (dk_at dksX8_readAccused_2 20 rfl rfl)
theorem dX8_readAccused_71 : decode cX8_readAccused 71 = .ok (.iconst 1, 1) := dk_4 (dk_at dksX8_readAccused_2 23 rfl rfl)
theorem dX8_readAccused_72 : decode cX8_readAccused 72 = .ok (.isub, 1) := dk_100 (dk_at dksX8_readAccused_3 0 rfl rfl)
theorem dX8_readAccused_73 : decode cX8_readAccused 73 = .ok (.invokevirtual 134, 3) := dk_182 0 134 (dk_at dksX8_readAccused_3 1 rfl rfl)
theorem dX8_readAccused_76 : decode cX8_readAccused 76 = .ok (.istore 5, 2) := dk_54 5 (dk_at dksX8_readAccused_3 4 rfl rfl)
theorem dX8_readAccused_78 : decode cX8_readAccused 78 = .ok (.iload 5, 2) := dk_21 5 (dk_at dksX8_readAccused_3 6 rfl rfl)
theorem dX8_readAccused_80 : decode cX8_readAccused 80 = .ok (.ifCond .ge 5, 3) := dk_156 0 5 (dk_at dksX8_readAccused_3 8 rfl rfl)
theorem dX8_readAccused_83 : decode cX8_readAccused 83 = .ok (.iconst 0, 1) := dk_3 (dk_at dksX8_readAccused_3 11 rfl rfl)
theorem dX8_readAccused_84 : decode cX8_readAccused 84 = .ok (.ireturn, 1) := dk_172 (dk_at dksX8_readAccused_3 12 rfl rfl)
theorem dX8_readAccused_85 : decode cX8_readAccused 85 = .ok (.iconst 1, 1) := dk_4 (dk_at dksX8_readAccused_3 13 rfl rfl)
theorem dX8_readAccused_86 : decode cX8_readAccused 86 = .ok (.iload 5, 2) := dk_21 5 (dk_at dksX8_readAccused_3 14 rfl rfl)
theorem dX8_readAccused_88 : decode cX8_readAccused 88 = .ok (.ishl, 1) := dk_120 (dk_at dksX8_readAccused_3 16 rfl rfl)
theorem dX8_readAccused_89 : decode cX8_readAccused 89 = .ok (.istore 4, 2) := dk_54 4 (dk_at dksX8_readAccused_3 17 rfl rfl)
theorem dX8_readAccused_91 : decode cX8_readAccused 91 = .ok (.aload_n 0, 1) := dk_42 (dk_at dksX8_readAccused_3 19 rfl rfl)
theorem dX8_readAccused_92 : decode cX8_readAccused 92 = .ok (.getfield 13, 3) := dk_180 0 13 (dk_at dksX8_readAccused_3 20 rfl rfl)
theorem dX8_readAccused_95 : decode cX8_readAccused 95 = .ok (.iload_n 1, 1) := dk_27 (dk_at dksX8_readAccused_3 23 rfl rfl)
theorem dX8_readAccused_96 : decode cX8_readAccused 96 = .ok (.iconst 0, 1) := dk_3 (dk_at dksX8_readAccused_4 0 rfl rfl)
theorem dX8_readAccused_97 : decode cX8_readAccused 97 = .ok (.invokestatic 77, 3) := dk_184 0 77 (dk_at dksX8_readAccused_4 1 rfl rfl)
theorem dX8_readAccused_100 : decode cX8_readAccused 100 = .ok (.iload_n 3, 1) := dk_29 (dk_at dksX8_readAccused_4 4 rfl rfl)
theorem dX8_readAccused_101 : decode cX8_readAccused 101 = .ok (.iastore, 1) := dk_79 (dk_at dksX8_readAccused_4 5 rfl rfl)
theorem dX8_readAccused_102 : decode cX8_readAccused 102 = .ok (.aload_n 0, 1) := dk_42 (dk_at dksX8_readAccused_4 6 rfl rfl)
theorem dX8_readAccused_103 : decode cX8_readAccused 103 = .ok (.getfield 13, 3) := dk_180 0 13 (dk_at dksX8_readAccused_4 7 rfl rfl)
theorem dX8_readAccused_106 : decode cX8_readAccused 106 = .ok (.iload_n 1, 1) := dk_27 (dk_at dksX8_readAccused_4 10 rfl rfl)
theorem dX8_readAccused_107 : decode cX8_readAccused 107 = .ok (.iconst 1, 1) := dk_4 (dk_at dksX8_readAccused_4 11 rfl rfl)
theorem dX8_readAccused_108 : decode cX8_readAccused 108 = .ok (.invokestatic 77, 3) := dk_184 0 77 (dk_at dksX8_readAccused_4 12 rfl rfl)
theorem dX8_readAccused_111 : decode cX8_readAccused 111 = .ok (.iload_n 2, 1) := dk_28 (dk_at dksX8_readAccused_4 15 rfl rfl)
theorem dX8_readAccused_112 : decode cX8_readAccused 112 = .ok (.iastore, 1) := dk_79 (dk_at dksX8_readAccused_4 16 rfl rfl)
theorem dX8_readAccused_113 : decode cX8_readAccused 113 = .ok (.aload_n 0, 1) := dk_42 (dk_at dksX8_readAccused_4 17 rfl rfl)
theorem dX8_readAccused_114 : decode cX8_readAccused 114 = .ok (.getfield 13, 3) := dk_180 0 13 (dk_at dksX8_readAccused_4 18 rfl rfl)
theorem dX8_readAccused_117 : decode cX8_readAccused 117 = .ok (.iload_n 1, 1) := dk_27 (dk_at dksX8_readAccused_4 21 rfl rfl)
theorem dX8_readAccused_118 : decode cX8_readAccused 118 = .ok (.iconst 2, 1) := dk_5 (dk_at dksX8_readAccused_4 22 rfl rfl)
theorem dX8_readAccused_119 : decode cX8_readAccused 119 = .ok (.invokestatic 77, 3) := dk_184 0 77 (dk_at dksX8_readAccused_5 0 rfl rfl)
theorem dX8_readAccused_122 : decode cX8_readAccused 122 = .ok (.iload 4, 2) := dk_21 4 (dk_at dksX8_readAccused_5 3 rfl rfl)
theorem dX8_readAccused_124 : decode cX8_readAccused 124 = .ok (.iastore, 1) := dk_79 (dk_at dksX8_readAccused_5 5 rfl rfl)
theorem dX8_readAccused_125 : decode cX8_readAccused 125 = .ok (.aload_n 0, 1) := dk_42 (dk_at dksX8_readAccused_5 6 rfl rfl)
theorem dX8_readAccused_126 : decode cX8_readAccused 126 = .ok (.getfield 13, 3) := dk_180 0 13 (dk_at dksX8_readAccused_5 7 rfl rfl)
theorem dX8_readAccused_129 : decode cX8_readAccused 129 = .ok (.iload_n 1, 1) := dk_27 (dk_at dksX8_readAccused_5 10 rfl rfl)
theorem dX8_readAccused_130 : decode cX8_readAccused 130 = .ok (.iconst 3, 1) := dk_6 (dk_at dksX8_readAccused_5 11 rfl rfl)
theorem dX8_readAccused_131 : decode cX8_readAccused 131 = .ok (.invokestatic 77, 3) := dk_184 0 77 (dk_at dksX8_readAccused_5 12 rfl rfl)
theorem dX8_readAccused_134 : decode cX8_readAccused 134 = .ok (.iconst 0, 1) := dk_3 (dk_at dksX8_readAccused_5 15 rfl rfl)
theorem dX8_readAccused_135 : decode cX8_readAccused 135 = .ok (.iastore, 1) := dk_79 (dk_at dksX8_readAccused_5 16 rfl rfl)
theorem dX8_readAccused_136 : decode cX8_readAccused 136 = .ok (.aload_n 0, 1) := dk_42 (dk_at dksX8_readAccused_5 17 rfl rfl)
theorem dX8_readAccused_137 : decode cX8_readAccused 137 = .ok (.getfield 13, 3) := dk_180 0 13 (dk_at dksX8_readAccused_5 18 rfl rfl)
theorem dX8_readAccused_140 : decode cX8_readAccused 140 = .ok (.iconst 1, 1) := dk_4 (dk_at dksX8_readAccused_5 21 rfl rfl)
theorem dX8_readAccused_141 : decode cX8_readAccused 141 = .ok (.dup2, 1) := dk_92 (dk_at dksX8_readAccused_5 22 rfl rfl)
theorem dX8_readAccused_142 : decode cX8_readAccused 142 = .ok (.iaload, 1) := dk_46 (dk_at dksX8_readAccused_5 23 rfl rfl)
theorem dX8_readAccused_143 : decode cX8_readAccused 143 = .ok (.iconst 1, 1) := dk_4 (dk_at dksX8_readAccused_6 0 rfl rfl)
theorem dX8_readAccused_144 : decode cX8_readAccused 144 = .ok (.iadd, 1) := dk_96 (dk_at dksX8_readAccused_6 1 rfl rfl)
theorem dX8_readAccused_145 : decode cX8_readAccused 145 = .ok (.iastore, 1) := dk_79 (dk_at dksX8_readAccused_6 2 rfl rfl)
theorem dX8_readAccused_146 : decode cX8_readAccused 146 = .ok (.iconst 1, 1) := dk_4 (dk_at dksX8_readAccused_6 3 rfl rfl)
theorem dX8_readAccused_147 : decode cX8_readAccused 147 = .ok (.ireturn, 1) := dk_172 (dk_at dksX8_readAccused_6 4 rfl rfl)
abbrev cX8_oneCount : ByteArray := prog_18_method_11_code
def yX8_oneCount : MethodName := ⟨RX8, "oneCount", "()I"⟩
def dkwX8_oneCount_0 : List UInt8 := [42, 180, 0, 13, 4, 46, 172]
abbrev dktX8_oneCount_0 : List UInt8 := dkwX8_oneCount_0 ++ []
theorem dksX8_oneCount_0 : cX8_oneCount.data.toList.drop 0 = dktX8_oneCount_0 := by decide +kernel
theorem dX8_oneCount_0 : decode cX8_oneCount 0 = .ok (.aload_n 0, 1) := dk_42 (dk_at dksX8_oneCount_0 0 rfl rfl)
theorem dX8_oneCount_1 : decode cX8_oneCount 1 = .ok (.getfield 13, 3) := dk_180 0 13 (dk_at dksX8_oneCount_0 1 rfl rfl)
theorem dX8_oneCount_4 : decode cX8_oneCount 4 = .ok (.iconst 1, 1) := dk_4 (dk_at dksX8_oneCount_0 4 rfl rfl)
theorem dX8_oneCount_5 : decode cX8_oneCount 5 = .ok (.iaload, 1) := dk_46 (dk_at dksX8_oneCount_0 5 rfl rfl)
theorem dX8_oneCount_6 : decode cX8_oneCount 6 = .ok (.ireturn, 1) := dk_172 (dk_at dksX8_oneCount_0 6 rfl rfl)
abbrev cX8_oneAt : ByteArray := prog_18_method_15_code
def yX8_oneAt : MethodName := ⟨RX8, "oneAt", "(II)I"⟩
def dkwX8_oneAt_0 : List UInt8 := [16, 41, 7, 26, 104, 96, 27, 96, 172]
abbrev dktX8_oneAt_0 : List UInt8 := dkwX8_oneAt_0 ++ []
theorem dksX8_oneAt_0 : cX8_oneAt.data.toList.drop 0 = dktX8_oneAt_0 := by decide +kernel
theorem dX8_oneAt_0 : decode cX8_oneAt 0 = .ok (.bipush 41, 2) := dk_16 41 (dk_at dksX8_oneAt_0 0 rfl rfl)
theorem dX8_oneAt_2 : decode cX8_oneAt 2 = .ok (.iconst 4, 1) := dk_7 (dk_at dksX8_oneAt_0 2 rfl rfl)
theorem dX8_oneAt_3 : decode cX8_oneAt 3 = .ok (.iload_n 0, 1) := dk_26 (dk_at dksX8_oneAt_0 3 rfl rfl)
theorem dX8_oneAt_4 : decode cX8_oneAt 4 = .ok (.imul, 1) := dk_104 (dk_at dksX8_oneAt_0 4 rfl rfl)
theorem dX8_oneAt_5 : decode cX8_oneAt 5 = .ok (.iadd, 1) := dk_96 (dk_at dksX8_oneAt_0 5 rfl rfl)
theorem dX8_oneAt_6 : decode cX8_oneAt 6 = .ok (.iload_n 1, 1) := dk_27 (dk_at dksX8_oneAt_0 6 rfl rfl)
theorem dX8_oneAt_7 : decode cX8_oneAt 7 = .ok (.iadd, 1) := dk_96 (dk_at dksX8_oneAt_0 7 rfl rfl)
theorem dX8_oneAt_8 : decode cX8_oneAt 8 = .ok (.ireturn, 1) := dk_172 (dk_at dksX8_oneAt_0 8 rfl rfl)
abbrev cX8_readNumber : ByteArray := prog_18_method_37_code
def yX8_readNumber : MethodName := ⟨RX8, "readNumber", "(III)Z"⟩
def dkwX8_readNumber_1 : List UInt8 := [167, 0, 5, 21, 4, 79, 21, 4, 155, 0, 7, 4, 167, 0, 4, 3, 172]
abbrev dktX8_readNumber_1 : List UInt8 := dkwX8_readNumber_1 ++ []
def dkwX8_readNumber_0 : List UInt8 := [42, 28, 29, 182, 0, 134, 54, 4, 42, 180, 0, 13, 27, 21, 4, 156, 0, 12, 42, 180, 0, 13, 27, 46]
abbrev dktX8_readNumber_0 : List UInt8 := dkwX8_readNumber_0 ++ dktX8_readNumber_1
theorem dksX8_readNumber_0 : cX8_readNumber.data.toList.drop 0 = dktX8_readNumber_0 := by decide +kernel
theorem dksX8_readNumber_1 : cX8_readNumber.data.toList.drop 24 = dktX8_readNumber_1 := dk_seg dksX8_readNumber_0 24 rfl rfl
theorem dX8_readNumber_0 : decode cX8_readNumber 0 = .ok (.aload_n 0, 1) := dk_42 (dk_at dksX8_readNumber_0 0 rfl rfl)
theorem dX8_readNumber_1 : decode cX8_readNumber 1 = .ok (.iload_n 2, 1) := dk_28 (dk_at dksX8_readNumber_0 1 rfl rfl)
theorem dX8_readNumber_2 : decode cX8_readNumber 2 = .ok (.iload_n 3, 1) := dk_29 (dk_at dksX8_readNumber_0 2 rfl rfl)
theorem dX8_readNumber_3 : decode cX8_readNumber 3 = .ok (.invokevirtual 134, 3) := dk_182 0 134 (dk_at dksX8_readNumber_0 3 rfl rfl)
theorem dX8_readNumber_6 : decode cX8_readNumber 6 = .ok (.istore 4, 2) := dk_54 4 (dk_at dksX8_readNumber_0 6 rfl rfl)
theorem dX8_readNumber_8 : decode cX8_readNumber 8 = .ok (.aload_n 0, 1) := dk_42 (dk_at dksX8_readNumber_0 8 rfl rfl)
theorem dX8_readNumber_9 : decode cX8_readNumber 9 = .ok (.getfield 13, 3) := dk_180 0 13 (dk_at dksX8_readNumber_0 9 rfl rfl)
theorem dX8_readNumber_12 : decode cX8_readNumber 12 = .ok (.iload_n 1, 1) := dk_27 (dk_at dksX8_readNumber_0 12 rfl rfl)
theorem dX8_readNumber_13 : decode cX8_readNumber 13 = .ok (.iload 4, 2) := dk_21 4 (dk_at dksX8_readNumber_0 13 rfl rfl)
theorem dX8_readNumber_15 : decode cX8_readNumber 15 = .ok (.ifCond .ge 12, 3) := dk_156 0 12 (dk_at dksX8_readNumber_0 15 rfl rfl)
theorem dX8_readNumber_18 : decode cX8_readNumber 18 = .ok (.aload_n 0, 1) := dk_42 (dk_at dksX8_readNumber_0 18 rfl rfl)
theorem dX8_readNumber_19 : decode cX8_readNumber 19 = .ok (.getfield 13, 3) := dk_180 0 13 (dk_at dksX8_readNumber_0 19 rfl rfl)
theorem dX8_readNumber_22 : decode cX8_readNumber 22 = .ok (.iload_n 1, 1) := dk_27 (dk_at dksX8_readNumber_0 22 rfl rfl)
theorem dX8_readNumber_23 : decode cX8_readNumber 23 = .ok (.iaload, 1) := dk_46 (dk_at dksX8_readNumber_0 23 rfl rfl)
theorem dX8_readNumber_24 : decode cX8_readNumber 24 = .ok (.goto 5, 3) := dk_167 0 5 (dk_at dksX8_readNumber_1 0 rfl rfl)
theorem dX8_readNumber_27 : decode cX8_readNumber 27 = .ok (.iload 4, 2) := dk_21 4 (dk_at dksX8_readNumber_1 3 rfl rfl)
theorem dX8_readNumber_29 : decode cX8_readNumber 29 = .ok (.iastore, 1) := dk_79 (dk_at dksX8_readNumber_1 5 rfl rfl)
theorem dX8_readNumber_30 : decode cX8_readNumber 30 = .ok (.iload 4, 2) := dk_21 4 (dk_at dksX8_readNumber_1 6 rfl rfl)
theorem dX8_readNumber_32 : decode cX8_readNumber 32 = .ok (.ifCond .lt 7, 3) := dk_155 0 7 (dk_at dksX8_readNumber_1 8 rfl rfl)
theorem dX8_readNumber_35 : decode cX8_readNumber 35 = .ok (.iconst 1, 1) := dk_4 (dk_at dksX8_readNumber_1 11 rfl rfl)
theorem dX8_readNumber_36 : decode cX8_readNumber 36 = .ok (.goto 4, 3) := dk_167 0 4 (dk_at dksX8_readNumber_1 12 rfl rfl)
theorem dX8_readNumber_39 : decode cX8_readNumber 39 = .ok (.iconst 0, 1) := dk_3 (dk_at dksX8_readNumber_1 15 rfl rfl)
theorem dX8_readNumber_40 : decode cX8_readNumber 40 = .ok (.ireturn, 1) := dk_172 (dk_at dksX8_readNumber_1 16 rfl rfl)
abbrev cX8_readLawLine : ByteArray := prog_18_method_49_code
def yX8_readLawLine : MethodName := ⟨RX8, "readLawLine", "(I)Z"⟩
def dkwX8_readLawLine_6 : List UInt8 := [4, 172]
abbrev dktX8_readLawLine_6 : List UInt8 := dkwX8_readLawLine_6 ++ []
def dkwX8_readLawLine_5 : List UInt8 := [153, 0, 12, 42, 182, 0, 216, 154, 0, 5, 3, 172, 42, 180, 0, 13, 28, 6, 96, 42, 180, 0, 194, 79]
abbrev dktX8_readLawLine_5 : List UInt8 := dkwX8_readLawLine_5 ++ dktX8_readLawLine_6
def dkwX8_readLawLine_4 : List UInt8 := [42, 180, 0, 13, 28, 5, 96, 42, 180, 0, 194, 79, 42, 3, 181, 0, 213, 42, 18, 243, 182, 0, 157]
abbrev dktX8_readLawLine_4 : List UInt8 := dkwX8_readLawLine_4 ++ dktX8_readLawLine_5
def dkwX8_readLawLine_3 : List UInt8 := [28, 4, 96, 42, 3, 16, 30, 182, 0, 134, 79, 42, 180, 0, 13, 28, 4, 96, 46, 156, 0, 5, 3, 172]
abbrev dktX8_readLawLine_3 : List UInt8 := dkwX8_readLawLine_3 ++ dktX8_readLawLine_4
def dkwX8_readLawLine_2 : List UInt8 := [153, 0, 7, 5, 167, 0, 4, 2, 79, 42, 180, 0, 13, 28, 46, 156, 0, 5, 3, 172, 42, 180, 0, 13]
abbrev dktX8_readLawLine_2 : List UInt8 := dkwX8_readLawLine_2 ++ dktX8_readLawLine_3
def dkwX8_readLawLine_1 : List UInt8 := [167, 0, 30, 42, 18, 239, 182, 0, 130, 153, 0, 7, 4, 167, 0, 17, 42, 18, 241, 182, 0, 130]
abbrev dktX8_readLawLine_1 : List UInt8 := dkwX8_readLawLine_1 ++ dktX8_readLawLine_2
def dkwX8_readLawLine_0 : List UInt8 := [17, 4, 131, 7, 27, 104, 96, 61, 42, 180, 0, 13, 28, 42, 18, 237, 182, 0, 130, 153, 0, 7, 3]
abbrev dktX8_readLawLine_0 : List UInt8 := dkwX8_readLawLine_0 ++ dktX8_readLawLine_1
theorem dksX8_readLawLine_0 : cX8_readLawLine.data.toList.drop 0 = dktX8_readLawLine_0 := by decide +kernel
theorem dksX8_readLawLine_1 : cX8_readLawLine.data.toList.drop 23 = dktX8_readLawLine_1 := dk_seg dksX8_readLawLine_0 23 rfl rfl
theorem dksX8_readLawLine_2 : cX8_readLawLine.data.toList.drop 45 = dktX8_readLawLine_2 := dk_seg dksX8_readLawLine_1 22 rfl rfl
theorem dksX8_readLawLine_3 : cX8_readLawLine.data.toList.drop 69 = dktX8_readLawLine_3 := dk_seg dksX8_readLawLine_2 24 rfl rfl
theorem dksX8_readLawLine_4 : cX8_readLawLine.data.toList.drop 93 = dktX8_readLawLine_4 := dk_seg dksX8_readLawLine_3 24 rfl rfl
theorem dksX8_readLawLine_5 : cX8_readLawLine.data.toList.drop 116 = dktX8_readLawLine_5 := dk_seg dksX8_readLawLine_4 23 rfl rfl
theorem dksX8_readLawLine_6 : cX8_readLawLine.data.toList.drop 140 = dktX8_readLawLine_6 := dk_seg dksX8_readLawLine_5 24 rfl rfl
theorem dX8_readLawLine_0 : decode cX8_readLawLine 0 = .ok (.sipush 1155, 3) := dk_17 4 131 (dk_at dksX8_readLawLine_0 0 rfl rfl)
theorem dX8_readLawLine_3 : decode cX8_readLawLine 3 = .ok (.iconst 4, 1) := dk_7 (dk_at dksX8_readLawLine_0 3 rfl rfl)
theorem dX8_readLawLine_4 : decode cX8_readLawLine 4 = .ok (.iload_n 1, 1) := dk_27 (dk_at dksX8_readLawLine_0 4 rfl rfl)
theorem dX8_readLawLine_5 : decode cX8_readLawLine 5 = .ok (.imul, 1) := dk_104 (dk_at dksX8_readLawLine_0 5 rfl rfl)
theorem dX8_readLawLine_6 : decode cX8_readLawLine 6 = .ok (.iadd, 1) := dk_96 (dk_at dksX8_readLawLine_0 6 rfl rfl)
theorem dX8_readLawLine_7 : decode cX8_readLawLine 7 = .ok (.istore_n 2, 1) := dk_61 (dk_at dksX8_readLawLine_0 7 rfl rfl)
theorem dX8_readLawLine_8 : decode cX8_readLawLine 8 = .ok (.aload_n 0, 1) := dk_42 (dk_at dksX8_readLawLine_0 8 rfl rfl)
theorem dX8_readLawLine_9 : decode cX8_readLawLine 9 = .ok (.getfield 13, 3) := dk_180 0 13 (dk_at dksX8_readLawLine_0 9 rfl rfl)
theorem dX8_readLawLine_12 : decode cX8_readLawLine 12 = .ok (.iload_n 2, 1) := dk_28 (dk_at dksX8_readLawLine_0 12 rfl rfl)
theorem dX8_readLawLine_13 : decode cX8_readLawLine 13 = .ok (.aload_n 0, 1) := dk_42 (dk_at dksX8_readLawLine_0 13 rfl rfl)
theorem dX8_readLawLine_14 : decode cX8_readLawLine 14 = .ok (.ldc 237, 2) := dk_18 237 (dk_at dksX8_readLawLine_0 14 rfl rfl)
theorem dX8_readLawLine_16 : decode cX8_readLawLine 16 = .ok (.invokevirtual 130, 3) := dk_182 0 130 (dk_at dksX8_readLawLine_0 16 rfl rfl)
theorem dX8_readLawLine_19 : decode cX8_readLawLine 19 = .ok (.ifCond .eq 7, 3) := dk_153 0 7 (dk_at dksX8_readLawLine_0 19 rfl rfl)
theorem dX8_readLawLine_22 : decode cX8_readLawLine 22 = .ok (.iconst 0, 1) := dk_3 (dk_at dksX8_readLawLine_0 22 rfl rfl)
theorem dX8_readLawLine_23 : decode cX8_readLawLine 23 = .ok (.goto 30, 3) := dk_167 0 30 (dk_at dksX8_readLawLine_1 0 rfl rfl)
theorem dX8_readLawLine_26 : decode cX8_readLawLine 26 = .ok (.aload_n 0, 1) := dk_42 (dk_at dksX8_readLawLine_1 3 rfl rfl)
theorem dX8_readLawLine_27 : decode cX8_readLawLine 27 = .ok (.ldc 239, 2) := dk_18 239 (dk_at dksX8_readLawLine_1 4 rfl rfl)
theorem dX8_readLawLine_29 : decode cX8_readLawLine 29 = .ok (.invokevirtual 130, 3) := dk_182 0 130 (dk_at dksX8_readLawLine_1 6 rfl rfl)
theorem dX8_readLawLine_32 : decode cX8_readLawLine 32 = .ok (.ifCond .eq 7, 3) := dk_153 0 7 (dk_at dksX8_readLawLine_1 9 rfl rfl)
theorem dX8_readLawLine_35 : decode cX8_readLawLine 35 = .ok (.iconst 1, 1) := dk_4 (dk_at dksX8_readLawLine_1 12 rfl rfl)
theorem dX8_readLawLine_36 : decode cX8_readLawLine 36 = .ok (.goto 17, 3) := dk_167 0 17 (dk_at dksX8_readLawLine_1 13 rfl rfl)
theorem dX8_readLawLine_39 : decode cX8_readLawLine 39 = .ok (.aload_n 0, 1) := dk_42 (dk_at dksX8_readLawLine_1 16 rfl rfl)
theorem dX8_readLawLine_40 : decode cX8_readLawLine 40 = .ok (.ldc 241, 2) := dk_18 241 (dk_at dksX8_readLawLine_1 17 rfl rfl)
theorem dX8_readLawLine_42 : decode cX8_readLawLine 42 = .ok (.invokevirtual 130, 3) := dk_182 0 130 (dk_at dksX8_readLawLine_1 19 rfl rfl)
theorem dX8_readLawLine_45 : decode cX8_readLawLine 45 = .ok (.ifCond .eq 7, 3) := dk_153 0 7 (dk_at dksX8_readLawLine_2 0 rfl rfl)
theorem dX8_readLawLine_48 : decode cX8_readLawLine 48 = .ok (.iconst 2, 1) := dk_5 (dk_at dksX8_readLawLine_2 3 rfl rfl)
theorem dX8_readLawLine_49 : decode cX8_readLawLine 49 = .ok (.goto 4, 3) := dk_167 0 4 (dk_at dksX8_readLawLine_2 4 rfl rfl)
theorem dX8_readLawLine_52 : decode cX8_readLawLine 52 = .ok (.iconst (-1), 1) := dk_2 (dk_at dksX8_readLawLine_2 7 rfl rfl)
theorem dX8_readLawLine_53 : decode cX8_readLawLine 53 = .ok (.iastore, 1) := dk_79 (dk_at dksX8_readLawLine_2 8 rfl rfl)
theorem dX8_readLawLine_54 : decode cX8_readLawLine 54 = .ok (.aload_n 0, 1) := dk_42 (dk_at dksX8_readLawLine_2 9 rfl rfl)
theorem dX8_readLawLine_55 : decode cX8_readLawLine 55 = .ok (.getfield 13, 3) := dk_180 0 13 (dk_at dksX8_readLawLine_2 10 rfl rfl)
theorem dX8_readLawLine_58 : decode cX8_readLawLine 58 = .ok (.iload_n 2, 1) := dk_28 (dk_at dksX8_readLawLine_2 13 rfl rfl)
theorem dX8_readLawLine_59 : decode cX8_readLawLine 59 = .ok (.iaload, 1) := dk_46 (dk_at dksX8_readLawLine_2 14 rfl rfl)
theorem dX8_readLawLine_60 : decode cX8_readLawLine 60 = .ok (.ifCond .ge 5, 3) := dk_156 0 5 (dk_at dksX8_readLawLine_2 15 rfl rfl)
theorem dX8_readLawLine_63 : decode cX8_readLawLine 63 = .ok (.iconst 0, 1) := dk_3 (dk_at dksX8_readLawLine_2 18 rfl rfl)
theorem dX8_readLawLine_64 : decode cX8_readLawLine 64 = .ok (.ireturn, 1) := dk_172 (dk_at dksX8_readLawLine_2 19 rfl rfl)
theorem dX8_readLawLine_65 : decode cX8_readLawLine 65 = .ok (.aload_n 0, 1) := dk_42 (dk_at dksX8_readLawLine_2 20 rfl rfl)
theorem dX8_readLawLine_66 : decode cX8_readLawLine 66 = .ok (.getfield 13, 3) := dk_180 0 13 (dk_at dksX8_readLawLine_2 21 rfl rfl)
theorem dX8_readLawLine_69 : decode cX8_readLawLine 69 = .ok (.iload_n 2, 1) := dk_28 (dk_at dksX8_readLawLine_3 0 rfl rfl)
theorem dX8_readLawLine_70 : decode cX8_readLawLine 70 = .ok (.iconst 1, 1) := dk_4 (dk_at dksX8_readLawLine_3 1 rfl rfl)
theorem dX8_readLawLine_71 : decode cX8_readLawLine 71 = .ok (.iadd, 1) := dk_96 (dk_at dksX8_readLawLine_3 2 rfl rfl)
theorem dX8_readLawLine_72 : decode cX8_readLawLine 72 = .ok (.aload_n 0, 1) := dk_42 (dk_at dksX8_readLawLine_3 3 rfl rfl)
theorem dX8_readLawLine_73 : decode cX8_readLawLine 73 = .ok (.iconst 0, 1) := dk_3 (dk_at dksX8_readLawLine_3 4 rfl rfl)
theorem dX8_readLawLine_74 : decode cX8_readLawLine 74 = .ok (.bipush 30, 2) := dk_16 30 (dk_at dksX8_readLawLine_3 5 rfl rfl)
theorem dX8_readLawLine_76 : decode cX8_readLawLine 76 = .ok (.invokevirtual 134, 3) := dk_182 0 134 (dk_at dksX8_readLawLine_3 7 rfl rfl)
theorem dX8_readLawLine_79 : decode cX8_readLawLine 79 = .ok (.iastore, 1) := dk_79 (dk_at dksX8_readLawLine_3 10 rfl rfl)
theorem dX8_readLawLine_80 : decode cX8_readLawLine 80 = .ok (.aload_n 0, 1) := dk_42 (dk_at dksX8_readLawLine_3 11 rfl rfl)
theorem dX8_readLawLine_81 : decode cX8_readLawLine 81 = .ok (.getfield 13, 3) := dk_180 0 13 (dk_at dksX8_readLawLine_3 12 rfl rfl)
theorem dX8_readLawLine_84 : decode cX8_readLawLine 84 = .ok (.iload_n 2, 1) := dk_28 (dk_at dksX8_readLawLine_3 15 rfl rfl)
theorem dX8_readLawLine_85 : decode cX8_readLawLine 85 = .ok (.iconst 1, 1) := dk_4 (dk_at dksX8_readLawLine_3 16 rfl rfl)
theorem dX8_readLawLine_86 : decode cX8_readLawLine 86 = .ok (.iadd, 1) := dk_96 (dk_at dksX8_readLawLine_3 17 rfl rfl)
theorem dX8_readLawLine_87 : decode cX8_readLawLine 87 = .ok (.iaload, 1) := dk_46 (dk_at dksX8_readLawLine_3 18 rfl rfl)
theorem dX8_readLawLine_88 : decode cX8_readLawLine 88 = .ok (.ifCond .ge 5, 3) := dk_156 0 5 (dk_at dksX8_readLawLine_3 19 rfl rfl)
theorem dX8_readLawLine_91 : decode cX8_readLawLine 91 = .ok (.iconst 0, 1) := dk_3 (dk_at dksX8_readLawLine_3 22 rfl rfl)
theorem dX8_readLawLine_92 : decode cX8_readLawLine 92 = .ok (.ireturn, 1) := dk_172 (dk_at dksX8_readLawLine_3 23 rfl rfl)
theorem dX8_readLawLine_93 : decode cX8_readLawLine 93 = .ok (.aload_n 0, 1) := dk_42 (dk_at dksX8_readLawLine_4 0 rfl rfl)
theorem dX8_readLawLine_94 : decode cX8_readLawLine 94 = .ok (.getfield 13, 3) := dk_180 0 13 (dk_at dksX8_readLawLine_4 1 rfl rfl)
theorem dX8_readLawLine_97 : decode cX8_readLawLine 97 = .ok (.iload_n 2, 1) := dk_28 (dk_at dksX8_readLawLine_4 4 rfl rfl)
theorem dX8_readLawLine_98 : decode cX8_readLawLine 98 = .ok (.iconst 2, 1) := dk_5 (dk_at dksX8_readLawLine_4 5 rfl rfl)
theorem dX8_readLawLine_99 : decode cX8_readLawLine 99 = .ok (.iadd, 1) := dk_96 (dk_at dksX8_readLawLine_4 6 rfl rfl)
theorem dX8_readLawLine_100 : decode cX8_readLawLine 100 = .ok (.aload_n 0, 1) := dk_42 (dk_at dksX8_readLawLine_4 7 rfl rfl)
theorem dX8_readLawLine_101 : decode cX8_readLawLine 101 = .ok (.getfield 194, 3) := dk_180 0 194 (dk_at dksX8_readLawLine_4 8 rfl rfl)
theorem dX8_readLawLine_104 : decode cX8_readLawLine 104 = .ok (.iastore, 1) := dk_79 (dk_at dksX8_readLawLine_4 11 rfl rfl)
theorem dX8_readLawLine_105 : decode cX8_readLawLine 105 = .ok (.aload_n 0, 1) := dk_42 (dk_at dksX8_readLawLine_4 12 rfl rfl)
theorem dX8_readLawLine_106 : decode cX8_readLawLine 106 = .ok (.iconst 0, 1) := dk_3 (dk_at dksX8_readLawLine_4 13 rfl rfl)
theorem dX8_readLawLine_107 : decode cX8_readLawLine 107 = .ok (.putfield 213, 3) := dk_181 0 213 (dk_at dksX8_readLawLine_4 14 rfl rfl)
theorem dX8_readLawLine_110 : decode cX8_readLawLine 110 = .ok (.aload_n 0, 1) := dk_42 (dk_at dksX8_readLawLine_4 17 rfl rfl)
theorem dX8_readLawLine_111 : decode cX8_readLawLine 111 = .ok (.ldc 243, 2) := dk_18 243 (dk_at dksX8_readLawLine_4 18 rfl rfl)
theorem dX8_readLawLine_113 : decode cX8_readLawLine 113 = .ok (.invokevirtual 157, 3) := dk_182 0 157 (dk_at dksX8_readLawLine_4 20 rfl rfl)
theorem dX8_readLawLine_116 : decode cX8_readLawLine 116 = .ok (.ifCond .eq 12, 3) := dk_153 0 12 (dk_at dksX8_readLawLine_5 0 rfl rfl)
theorem dX8_readLawLine_119 : decode cX8_readLawLine 119 = .ok (.aload_n 0, 1) := dk_42 (dk_at dksX8_readLawLine_5 3 rfl rfl)
theorem dX8_readLawLine_120 : decode cX8_readLawLine 120 = .ok (.invokevirtual 216, 3) := dk_182 0 216 (dk_at dksX8_readLawLine_5 4 rfl rfl)
theorem dX8_readLawLine_123 : decode cX8_readLawLine 123 = .ok (.ifCond .ne 5, 3) := dk_154 0 5 (dk_at dksX8_readLawLine_5 7 rfl rfl)
theorem dX8_readLawLine_126 : decode cX8_readLawLine 126 = .ok (.iconst 0, 1) := dk_3 (dk_at dksX8_readLawLine_5 10 rfl rfl)
theorem dX8_readLawLine_127 : decode cX8_readLawLine 127 = .ok (.ireturn, 1) := dk_172 (dk_at dksX8_readLawLine_5 11 rfl rfl)
theorem dX8_readLawLine_128 : decode cX8_readLawLine 128 = .ok (.aload_n 0, 1) := dk_42 (dk_at dksX8_readLawLine_5 12 rfl rfl)
theorem dX8_readLawLine_129 : decode cX8_readLawLine 129 = .ok (.getfield 13, 3) := dk_180 0 13 (dk_at dksX8_readLawLine_5 13 rfl rfl)
theorem dX8_readLawLine_132 : decode cX8_readLawLine 132 = .ok (.iload_n 2, 1) := dk_28 (dk_at dksX8_readLawLine_5 16 rfl rfl)
theorem dX8_readLawLine_133 : decode cX8_readLawLine 133 = .ok (.iconst 3, 1) := dk_6 (dk_at dksX8_readLawLine_5 17 rfl rfl)
theorem dX8_readLawLine_134 : decode cX8_readLawLine 134 = .ok (.iadd, 1) := dk_96 (dk_at dksX8_readLawLine_5 18 rfl rfl)
theorem dX8_readLawLine_135 : decode cX8_readLawLine 135 = .ok (.aload_n 0, 1) := dk_42 (dk_at dksX8_readLawLine_5 19 rfl rfl)
theorem dX8_readLawLine_136 : decode cX8_readLawLine 136 = .ok (.getfield 194, 3) := dk_180 0 194 (dk_at dksX8_readLawLine_5 20 rfl rfl)
theorem dX8_readLawLine_139 : decode cX8_readLawLine 139 = .ok (.iastore, 1) := dk_79 (dk_at dksX8_readLawLine_5 23 rfl rfl)
theorem dX8_readLawLine_140 : decode cX8_readLawLine 140 = .ok (.iconst 1, 1) := dk_4 (dk_at dksX8_readLawLine_6 0 rfl rfl)
theorem dX8_readLawLine_141 : decode cX8_readLawLine 141 = .ok (.ireturn, 1) := dk_172 (dk_at dksX8_readLawLine_6 1 rfl rfl)
abbrev cX8_readCond : ByteArray := prog_18_method_48_code
def yX8_readCond : MethodName := ⟨RX8, "readCond", "()Z"⟩
def dkwX8_readCond_1 : List UInt8 := [154, 0, 5, 3, 172, 42, 16, 14, 3, 182, 0, 197, 167, 255, 231, 4, 172]
abbrev dktX8_readCond_1 : List UInt8 := dkwX8_readCond_1 ++ []
def dkwX8_readCond_0 : List UInt8 := [42, 182, 0, 232, 154, 0, 5, 3, 172, 42, 18, 235, 182, 0, 157, 153, 0, 22, 42, 182, 0, 232]
abbrev dktX8_readCond_0 : List UInt8 := dkwX8_readCond_0 ++ dktX8_readCond_1
theorem dksX8_readCond_0 : cX8_readCond.data.toList.drop 0 = dktX8_readCond_0 := by decide +kernel
theorem dksX8_readCond_1 : cX8_readCond.data.toList.drop 22 = dktX8_readCond_1 := dk_seg dksX8_readCond_0 22 rfl rfl
theorem dX8_readCond_0 : decode cX8_readCond 0 = .ok (.aload_n 0, 1) := dk_42 (dk_at dksX8_readCond_0 0 rfl rfl)
theorem dX8_readCond_1 : decode cX8_readCond 1 = .ok (.invokevirtual 232, 3) := dk_182 0 232 (dk_at dksX8_readCond_0 1 rfl rfl)
theorem dX8_readCond_4 : decode cX8_readCond 4 = .ok (.ifCond .ne 5, 3) := dk_154 0 5 (dk_at dksX8_readCond_0 4 rfl rfl)
theorem dX8_readCond_7 : decode cX8_readCond 7 = .ok (.iconst 0, 1) := dk_3 (dk_at dksX8_readCond_0 7 rfl rfl)
theorem dX8_readCond_8 : decode cX8_readCond 8 = .ok (.ireturn, 1) := dk_172 (dk_at dksX8_readCond_0 8 rfl rfl)
theorem dX8_readCond_9 : decode cX8_readCond 9 = .ok (.aload_n 0, 1) := dk_42 (dk_at dksX8_readCond_0 9 rfl rfl)
theorem dX8_readCond_10 : decode cX8_readCond 10 = .ok (.ldc 235, 2) := dk_18 235 (dk_at dksX8_readCond_0 10 rfl rfl)
theorem dX8_readCond_12 : decode cX8_readCond 12 = .ok (.invokevirtual 157, 3) := dk_182 0 157 (dk_at dksX8_readCond_0 12 rfl rfl)
theorem dX8_readCond_15 : decode cX8_readCond 15 = .ok (.ifCond .eq 22, 3) := dk_153 0 22 (dk_at dksX8_readCond_0 15 rfl rfl)
theorem dX8_readCond_18 : decode cX8_readCond 18 = .ok (.aload_n 0, 1) := dk_42 (dk_at dksX8_readCond_0 18 rfl rfl)
theorem dX8_readCond_19 : decode cX8_readCond 19 = .ok (.invokevirtual 232, 3) := dk_182 0 232 (dk_at dksX8_readCond_0 19 rfl rfl)
theorem dX8_readCond_22 : decode cX8_readCond 22 = .ok (.ifCond .ne 5, 3) := dk_154 0 5 (dk_at dksX8_readCond_1 0 rfl rfl)
theorem dX8_readCond_25 : decode cX8_readCond 25 = .ok (.iconst 0, 1) := dk_3 (dk_at dksX8_readCond_1 3 rfl rfl)
theorem dX8_readCond_26 : decode cX8_readCond 26 = .ok (.ireturn, 1) := dk_172 (dk_at dksX8_readCond_1 4 rfl rfl)
theorem dX8_readCond_27 : decode cX8_readCond 27 = .ok (.aload_n 0, 1) := dk_42 (dk_at dksX8_readCond_1 5 rfl rfl)
theorem dX8_readCond_28 : decode cX8_readCond 28 = .ok (.bipush 14, 2) := dk_16 14 (dk_at dksX8_readCond_1 6 rfl rfl)
theorem dX8_readCond_30 : decode cX8_readCond 30 = .ok (.iconst 0, 1) := dk_3 (dk_at dksX8_readCond_1 8 rfl rfl)
theorem dX8_readCond_31 : decode cX8_readCond 31 = .ok (.invokevirtual 197, 3) := dk_182 0 197 (dk_at dksX8_readCond_1 9 rfl rfl)
theorem dX8_readCond_34 : decode cX8_readCond 34 = .ok (.goto (-25), 3) := dk_167 255 231 (dk_at dksX8_readCond_1 12 rfl rfl)
theorem dX8_readCond_37 : decode cX8_readCond 37 = .ok (.iconst 1, 1) := dk_4 (dk_at dksX8_readCond_1 15 rfl rfl)
theorem dX8_readCond_38 : decode cX8_readCond 38 = .ok (.ireturn, 1) := dk_172 (dk_at dksX8_readCond_1 16 rfl rfl)
abbrev cX8_readAllOf : ByteArray := prog_18_method_47_code
def yX8_readAllOf : MethodName := ⟨RX8, "readAllOf", "()Z"⟩
def dkwX8_readAllOf_1 : List UInt8 := [154, 0, 5, 3, 172, 42, 16, 13, 3, 182, 0, 197, 167, 255, 231, 4, 172]
abbrev dktX8_readAllOf_1 : List UInt8 := dkwX8_readAllOf_1 ++ []
def dkwX8_readAllOf_0 : List UInt8 := [42, 182, 0, 221, 154, 0, 5, 3, 172, 42, 18, 230, 182, 0, 157, 153, 0, 22, 42, 182, 0, 221]
abbrev dktX8_readAllOf_0 : List UInt8 := dkwX8_readAllOf_0 ++ dktX8_readAllOf_1
theorem dksX8_readAllOf_0 : cX8_readAllOf.data.toList.drop 0 = dktX8_readAllOf_0 := by decide +kernel
theorem dksX8_readAllOf_1 : cX8_readAllOf.data.toList.drop 22 = dktX8_readAllOf_1 := dk_seg dksX8_readAllOf_0 22 rfl rfl
theorem dX8_readAllOf_0 : decode cX8_readAllOf 0 = .ok (.aload_n 0, 1) := dk_42 (dk_at dksX8_readAllOf_0 0 rfl rfl)
theorem dX8_readAllOf_1 : decode cX8_readAllOf 1 = .ok (.invokevirtual 221, 3) := dk_182 0 221 (dk_at dksX8_readAllOf_0 1 rfl rfl)
theorem dX8_readAllOf_4 : decode cX8_readAllOf 4 = .ok (.ifCond .ne 5, 3) := dk_154 0 5 (dk_at dksX8_readAllOf_0 4 rfl rfl)
theorem dX8_readAllOf_7 : decode cX8_readAllOf 7 = .ok (.iconst 0, 1) := dk_3 (dk_at dksX8_readAllOf_0 7 rfl rfl)
theorem dX8_readAllOf_8 : decode cX8_readAllOf 8 = .ok (.ireturn, 1) := dk_172 (dk_at dksX8_readAllOf_0 8 rfl rfl)
theorem dX8_readAllOf_9 : decode cX8_readAllOf 9 = .ok (.aload_n 0, 1) := dk_42 (dk_at dksX8_readAllOf_0 9 rfl rfl)
theorem dX8_readAllOf_10 : decode cX8_readAllOf 10 = .ok (.ldc 230, 2) := dk_18 230 (dk_at dksX8_readAllOf_0 10 rfl rfl)
theorem dX8_readAllOf_12 : decode cX8_readAllOf 12 = .ok (.invokevirtual 157, 3) := dk_182 0 157 (dk_at dksX8_readAllOf_0 12 rfl rfl)
theorem dX8_readAllOf_15 : decode cX8_readAllOf 15 = .ok (.ifCond .eq 22, 3) := dk_153 0 22 (dk_at dksX8_readAllOf_0 15 rfl rfl)
theorem dX8_readAllOf_18 : decode cX8_readAllOf 18 = .ok (.aload_n 0, 1) := dk_42 (dk_at dksX8_readAllOf_0 18 rfl rfl)
theorem dX8_readAllOf_19 : decode cX8_readAllOf 19 = .ok (.invokevirtual 221, 3) := dk_182 0 221 (dk_at dksX8_readAllOf_0 19 rfl rfl)
theorem dX8_readAllOf_22 : decode cX8_readAllOf 22 = .ok (.ifCond .ne 5, 3) := dk_154 0 5 (dk_at dksX8_readAllOf_1 0 rfl rfl)
theorem dX8_readAllOf_25 : decode cX8_readAllOf 25 = .ok (.iconst 0, 1) := dk_3 (dk_at dksX8_readAllOf_1 3 rfl rfl)
theorem dX8_readAllOf_26 : decode cX8_readAllOf 26 = .ok (.ireturn, 1) := dk_172 (dk_at dksX8_readAllOf_1 4 rfl rfl)
theorem dX8_readAllOf_27 : decode cX8_readAllOf 27 = .ok (.aload_n 0, 1) := dk_42 (dk_at dksX8_readAllOf_1 5 rfl rfl)
theorem dX8_readAllOf_28 : decode cX8_readAllOf 28 = .ok (.bipush 13, 2) := dk_16 13 (dk_at dksX8_readAllOf_1 6 rfl rfl)
theorem dX8_readAllOf_30 : decode cX8_readAllOf 30 = .ok (.iconst 0, 1) := dk_3 (dk_at dksX8_readAllOf_1 8 rfl rfl)
theorem dX8_readAllOf_31 : decode cX8_readAllOf 31 = .ok (.invokevirtual 197, 3) := dk_182 0 197 (dk_at dksX8_readAllOf_1 9 rfl rfl)
theorem dX8_readAllOf_34 : decode cX8_readAllOf 34 = .ok (.goto (-25), 3) := dk_167 255 231 (dk_at dksX8_readAllOf_1 12 rfl rfl)
theorem dX8_readAllOf_37 : decode cX8_readAllOf 37 = .ok (.iconst 1, 1) := dk_4 (dk_at dksX8_readAllOf_1 15 rfl rfl)
theorem dX8_readAllOf_38 : decode cX8_readAllOf 38 = .ok (.ireturn, 1) := dk_172 (dk_at dksX8_readAllOf_1 16 rfl rfl)
abbrev cX8_readAtom : ByteArray := prog_18_method_46_code
def yX8_readAtom : MethodName := ⟨RX8, "readAtom", "()Z"⟩
def dkwX8_readAtom_7 : List UInt8 := [153, 0, 8, 16, 10, 167, 0, 5, 16, 11, 3, 182, 0, 197, 4, 172]
abbrev dktX8_readAtom_7 : List UInt8 := dkwX8_readAtom_7 ++ []
def dkwX8_readAtom_6 : List UInt8 := [27, 154, 0, 12, 42, 16, 62, 182, 0, 208, 153, 0, 10, 42, 182, 0, 227, 154, 0, 5, 3, 172, 42, 27]
abbrev dktX8_readAtom_6 : List UInt8 := dkwX8_readAtom_6 ++ dktX8_readAtom_7
def dkwX8_readAtom_5 : List UInt8 := [182, 0, 224, 153, 0, 5, 4, 172, 42, 182, 0, 227, 154, 0, 5, 3, 172, 42, 16, 60, 182, 0, 208, 60]
abbrev dktX8_readAtom_5 : List UInt8 := dkwX8_readAtom_5 ++ dktX8_readAtom_6
def dkwX8_readAtom_4 : List UInt8 := [3, 172, 42, 89, 180, 0, 213, 4, 100, 181, 0, 213, 42, 16, 12, 3, 182, 0, 197, 4, 172, 42]
abbrev dktX8_readAtom_4 : List UInt8 := dkwX8_readAtom_4 ++ dktX8_readAtom_5
def dkwX8_readAtom_3 : List UInt8 := [16, 6, 160, 0, 5, 3, 172, 42, 89, 180, 0, 213, 4, 96, 181, 0, 213, 42, 182, 0, 221, 154, 0, 5]
abbrev dktX8_readAtom_3 : List UInt8 := dkwX8_readAtom_3 ++ dktX8_readAtom_4
def dkwX8_readAtom_2 : List UInt8 := [181, 0, 213, 42, 16, 41, 182, 0, 208, 172, 42, 18, 219, 182, 0, 157, 153, 0, 52, 42, 180, 0, 213]
abbrev dktX8_readAtom_2 : List UInt8 := dkwX8_readAtom_2 ++ dktX8_readAtom_3
def dkwX8_readAtom_1 : List UInt8 := [180, 0, 213, 4, 96, 181, 0, 213, 42, 182, 0, 216, 154, 0, 5, 3, 172, 42, 89, 180, 0, 213, 4, 100]
abbrev dktX8_readAtom_1 : List UInt8 := dkwX8_readAtom_1 ++ dktX8_readAtom_2
def dkwX8_readAtom_0 : List UInt8 := [42, 16, 40, 182, 0, 208, 153, 0, 50, 42, 180, 0, 213, 16, 6, 160, 0, 5, 3, 172, 42, 89]
abbrev dktX8_readAtom_0 : List UInt8 := dkwX8_readAtom_0 ++ dktX8_readAtom_1
theorem dksX8_readAtom_0 : cX8_readAtom.data.toList.drop 0 = dktX8_readAtom_0 := by decide +kernel
theorem dksX8_readAtom_1 : cX8_readAtom.data.toList.drop 22 = dktX8_readAtom_1 := dk_seg dksX8_readAtom_0 22 rfl rfl
theorem dksX8_readAtom_2 : cX8_readAtom.data.toList.drop 46 = dktX8_readAtom_2 := dk_seg dksX8_readAtom_1 24 rfl rfl
theorem dksX8_readAtom_3 : cX8_readAtom.data.toList.drop 69 = dktX8_readAtom_3 := dk_seg dksX8_readAtom_2 23 rfl rfl
theorem dksX8_readAtom_4 : cX8_readAtom.data.toList.drop 93 = dktX8_readAtom_4 := dk_seg dksX8_readAtom_3 24 rfl rfl
theorem dksX8_readAtom_5 : cX8_readAtom.data.toList.drop 115 = dktX8_readAtom_5 := dk_seg dksX8_readAtom_4 22 rfl rfl
theorem dksX8_readAtom_6 : cX8_readAtom.data.toList.drop 139 = dktX8_readAtom_6 := dk_seg dksX8_readAtom_5 24 rfl rfl
theorem dksX8_readAtom_7 : cX8_readAtom.data.toList.drop 163 = dktX8_readAtom_7 := dk_seg dksX8_readAtom_6 24 rfl rfl
theorem dX8_readAtom_0 : decode cX8_readAtom 0 = .ok (.aload_n 0, 1) := dk_42 (dk_at dksX8_readAtom_0 0 rfl rfl)
theorem dX8_readAtom_1 : decode cX8_readAtom 1 = .ok (.bipush 40, 2) := dk_16 40 (dk_at dksX8_readAtom_0 1 rfl rfl)
theorem dX8_readAtom_3 : decode cX8_readAtom 3 = .ok (.invokevirtual 208, 3) := dk_182 0 208 (dk_at dksX8_readAtom_0 3 rfl rfl)
theorem dX8_readAtom_6 : decode cX8_readAtom 6 = .ok (.ifCond .eq 50, 3) := dk_153 0 50 (dk_at dksX8_readAtom_0 6 rfl rfl)
theorem dX8_readAtom_9 : decode cX8_readAtom 9 = .ok (.aload_n 0, 1) := dk_42 (dk_at dksX8_readAtom_0 9 rfl rfl)
theorem dX8_readAtom_10 : decode cX8_readAtom 10 = .ok (.getfield 213, 3) := dk_180 0 213 (dk_at dksX8_readAtom_0 10 rfl rfl)
theorem dX8_readAtom_13 : decode cX8_readAtom 13 = .ok (.bipush 6, 2) := dk_16 6 (dk_at dksX8_readAtom_0 13 rfl rfl)
theorem dX8_readAtom_15 : decode cX8_readAtom 15 = .ok (.if_icmp .ne 5, 3) := dk_160 0 5 (dk_at dksX8_readAtom_0 15 rfl rfl)
theorem dX8_readAtom_18 : decode cX8_readAtom 18 = .ok (.iconst 0, 1) := dk_3 (dk_at dksX8_readAtom_0 18 rfl rfl)
theorem dX8_readAtom_19 : decode cX8_readAtom 19 = .ok (.ireturn, 1) := dk_172 (dk_at dksX8_readAtom_0 19 rfl rfl)
theorem dX8_readAtom_20 : decode cX8_readAtom 20 = .ok (.aload_n 0, 1) := dk_42 (dk_at dksX8_readAtom_0 20 rfl rfl)
theorem dX8_readAtom_21 : decode cX8_readAtom 21 = .ok (.dup, 1) := dk_89 (dk_at dksX8_readAtom_0 21 rfl rfl)
theorem dX8_readAtom_22 : decode cX8_readAtom 22 = .ok (.getfield 213, 3) := dk_180 0 213 (dk_at dksX8_readAtom_1 0 rfl rfl)
theorem dX8_readAtom_25 : decode cX8_readAtom 25 = .ok (.iconst 1, 1) := dk_4 (dk_at dksX8_readAtom_1 3 rfl rfl)
theorem dX8_readAtom_26 : decode cX8_readAtom 26 = .ok (.iadd, 1) := dk_96 (dk_at dksX8_readAtom_1 4 rfl rfl)
theorem dX8_readAtom_27 : decode cX8_readAtom 27 = .ok (.putfield 213, 3) := dk_181 0 213 (dk_at dksX8_readAtom_1 5 rfl rfl)
theorem dX8_readAtom_30 : decode cX8_readAtom 30 = .ok (.aload_n 0, 1) := dk_42 (dk_at dksX8_readAtom_1 8 rfl rfl)
theorem dX8_readAtom_31 : decode cX8_readAtom 31 = .ok (.invokevirtual 216, 3) := dk_182 0 216 (dk_at dksX8_readAtom_1 9 rfl rfl)
theorem dX8_readAtom_34 : decode cX8_readAtom 34 = .ok (.ifCond .ne 5, 3) := dk_154 0 5 (dk_at dksX8_readAtom_1 12 rfl rfl)
theorem dX8_readAtom_37 : decode cX8_readAtom 37 = .ok (.iconst 0, 1) := dk_3 (dk_at dksX8_readAtom_1 15 rfl rfl)
theorem dX8_readAtom_38 : decode cX8_readAtom 38 = .ok (.ireturn, 1) := dk_172 (dk_at dksX8_readAtom_1 16 rfl rfl)
theorem dX8_readAtom_39 : decode cX8_readAtom 39 = .ok (.aload_n 0, 1) := dk_42 (dk_at dksX8_readAtom_1 17 rfl rfl)
theorem dX8_readAtom_40 : decode cX8_readAtom 40 = .ok (.dup, 1) := dk_89 (dk_at dksX8_readAtom_1 18 rfl rfl)
theorem dX8_readAtom_41 : decode cX8_readAtom 41 = .ok (.getfield 213, 3) := dk_180 0 213 (dk_at dksX8_readAtom_1 19 rfl rfl)
theorem dX8_readAtom_44 : decode cX8_readAtom 44 = .ok (.iconst 1, 1) := dk_4 (dk_at dksX8_readAtom_1 22 rfl rfl)
theorem dX8_readAtom_45 : decode cX8_readAtom 45 = .ok (.isub, 1) := dk_100 (dk_at dksX8_readAtom_1 23 rfl rfl)
theorem dX8_readAtom_46 : decode cX8_readAtom 46 = .ok (.putfield 213, 3) := dk_181 0 213 (dk_at dksX8_readAtom_2 0 rfl rfl)
theorem dX8_readAtom_49 : decode cX8_readAtom 49 = .ok (.aload_n 0, 1) := dk_42 (dk_at dksX8_readAtom_2 3 rfl rfl)
theorem dX8_readAtom_50 : decode cX8_readAtom 50 = .ok (.bipush 41, 2) := dk_16 41 (dk_at dksX8_readAtom_2 4 rfl rfl)
theorem dX8_readAtom_52 : decode cX8_readAtom 52 = .ok (.invokevirtual 208, 3) := dk_182 0 208 (dk_at dksX8_readAtom_2 6 rfl rfl)
theorem dX8_readAtom_55 : decode cX8_readAtom 55 = .ok (.ireturn, 1) := dk_172 (dk_at dksX8_readAtom_2 9 rfl rfl)
theorem dX8_readAtom_56 : decode cX8_readAtom 56 = .ok (.aload_n 0, 1) := dk_42 (dk_at dksX8_readAtom_2 10 rfl rfl)
theorem dX8_readAtom_57 : decode cX8_readAtom 57 = .ok (.ldc 219, 2) := dk_18 219 (dk_at dksX8_readAtom_2 11 rfl rfl)
theorem dX8_readAtom_59 : decode cX8_readAtom 59 = .ok (.invokevirtual 157, 3) := dk_182 0 157 (dk_at dksX8_readAtom_2 13 rfl rfl)
theorem dX8_readAtom_62 : decode cX8_readAtom 62 = .ok (.ifCond .eq 52, 3) := dk_153 0 52 (dk_at dksX8_readAtom_2 16 rfl rfl)
theorem dX8_readAtom_65 : decode cX8_readAtom 65 = .ok (.aload_n 0, 1) := dk_42 (dk_at dksX8_readAtom_2 19 rfl rfl)
theorem dX8_readAtom_66 : decode cX8_readAtom 66 = .ok (.getfield 213, 3) := dk_180 0 213 (dk_at dksX8_readAtom_2 20 rfl rfl)
theorem dX8_readAtom_69 : decode cX8_readAtom 69 = .ok (.bipush 6, 2) := dk_16 6 (dk_at dksX8_readAtom_3 0 rfl rfl)
theorem dX8_readAtom_71 : decode cX8_readAtom 71 = .ok (.if_icmp .ne 5, 3) := dk_160 0 5 (dk_at dksX8_readAtom_3 2 rfl rfl)
theorem dX8_readAtom_74 : decode cX8_readAtom 74 = .ok (.iconst 0, 1) := dk_3 (dk_at dksX8_readAtom_3 5 rfl rfl)
theorem dX8_readAtom_75 : decode cX8_readAtom 75 = .ok (.ireturn, 1) := dk_172 (dk_at dksX8_readAtom_3 6 rfl rfl)
theorem dX8_readAtom_76 : decode cX8_readAtom 76 = .ok (.aload_n 0, 1) := dk_42 (dk_at dksX8_readAtom_3 7 rfl rfl)
theorem dX8_readAtom_77 : decode cX8_readAtom 77 = .ok (.dup, 1) := dk_89 (dk_at dksX8_readAtom_3 8 rfl rfl)
theorem dX8_readAtom_78 : decode cX8_readAtom 78 = .ok (.getfield 213, 3) := dk_180 0 213 (dk_at dksX8_readAtom_3 9 rfl rfl)
theorem dX8_readAtom_81 : decode cX8_readAtom 81 = .ok (.iconst 1, 1) := dk_4 (dk_at dksX8_readAtom_3 12 rfl rfl)
theorem dX8_readAtom_82 : decode cX8_readAtom 82 = .ok (.iadd, 1) := dk_96 (dk_at dksX8_readAtom_3 13 rfl rfl)
theorem dX8_readAtom_83 : decode cX8_readAtom 83 = .ok (.putfield 213, 3) := dk_181 0 213 (dk_at dksX8_readAtom_3 14 rfl rfl)
theorem dX8_readAtom_86 : decode cX8_readAtom 86 = .ok (.aload_n 0, 1) := dk_42 (dk_at dksX8_readAtom_3 17 rfl rfl)
theorem dX8_readAtom_87 : decode cX8_readAtom 87 = .ok (.invokevirtual 221, 3) := dk_182 0 221 (dk_at dksX8_readAtom_3 18 rfl rfl)
theorem dX8_readAtom_90 : decode cX8_readAtom 90 = .ok (.ifCond .ne 5, 3) := dk_154 0 5 (dk_at dksX8_readAtom_3 21 rfl rfl)
theorem dX8_readAtom_93 : decode cX8_readAtom 93 = .ok (.iconst 0, 1) := dk_3 (dk_at dksX8_readAtom_4 0 rfl rfl)
theorem dX8_readAtom_94 : decode cX8_readAtom 94 = .ok (.ireturn, 1) := dk_172 (dk_at dksX8_readAtom_4 1 rfl rfl)
theorem dX8_readAtom_95 : decode cX8_readAtom 95 = .ok (.aload_n 0, 1) := dk_42 (dk_at dksX8_readAtom_4 2 rfl rfl)
theorem dX8_readAtom_96 : decode cX8_readAtom 96 = .ok (.dup, 1) := dk_89 (dk_at dksX8_readAtom_4 3 rfl rfl)
theorem dX8_readAtom_97 : decode cX8_readAtom 97 = .ok (.getfield 213, 3) := dk_180 0 213 (dk_at dksX8_readAtom_4 4 rfl rfl)
theorem dX8_readAtom_100 : decode cX8_readAtom 100 = .ok (.iconst 1, 1) := dk_4 (dk_at dksX8_readAtom_4 7 rfl rfl)
theorem dX8_readAtom_101 : decode cX8_readAtom 101 = .ok (.isub, 1) := dk_100 (dk_at dksX8_readAtom_4 8 rfl rfl)
theorem dX8_readAtom_102 : decode cX8_readAtom 102 = .ok (.putfield 213, 3) := dk_181 0 213 (dk_at dksX8_readAtom_4 9 rfl rfl)
theorem dX8_readAtom_105 : decode cX8_readAtom 105 = .ok (.aload_n 0, 1) := dk_42 (dk_at dksX8_readAtom_4 12 rfl rfl)
theorem dX8_readAtom_106 : decode cX8_readAtom 106 = .ok (.bipush 12, 2) := dk_16 12 (dk_at dksX8_readAtom_4 13 rfl rfl)
theorem dX8_readAtom_108 : decode cX8_readAtom 108 = .ok (.iconst 0, 1) := dk_3 (dk_at dksX8_readAtom_4 15 rfl rfl)
theorem dX8_readAtom_109 : decode cX8_readAtom 109 = .ok (.invokevirtual 197, 3) := dk_182 0 197 (dk_at dksX8_readAtom_4 16 rfl rfl)
theorem dX8_readAtom_112 : decode cX8_readAtom 112 = .ok (.iconst 1, 1) := dk_4 (dk_at dksX8_readAtom_4 19 rfl rfl)
theorem dX8_readAtom_113 : decode cX8_readAtom 113 = .ok (.ireturn, 1) := dk_172 (dk_at dksX8_readAtom_4 20 rfl rfl)
theorem dX8_readAtom_114 : decode cX8_readAtom 114 = .ok (.aload_n 0, 1) := dk_42 (dk_at dksX8_readAtom_4 21 rfl rfl)
theorem dX8_readAtom_115 : decode cX8_readAtom 115 = .ok (.invokevirtual 224, 3) := dk_182 0 224 (dk_at dksX8_readAtom_5 0 rfl rfl)
theorem dX8_readAtom_118 : decode cX8_readAtom 118 = .ok (.ifCond .eq 5, 3) := dk_153 0 5 (dk_at dksX8_readAtom_5 3 rfl rfl)
theorem dX8_readAtom_121 : decode cX8_readAtom 121 = .ok (.iconst 1, 1) := dk_4 (dk_at dksX8_readAtom_5 6 rfl rfl)
theorem dX8_readAtom_122 : decode cX8_readAtom 122 = .ok (.ireturn, 1) := dk_172 (dk_at dksX8_readAtom_5 7 rfl rfl)
theorem dX8_readAtom_123 : decode cX8_readAtom 123 = .ok (.aload_n 0, 1) := dk_42 (dk_at dksX8_readAtom_5 8 rfl rfl)
theorem dX8_readAtom_124 : decode cX8_readAtom 124 = .ok (.invokevirtual 227, 3) := dk_182 0 227 (dk_at dksX8_readAtom_5 9 rfl rfl)
theorem dX8_readAtom_127 : decode cX8_readAtom 127 = .ok (.ifCond .ne 5, 3) := dk_154 0 5 (dk_at dksX8_readAtom_5 12 rfl rfl)
theorem dX8_readAtom_130 : decode cX8_readAtom 130 = .ok (.iconst 0, 1) := dk_3 (dk_at dksX8_readAtom_5 15 rfl rfl)
theorem dX8_readAtom_131 : decode cX8_readAtom 131 = .ok (.ireturn, 1) := dk_172 (dk_at dksX8_readAtom_5 16 rfl rfl)
theorem dX8_readAtom_132 : decode cX8_readAtom 132 = .ok (.aload_n 0, 1) := dk_42 (dk_at dksX8_readAtom_5 17 rfl rfl)
theorem dX8_readAtom_133 : decode cX8_readAtom 133 = .ok (.bipush 60, 2) := dk_16 60 (dk_at dksX8_readAtom_5 18 rfl rfl)
theorem dX8_readAtom_135 : decode cX8_readAtom 135 = .ok (.invokevirtual 208, 3) := dk_182 0 208 (dk_at dksX8_readAtom_5 20 rfl rfl)
theorem dX8_readAtom_138 : decode cX8_readAtom 138 = .ok (.istore_n 1, 1) := dk_60 (dk_at dksX8_readAtom_5 23 rfl rfl)
theorem dX8_readAtom_139 : decode cX8_readAtom 139 = .ok (.iload_n 1, 1) := dk_27 (dk_at dksX8_readAtom_6 0 rfl rfl)
theorem dX8_readAtom_140 : decode cX8_readAtom 140 = .ok (.ifCond .ne 12, 3) := dk_154 0 12 (dk_at dksX8_readAtom_6 1 rfl rfl)
theorem dX8_readAtom_143 : decode cX8_readAtom 143 = .ok (.aload_n 0, 1) := dk_42 (dk_at dksX8_readAtom_6 4 rfl rfl)
theorem dX8_readAtom_144 : decode cX8_readAtom 144 = .ok (.bipush 62, 2) := dk_16 62 (dk_at dksX8_readAtom_6 5 rfl rfl)
theorem dX8_readAtom_146 : decode cX8_readAtom 146 = .ok (.invokevirtual 208, 3) := dk_182 0 208 (dk_at dksX8_readAtom_6 7 rfl rfl)
theorem dX8_readAtom_149 : decode cX8_readAtom 149 = .ok (.ifCond .eq 10, 3) := dk_153 0 10 (dk_at dksX8_readAtom_6 10 rfl rfl)
theorem dX8_readAtom_152 : decode cX8_readAtom 152 = .ok (.aload_n 0, 1) := dk_42 (dk_at dksX8_readAtom_6 13 rfl rfl)
theorem dX8_readAtom_153 : decode cX8_readAtom 153 = .ok (.invokevirtual 227, 3) := dk_182 0 227 (dk_at dksX8_readAtom_6 14 rfl rfl)
theorem dX8_readAtom_156 : decode cX8_readAtom 156 = .ok (.ifCond .ne 5, 3) := dk_154 0 5 (dk_at dksX8_readAtom_6 17 rfl rfl)
theorem dX8_readAtom_159 : decode cX8_readAtom 159 = .ok (.iconst 0, 1) := dk_3 (dk_at dksX8_readAtom_6 20 rfl rfl)
theorem dX8_readAtom_160 : decode cX8_readAtom 160 = .ok (.ireturn, 1) := dk_172 (dk_at dksX8_readAtom_6 21 rfl rfl)
theorem dX8_readAtom_161 : decode cX8_readAtom 161 = .ok (.aload_n 0, 1) := dk_42 (dk_at dksX8_readAtom_6 22 rfl rfl)
theorem dX8_readAtom_162 : decode cX8_readAtom 162 = .ok (.iload_n 1, 1) := dk_27 (dk_at dksX8_readAtom_6 23 rfl rfl)
theorem dX8_readAtom_163 : decode cX8_readAtom 163 = .ok (.ifCond .eq 8, 3) := dk_153 0 8 (dk_at dksX8_readAtom_7 0 rfl rfl)
theorem dX8_readAtom_166 : decode cX8_readAtom 166 = .ok (.bipush 10, 2) := dk_16 10 (dk_at dksX8_readAtom_7 3 rfl rfl)
theorem dX8_readAtom_168 : decode cX8_readAtom 168 = .ok (.goto 5, 3) := dk_167 0 5 (dk_at dksX8_readAtom_7 5 rfl rfl)
theorem dX8_readAtom_171 : decode cX8_readAtom 171 = .ok (.bipush 11, 2) := dk_16 11 (dk_at dksX8_readAtom_7 8 rfl rfl)
theorem dX8_readAtom_173 : decode cX8_readAtom 173 = .ok (.iconst 0, 1) := dk_3 (dk_at dksX8_readAtom_7 10 rfl rfl)
theorem dX8_readAtom_174 : decode cX8_readAtom 174 = .ok (.invokevirtual 197, 3) := dk_182 0 197 (dk_at dksX8_readAtom_7 11 rfl rfl)
theorem dX8_readAtom_177 : decode cX8_readAtom 177 = .ok (.iconst 1, 1) := dk_4 (dk_at dksX8_readAtom_7 14 rfl rfl)
theorem dX8_readAtom_178 : decode cX8_readAtom 178 = .ok (.ireturn, 1) := dk_172 (dk_at dksX8_readAtom_7 15 rfl rfl)
abbrev cX8_sign : ByteArray := prog_18_method_32_code
def yX8_sign : MethodName := ⟨RX8, "sign", "(I)Z"⟩
def dkwX8_sign_1 : List UInt8 := [181, 0, 102, 4, 172]
abbrev dktX8_sign_1 : List UInt8 := dkwX8_sign_1 ++ []
def dkwX8_sign_0 : List UInt8 := [42, 182, 0, 115, 42, 27, 27, 182, 0, 108, 154, 0, 5, 3, 172, 42, 89, 180, 0, 102, 4, 96]
abbrev dktX8_sign_0 : List UInt8 := dkwX8_sign_0 ++ dktX8_sign_1
theorem dksX8_sign_0 : cX8_sign.data.toList.drop 0 = dktX8_sign_0 := by decide +kernel
theorem dksX8_sign_1 : cX8_sign.data.toList.drop 22 = dktX8_sign_1 := dk_seg dksX8_sign_0 22 rfl rfl
theorem dX8_sign_0 : decode cX8_sign 0 = .ok (.aload_n 0, 1) := dk_42 (dk_at dksX8_sign_0 0 rfl rfl)
theorem dX8_sign_1 : decode cX8_sign 1 = .ok (.invokevirtual 115, 3) := dk_182 0 115 (dk_at dksX8_sign_0 1 rfl rfl)
theorem dX8_sign_4 : decode cX8_sign 4 = .ok (.aload_n 0, 1) := dk_42 (dk_at dksX8_sign_0 4 rfl rfl)
theorem dX8_sign_5 : decode cX8_sign 5 = .ok (.iload_n 1, 1) := dk_27 (dk_at dksX8_sign_0 5 rfl rfl)
theorem dX8_sign_6 : decode cX8_sign 6 = .ok (.iload_n 1, 1) := dk_27 (dk_at dksX8_sign_0 6 rfl rfl)
theorem dX8_sign_7 : decode cX8_sign 7 = .ok (.invokevirtual 108, 3) := dk_182 0 108 (dk_at dksX8_sign_0 7 rfl rfl)
theorem dX8_sign_10 : decode cX8_sign 10 = .ok (.ifCond .ne 5, 3) := dk_154 0 5 (dk_at dksX8_sign_0 10 rfl rfl)
theorem dX8_sign_13 : decode cX8_sign 13 = .ok (.iconst 0, 1) := dk_3 (dk_at dksX8_sign_0 13 rfl rfl)
theorem dX8_sign_14 : decode cX8_sign 14 = .ok (.ireturn, 1) := dk_172 (dk_at dksX8_sign_0 14 rfl rfl)
theorem dX8_sign_15 : decode cX8_sign 15 = .ok (.aload_n 0, 1) := dk_42 (dk_at dksX8_sign_0 15 rfl rfl)
theorem dX8_sign_16 : decode cX8_sign 16 = .ok (.dup, 1) := dk_89 (dk_at dksX8_sign_0 16 rfl rfl)
theorem dX8_sign_17 : decode cX8_sign 17 = .ok (.getfield 102, 3) := dk_180 0 102 (dk_at dksX8_sign_0 17 rfl rfl)
theorem dX8_sign_20 : decode cX8_sign 20 = .ok (.iconst 1, 1) := dk_4 (dk_at dksX8_sign_0 20 rfl rfl)
theorem dX8_sign_21 : decode cX8_sign 21 = .ok (.iadd, 1) := dk_96 (dk_at dksX8_sign_0 21 rfl rfl)
theorem dX8_sign_22 : decode cX8_sign 22 = .ok (.putfield 102, 3) := dk_181 0 102 (dk_at dksX8_sign_1 0 rfl rfl)
theorem dX8_sign_25 : decode cX8_sign 25 = .ok (.iconst 1, 1) := dk_4 (dk_at dksX8_sign_1 3 rfl rfl)
theorem dX8_sign_26 : decode cX8_sign 26 = .ok (.ireturn, 1) := dk_172 (dk_at dksX8_sign_1 4 rfl rfl)
abbrev cX8_emits : ByteArray := prog_18_method_42_code
def yX8_emits : MethodName := ⟨RX8, "emits", "(II)V"⟩
def dkwX8_emits_1 : List UInt8 := [42, 180, 0, 194, 104, 96, 4, 96, 28, 79, 42, 89, 180, 0, 194, 4, 96, 181, 0, 194, 177]
abbrev dktX8_emits_1 : List UInt8 := dkwX8_emits_1 ++ []
def dkwX8_emits_0 : List UInt8 := [42, 180, 0, 13, 17, 4, 179, 5, 42, 180, 0, 194, 104, 96, 27, 79, 42, 180, 0, 13, 17, 4, 179, 5]
abbrev dktX8_emits_0 : List UInt8 := dkwX8_emits_0 ++ dktX8_emits_1
theorem dksX8_emits_0 : cX8_emits.data.toList.drop 0 = dktX8_emits_0 := by decide +kernel
theorem dksX8_emits_1 : cX8_emits.data.toList.drop 24 = dktX8_emits_1 := dk_seg dksX8_emits_0 24 rfl rfl
theorem dX8_emits_0 : decode cX8_emits 0 = .ok (.aload_n 0, 1) := dk_42 (dk_at dksX8_emits_0 0 rfl rfl)
theorem dX8_emits_1 : decode cX8_emits 1 = .ok (.getfield 13, 3) := dk_180 0 13 (dk_at dksX8_emits_0 1 rfl rfl)
theorem dX8_emits_4 : decode cX8_emits 4 = .ok (.sipush 1203, 3) := dk_17 4 179 (dk_at dksX8_emits_0 4 rfl rfl)
theorem dX8_emits_7 : decode cX8_emits 7 = .ok (.iconst 2, 1) := dk_5 (dk_at dksX8_emits_0 7 rfl rfl)
theorem dX8_emits_8 : decode cX8_emits 8 = .ok (.aload_n 0, 1) := dk_42 (dk_at dksX8_emits_0 8 rfl rfl)
theorem dX8_emits_9 : decode cX8_emits 9 = .ok (.getfield 194, 3) := dk_180 0 194 (dk_at dksX8_emits_0 9 rfl rfl)
theorem dX8_emits_12 : decode cX8_emits 12 = .ok (.imul, 1) := dk_104 (dk_at dksX8_emits_0 12 rfl rfl)
theorem dX8_emits_13 : decode cX8_emits 13 = .ok (.iadd, 1) := dk_96 (dk_at dksX8_emits_0 13 rfl rfl)
theorem dX8_emits_14 : decode cX8_emits 14 = .ok (.iload_n 1, 1) := dk_27 (dk_at dksX8_emits_0 14 rfl rfl)
theorem dX8_emits_15 : decode cX8_emits 15 = .ok (.iastore, 1) := dk_79 (dk_at dksX8_emits_0 15 rfl rfl)
theorem dX8_emits_16 : decode cX8_emits 16 = .ok (.aload_n 0, 1) := dk_42 (dk_at dksX8_emits_0 16 rfl rfl)
theorem dX8_emits_17 : decode cX8_emits 17 = .ok (.getfield 13, 3) := dk_180 0 13 (dk_at dksX8_emits_0 17 rfl rfl)
theorem dX8_emits_20 : decode cX8_emits 20 = .ok (.sipush 1203, 3) := dk_17 4 179 (dk_at dksX8_emits_0 20 rfl rfl)
theorem dX8_emits_23 : decode cX8_emits 23 = .ok (.iconst 2, 1) := dk_5 (dk_at dksX8_emits_0 23 rfl rfl)
theorem dX8_emits_24 : decode cX8_emits 24 = .ok (.aload_n 0, 1) := dk_42 (dk_at dksX8_emits_1 0 rfl rfl)
theorem dX8_emits_25 : decode cX8_emits 25 = .ok (.getfield 194, 3) := dk_180 0 194 (dk_at dksX8_emits_1 1 rfl rfl)
theorem dX8_emits_28 : decode cX8_emits 28 = .ok (.imul, 1) := dk_104 (dk_at dksX8_emits_1 4 rfl rfl)
theorem dX8_emits_29 : decode cX8_emits 29 = .ok (.iadd, 1) := dk_96 (dk_at dksX8_emits_1 5 rfl rfl)
theorem dX8_emits_30 : decode cX8_emits 30 = .ok (.iconst 1, 1) := dk_4 (dk_at dksX8_emits_1 6 rfl rfl)
theorem dX8_emits_31 : decode cX8_emits 31 = .ok (.iadd, 1) := dk_96 (dk_at dksX8_emits_1 7 rfl rfl)
theorem dX8_emits_32 : decode cX8_emits 32 = .ok (.iload_n 2, 1) := dk_28 (dk_at dksX8_emits_1 8 rfl rfl)
theorem dX8_emits_33 : decode cX8_emits 33 = .ok (.iastore, 1) := dk_79 (dk_at dksX8_emits_1 9 rfl rfl)
theorem dX8_emits_34 : decode cX8_emits 34 = .ok (.aload_n 0, 1) := dk_42 (dk_at dksX8_emits_1 10 rfl rfl)
theorem dX8_emits_35 : decode cX8_emits 35 = .ok (.dup, 1) := dk_89 (dk_at dksX8_emits_1 11 rfl rfl)
theorem dX8_emits_36 : decode cX8_emits 36 = .ok (.getfield 194, 3) := dk_180 0 194 (dk_at dksX8_emits_1 12 rfl rfl)
theorem dX8_emits_39 : decode cX8_emits 39 = .ok (.iconst 1, 1) := dk_4 (dk_at dksX8_emits_1 15 rfl rfl)
theorem dX8_emits_40 : decode cX8_emits 40 = .ok (.iadd, 1) := dk_96 (dk_at dksX8_emits_1 16 rfl rfl)
theorem dX8_emits_41 : decode cX8_emits 41 = .ok (.putfield 194, 3) := dk_181 0 194 (dk_at dksX8_emits_1 17 rfl rfl)
theorem dX8_emits_44 : decode cX8_emits 44 = .ok (.return_, 1) := dk_177 (dk_at dksX8_emits_1 20 rfl rfl)
abbrev cX8_readTag : ByteArray := prog_18_method_45_code
def yX8_readTag : MethodName := ⟨RX8, "readTag", "()Z"⟩
def dkwX8_readTag_2 : List UInt8 := [42, 180, 0, 112, 181, 0, 102, 27, 155, 0, 7, 4, 167, 0, 4, 3, 172]
abbrev dktX8_readTag_2 : List UInt8 := dkwX8_readTag_2 ++ []
def dkwX8_readTag_1 : List UInt8 := [153, 0, 8, 16, 7, 167, 0, 4, 2, 60, 27, 155, 0, 12, 42, 27, 3, 182, 0, 197, 167, 0, 11, 42]
abbrev dktX8_readTag_1 : List UInt8 := dkwX8_readTag_1 ++ dktX8_readTag_2
def dkwX8_readTag_0 : List UInt8 := [42, 182, 0, 127, 42, 18, 172, 182, 0, 130, 153, 0, 8, 16, 6, 167, 0, 18, 42, 18, 211, 182, 0, 130]
abbrev dktX8_readTag_0 : List UInt8 := dkwX8_readTag_0 ++ dktX8_readTag_1
theorem dksX8_readTag_0 : cX8_readTag.data.toList.drop 0 = dktX8_readTag_0 := by decide +kernel
theorem dksX8_readTag_1 : cX8_readTag.data.toList.drop 24 = dktX8_readTag_1 := dk_seg dksX8_readTag_0 24 rfl rfl
theorem dksX8_readTag_2 : cX8_readTag.data.toList.drop 48 = dktX8_readTag_2 := dk_seg dksX8_readTag_1 24 rfl rfl
theorem dX8_readTag_0 : decode cX8_readTag 0 = .ok (.aload_n 0, 1) := dk_42 (dk_at dksX8_readTag_0 0 rfl rfl)
theorem dX8_readTag_1 : decode cX8_readTag 1 = .ok (.invokevirtual 127, 3) := dk_182 0 127 (dk_at dksX8_readTag_0 1 rfl rfl)
theorem dX8_readTag_4 : decode cX8_readTag 4 = .ok (.aload_n 0, 1) := dk_42 (dk_at dksX8_readTag_0 4 rfl rfl)
theorem dX8_readTag_5 : decode cX8_readTag 5 = .ok (.ldc 172, 2) := dk_18 172 (dk_at dksX8_readTag_0 5 rfl rfl)
theorem dX8_readTag_7 : decode cX8_readTag 7 = .ok (.invokevirtual 130, 3) := dk_182 0 130 (dk_at dksX8_readTag_0 7 rfl rfl)
theorem dX8_readTag_10 : decode cX8_readTag 10 = .ok (.ifCond .eq 8, 3) := dk_153 0 8 (dk_at dksX8_readTag_0 10 rfl rfl)
theorem dX8_readTag_13 : decode cX8_readTag 13 = .ok (.bipush 6, 2) := dk_16 6 (dk_at dksX8_readTag_0 13 rfl rfl)
theorem dX8_readTag_15 : decode cX8_readTag 15 = .ok (.goto 18, 3) := dk_167 0 18 (dk_at dksX8_readTag_0 15 rfl rfl)
theorem dX8_readTag_18 : decode cX8_readTag 18 = .ok (.aload_n 0, 1) := dk_42 (dk_at dksX8_readTag_0 18 rfl rfl)
theorem dX8_readTag_19 : decode cX8_readTag 19 = .ok (.ldc 211, 2) := dk_18 211 (dk_at dksX8_readTag_0 19 rfl rfl)
theorem dX8_readTag_21 : decode cX8_readTag 21 = .ok (.invokevirtual 130, 3) := dk_182 0 130 (dk_at dksX8_readTag_0 21 rfl rfl)
theorem dX8_readTag_24 : decode cX8_readTag 24 = .ok (.ifCond .eq 8, 3) := dk_153 0 8 (dk_at dksX8_readTag_1 0 rfl rfl)
theorem dX8_readTag_27 : decode cX8_readTag 27 = .ok (.bipush 7, 2) := dk_16 7 (dk_at dksX8_readTag_1 3 rfl rfl)
theorem dX8_readTag_29 : decode cX8_readTag 29 = .ok (.goto 4, 3) := dk_167 0 4 (dk_at dksX8_readTag_1 5 rfl rfl)
theorem dX8_readTag_32 : decode cX8_readTag 32 = .ok (.iconst (-1), 1) := dk_2 (dk_at dksX8_readTag_1 8 rfl rfl)
theorem dX8_readTag_33 : decode cX8_readTag 33 = .ok (.istore_n 1, 1) := dk_60 (dk_at dksX8_readTag_1 9 rfl rfl)
theorem dX8_readTag_34 : decode cX8_readTag 34 = .ok (.iload_n 1, 1) := dk_27 (dk_at dksX8_readTag_1 10 rfl rfl)
theorem dX8_readTag_35 : decode cX8_readTag 35 = .ok (.ifCond .lt 12, 3) := dk_155 0 12 (dk_at dksX8_readTag_1 11 rfl rfl)
theorem dX8_readTag_38 : decode cX8_readTag 38 = .ok (.aload_n 0, 1) := dk_42 (dk_at dksX8_readTag_1 14 rfl rfl)
theorem dX8_readTag_39 : decode cX8_readTag 39 = .ok (.iload_n 1, 1) := dk_27 (dk_at dksX8_readTag_1 15 rfl rfl)
theorem dX8_readTag_40 : decode cX8_readTag 40 = .ok (.iconst 0, 1) := dk_3 (dk_at dksX8_readTag_1 16 rfl rfl)
theorem dX8_readTag_41 : decode cX8_readTag 41 = .ok (.invokevirtual 197, 3) := dk_182 0 197 (dk_at dksX8_readTag_1 17 rfl rfl)
theorem dX8_readTag_44 : decode cX8_readTag 44 = .ok (.goto 11, 3) := dk_167 0 11 (dk_at dksX8_readTag_1 20 rfl rfl)
theorem dX8_readTag_47 : decode cX8_readTag 47 = .ok (.aload_n 0, 1) := dk_42 (dk_at dksX8_readTag_1 23 rfl rfl)
theorem dX8_readTag_48 : decode cX8_readTag 48 = .ok (.aload_n 0, 1) := dk_42 (dk_at dksX8_readTag_2 0 rfl rfl)
theorem dX8_readTag_49 : decode cX8_readTag 49 = .ok (.getfield 112, 3) := dk_180 0 112 (dk_at dksX8_readTag_2 1 rfl rfl)
theorem dX8_readTag_52 : decode cX8_readTag 52 = .ok (.putfield 102, 3) := dk_181 0 102 (dk_at dksX8_readTag_2 4 rfl rfl)
theorem dX8_readTag_55 : decode cX8_readTag 55 = .ok (.iload_n 1, 1) := dk_27 (dk_at dksX8_readTag_2 7 rfl rfl)
theorem dX8_readTag_56 : decode cX8_readTag 56 = .ok (.ifCond .lt 7, 3) := dk_155 0 7 (dk_at dksX8_readTag_2 8 rfl rfl)
theorem dX8_readTag_59 : decode cX8_readTag 59 = .ok (.iconst 1, 1) := dk_4 (dk_at dksX8_readTag_2 11 rfl rfl)
theorem dX8_readTag_60 : decode cX8_readTag 60 = .ok (.goto 4, 3) := dk_167 0 4 (dk_at dksX8_readTag_2 12 rfl rfl)
theorem dX8_readTag_63 : decode cX8_readTag 63 = .ok (.iconst 0, 1) := dk_3 (dk_at dksX8_readTag_2 15 rfl rfl)
theorem dX8_readTag_64 : decode cX8_readTag 64 = .ok (.ireturn, 1) := dk_172 (dk_at dksX8_readTag_2 16 rfl rfl)
abbrev cX8_readSum : ByteArray := prog_18_method_44_code
def yX8_readSum : MethodName := ⟨RX8, "readSum", "()Z"⟩
def dkwX8_readSum_1 : List UInt8 := [154, 0, 5, 3, 172, 42, 16, 9, 3, 182, 0, 197, 167, 255, 231, 4, 172]
abbrev dktX8_readSum_1 : List UInt8 := dkwX8_readSum_1 ++ []
def dkwX8_readSum_0 : List UInt8 := [42, 182, 0, 205, 154, 0, 5, 3, 172, 42, 16, 43, 182, 0, 208, 153, 0, 22, 42, 182, 0, 205]
abbrev dktX8_readSum_0 : List UInt8 := dkwX8_readSum_0 ++ dktX8_readSum_1
theorem dksX8_readSum_0 : cX8_readSum.data.toList.drop 0 = dktX8_readSum_0 := by decide +kernel
theorem dksX8_readSum_1 : cX8_readSum.data.toList.drop 22 = dktX8_readSum_1 := dk_seg dksX8_readSum_0 22 rfl rfl
theorem dX8_readSum_0 : decode cX8_readSum 0 = .ok (.aload_n 0, 1) := dk_42 (dk_at dksX8_readSum_0 0 rfl rfl)
theorem dX8_readSum_1 : decode cX8_readSum 1 = .ok (.invokevirtual 205, 3) := dk_182 0 205 (dk_at dksX8_readSum_0 1 rfl rfl)
theorem dX8_readSum_4 : decode cX8_readSum 4 = .ok (.ifCond .ne 5, 3) := dk_154 0 5 (dk_at dksX8_readSum_0 4 rfl rfl)
theorem dX8_readSum_7 : decode cX8_readSum 7 = .ok (.iconst 0, 1) := dk_3 (dk_at dksX8_readSum_0 7 rfl rfl)
theorem dX8_readSum_8 : decode cX8_readSum 8 = .ok (.ireturn, 1) := dk_172 (dk_at dksX8_readSum_0 8 rfl rfl)
theorem dX8_readSum_9 : decode cX8_readSum 9 = .ok (.aload_n 0, 1) := dk_42 (dk_at dksX8_readSum_0 9 rfl rfl)
theorem dX8_readSum_10 : decode cX8_readSum 10 = .ok (.bipush 43, 2) := dk_16 43 (dk_at dksX8_readSum_0 10 rfl rfl)
theorem dX8_readSum_12 : decode cX8_readSum 12 = .ok (.invokevirtual 208, 3) := dk_182 0 208 (dk_at dksX8_readSum_0 12 rfl rfl)
theorem dX8_readSum_15 : decode cX8_readSum 15 = .ok (.ifCond .eq 22, 3) := dk_153 0 22 (dk_at dksX8_readSum_0 15 rfl rfl)
theorem dX8_readSum_18 : decode cX8_readSum 18 = .ok (.aload_n 0, 1) := dk_42 (dk_at dksX8_readSum_0 18 rfl rfl)
theorem dX8_readSum_19 : decode cX8_readSum 19 = .ok (.invokevirtual 205, 3) := dk_182 0 205 (dk_at dksX8_readSum_0 19 rfl rfl)
theorem dX8_readSum_22 : decode cX8_readSum 22 = .ok (.ifCond .ne 5, 3) := dk_154 0 5 (dk_at dksX8_readSum_1 0 rfl rfl)
theorem dX8_readSum_25 : decode cX8_readSum 25 = .ok (.iconst 0, 1) := dk_3 (dk_at dksX8_readSum_1 3 rfl rfl)
theorem dX8_readSum_26 : decode cX8_readSum 26 = .ok (.ireturn, 1) := dk_172 (dk_at dksX8_readSum_1 4 rfl rfl)
theorem dX8_readSum_27 : decode cX8_readSum 27 = .ok (.aload_n 0, 1) := dk_42 (dk_at dksX8_readSum_1 5 rfl rfl)
theorem dX8_readSum_28 : decode cX8_readSum 28 = .ok (.bipush 9, 2) := dk_16 9 (dk_at dksX8_readSum_1 6 rfl rfl)
theorem dX8_readSum_30 : decode cX8_readSum 30 = .ok (.iconst 0, 1) := dk_3 (dk_at dksX8_readSum_1 8 rfl rfl)
theorem dX8_readSum_31 : decode cX8_readSum 31 = .ok (.invokevirtual 197, 3) := dk_182 0 197 (dk_at dksX8_readSum_1 9 rfl rfl)
theorem dX8_readSum_34 : decode cX8_readSum 34 = .ok (.goto (-25), 3) := dk_167 255 231 (dk_at dksX8_readSum_1 12 rfl rfl)
theorem dX8_readSum_37 : decode cX8_readSum 37 = .ok (.iconst 1, 1) := dk_4 (dk_at dksX8_readSum_1 15 rfl rfl)
theorem dX8_readSum_38 : decode cX8_readSum 38 = .ok (.ireturn, 1) := dk_172 (dk_at dksX8_readSum_1 16 rfl rfl)
abbrev cX8_readPart : ByteArray := prog_18_method_43_code
def yX8_readPart : MethodName := ⟨RX8, "readPart", "()Z"⟩
def dkwX8_readPart_5 : List UInt8 := [3, 182, 0, 197, 27, 155, 0, 7, 4, 167, 0, 4, 3, 172]
abbrev dktX8_readPart_5 : List UInt8 := dkwX8_readPart_5 ++ []
def dkwX8_readPart_4 : List UInt8 := [153, 0, 7, 7, 167, 0, 17, 42, 18, 168, 182, 0, 130, 153, 0, 7, 8, 167, 0, 4, 2, 60, 42, 27]
abbrev dktX8_readPart_4 : List UInt8 := dkwX8_readPart_4 ++ dktX8_readPart_5
def dkwX8_readPart_3 : List UInt8 := [167, 0, 43, 42, 18, 163, 182, 0, 130, 153, 0, 7, 6, 167, 0, 30, 42, 18, 203, 182, 0, 130]
abbrev dktX8_readPart_3 : List UInt8 := dkwX8_readPart_3 ++ dktX8_readPart_4
def dkwX8_readPart_2 : List UInt8 := [18, 201, 182, 0, 130, 153, 0, 7, 4, 167, 0, 56, 42, 18, 149, 182, 0, 130, 153, 0, 7, 5]
abbrev dktX8_readPart_2 : List UInt8 := dkwX8_readPart_2 ++ dktX8_readPart_3
def dkwX8_readPart_1 : List UInt8 := [42, 16, 8, 27, 182, 0, 197, 167, 0, 89, 42, 18, 174, 182, 0, 130, 153, 0, 7, 3, 167, 0, 69, 42]
abbrev dktX8_readPart_1 : List UInt8 := dkwX8_readPart_1 ++ dktX8_readPart_2
def dkwX8_readPart_0 : List UInt8 := [42, 182, 0, 127, 42, 180, 0, 102, 42, 180, 0, 112, 160, 0, 22, 42, 3, 17, 3, 231, 182, 0, 134, 60]
abbrev dktX8_readPart_0 : List UInt8 := dkwX8_readPart_0 ++ dktX8_readPart_1
theorem dksX8_readPart_0 : cX8_readPart.data.toList.drop 0 = dktX8_readPart_0 := by decide +kernel
theorem dksX8_readPart_1 : cX8_readPart.data.toList.drop 24 = dktX8_readPart_1 := dk_seg dksX8_readPart_0 24 rfl rfl
theorem dksX8_readPart_2 : cX8_readPart.data.toList.drop 48 = dktX8_readPart_2 := dk_seg dksX8_readPart_1 24 rfl rfl
theorem dksX8_readPart_3 : cX8_readPart.data.toList.drop 70 = dktX8_readPart_3 := dk_seg dksX8_readPart_2 22 rfl rfl
theorem dksX8_readPart_4 : cX8_readPart.data.toList.drop 92 = dktX8_readPart_4 := dk_seg dksX8_readPart_3 22 rfl rfl
theorem dksX8_readPart_5 : cX8_readPart.data.toList.drop 116 = dktX8_readPart_5 := dk_seg dksX8_readPart_4 24 rfl rfl
theorem dX8_readPart_0 : decode cX8_readPart 0 = .ok (.aload_n 0, 1) := dk_42 (dk_at dksX8_readPart_0 0 rfl rfl)
theorem dX8_readPart_1 : decode cX8_readPart 1 = .ok (.invokevirtual 127, 3) := dk_182 0 127 (dk_at dksX8_readPart_0 1 rfl rfl)
theorem dX8_readPart_4 : decode cX8_readPart 4 = .ok (.aload_n 0, 1) := dk_42 (dk_at dksX8_readPart_0 4 rfl rfl)
theorem dX8_readPart_5 : decode cX8_readPart 5 = .ok (.getfield 102, 3) := dk_180 0 102 (dk_at dksX8_readPart_0 5 rfl rfl)
theorem dX8_readPart_8 : decode cX8_readPart 8 = .ok (.aload_n 0, 1) := dk_42 (dk_at dksX8_readPart_0 8 rfl rfl)
theorem dX8_readPart_9 : decode cX8_readPart 9 = .ok (.getfield 112, 3) := dk_180 0 112 (dk_at dksX8_readPart_0 9 rfl rfl)
theorem dX8_readPart_12 : decode cX8_readPart 12 = .ok (.if_icmp .ne 22, 3) := dk_160 0 22 (dk_at dksX8_readPart_0 12 rfl rfl)
theorem dX8_readPart_15 : decode cX8_readPart 15 = .ok (.aload_n 0, 1) := dk_42 (dk_at dksX8_readPart_0 15 rfl rfl)
theorem dX8_readPart_16 : decode cX8_readPart 16 = .ok (.iconst 0, 1) := dk_3 (dk_at dksX8_readPart_0 16 rfl rfl)
theorem dX8_readPart_17 : decode cX8_readPart 17 = .ok (.sipush 999, 3) := dk_17 3 231 (dk_at dksX8_readPart_0 17 rfl rfl)
theorem dX8_readPart_20 : decode cX8_readPart 20 = .ok (.invokevirtual 134, 3) := dk_182 0 134 (dk_at dksX8_readPart_0 20 rfl rfl)
theorem dX8_readPart_23 : decode cX8_readPart 23 = .ok (.istore_n 1, 1) := dk_60 (dk_at dksX8_readPart_0 23 rfl rfl)
theorem dX8_readPart_24 : decode cX8_readPart 24 = .ok (.aload_n 0, 1) := dk_42 (dk_at dksX8_readPart_1 0 rfl rfl)
theorem dX8_readPart_25 : decode cX8_readPart 25 = .ok (.bipush 8, 2) := dk_16 8 (dk_at dksX8_readPart_1 1 rfl rfl)
theorem dX8_readPart_27 : decode cX8_readPart 27 = .ok (.iload_n 1, 1) := dk_27 (dk_at dksX8_readPart_1 3 rfl rfl)
theorem dX8_readPart_28 : decode cX8_readPart 28 = .ok (.invokevirtual 197, 3) := dk_182 0 197 (dk_at dksX8_readPart_1 4 rfl rfl)
theorem dX8_readPart_31 : decode cX8_readPart 31 = .ok (.goto 89, 3) := dk_167 0 89 (dk_at dksX8_readPart_1 7 rfl rfl)
theorem dX8_readPart_34 : decode cX8_readPart 34 = .ok (.aload_n 0, 1) := dk_42 (dk_at dksX8_readPart_1 10 rfl rfl)
theorem dX8_readPart_35 : decode cX8_readPart 35 = .ok (.ldc 174, 2) := dk_18 174 (dk_at dksX8_readPart_1 11 rfl rfl)
theorem dX8_readPart_37 : decode cX8_readPart 37 = .ok (.invokevirtual 130, 3) := dk_182 0 130 (dk_at dksX8_readPart_1 13 rfl rfl)
theorem dX8_readPart_40 : decode cX8_readPart 40 = .ok (.ifCond .eq 7, 3) := dk_153 0 7 (dk_at dksX8_readPart_1 16 rfl rfl)
theorem dX8_readPart_43 : decode cX8_readPart 43 = .ok (.iconst 0, 1) := dk_3 (dk_at dksX8_readPart_1 19 rfl rfl)
theorem dX8_readPart_44 : decode cX8_readPart 44 = .ok (.goto 69, 3) := dk_167 0 69 (dk_at dksX8_readPart_1 20 rfl rfl)
theorem dX8_readPart_47 : decode cX8_readPart 47 = .ok (.aload_n 0, 1) := dk_42 (dk_at dksX8_readPart_1 23 rfl rfl)
theorem dX8_readPart_48 : decode cX8_readPart 48 = .ok (.ldc 201, 2) := dk_18 201 (dk_at dksX8_readPart_2 0 rfl rfl)
theorem dX8_readPart_50 : decode cX8_readPart 50 = .ok (.invokevirtual 130, 3) := dk_182 0 130 (dk_at dksX8_readPart_2 2 rfl rfl)
theorem dX8_readPart_53 : decode cX8_readPart 53 = .ok (.ifCond .eq 7, 3) := dk_153 0 7 (dk_at dksX8_readPart_2 5 rfl rfl)
theorem dX8_readPart_56 : decode cX8_readPart 56 = .ok (.iconst 1, 1) := dk_4 (dk_at dksX8_readPart_2 8 rfl rfl)
theorem dX8_readPart_57 : decode cX8_readPart 57 = .ok (.goto 56, 3) := dk_167 0 56 (dk_at dksX8_readPart_2 9 rfl rfl)
theorem dX8_readPart_60 : decode cX8_readPart 60 = .ok (.aload_n 0, 1) := dk_42 (dk_at dksX8_readPart_2 12 rfl rfl)
theorem dX8_readPart_61 : decode cX8_readPart 61 = .ok (.ldc 149, 2) := dk_18 149 (dk_at dksX8_readPart_2 13 rfl rfl)
theorem dX8_readPart_63 : decode cX8_readPart 63 = .ok (.invokevirtual 130, 3) := dk_182 0 130 (dk_at dksX8_readPart_2 15 rfl rfl)
theorem dX8_readPart_66 : decode cX8_readPart 66 = .ok (.ifCond .eq 7, 3) := dk_153 0 7 (dk_at dksX8_readPart_2 18 rfl rfl)
theorem dX8_readPart_69 : decode cX8_readPart 69 = .ok (.iconst 2, 1) := dk_5 (dk_at dksX8_readPart_2 21 rfl rfl)
theorem dX8_readPart_70 : decode cX8_readPart 70 = .ok (.goto 43, 3) := dk_167 0 43 (dk_at dksX8_readPart_3 0 rfl rfl)
theorem dX8_readPart_73 : decode cX8_readPart 73 = .ok (.aload_n 0, 1) := dk_42 (dk_at dksX8_readPart_3 3 rfl rfl)
theorem dX8_readPart_74 : decode cX8_readPart 74 = .ok (.ldc 163, 2) := dk_18 163 (dk_at dksX8_readPart_3 4 rfl rfl)
theorem dX8_readPart_76 : decode cX8_readPart 76 = .ok (.invokevirtual 130, 3) := dk_182 0 130 (dk_at dksX8_readPart_3 6 rfl rfl)
theorem dX8_readPart_79 : decode cX8_readPart 79 = .ok (.ifCond .eq 7, 3) := dk_153 0 7 (dk_at dksX8_readPart_3 9 rfl rfl)
theorem dX8_readPart_82 : decode cX8_readPart 82 = .ok (.iconst 3, 1) := dk_6 (dk_at dksX8_readPart_3 12 rfl rfl)
theorem dX8_readPart_83 : decode cX8_readPart 83 = .ok (.goto 30, 3) := dk_167 0 30 (dk_at dksX8_readPart_3 13 rfl rfl)
theorem dX8_readPart_86 : decode cX8_readPart 86 = .ok (.aload_n 0, 1) := dk_42 (dk_at dksX8_readPart_3 16 rfl rfl)
theorem dX8_readPart_87 : decode cX8_readPart 87 = .ok (.ldc 203, 2) := dk_18 203 (dk_at dksX8_readPart_3 17 rfl rfl)
theorem dX8_readPart_89 : decode cX8_readPart 89 = .ok (.invokevirtual 130, 3) := dk_182 0 130 (dk_at dksX8_readPart_3 19 rfl rfl)
theorem dX8_readPart_92 : decode cX8_readPart 92 = .ok (.ifCond .eq 7, 3) := dk_153 0 7 (dk_at dksX8_readPart_4 0 rfl rfl)
theorem dX8_readPart_95 : decode cX8_readPart 95 = .ok (.iconst 4, 1) := dk_7 (dk_at dksX8_readPart_4 3 rfl rfl)
theorem dX8_readPart_96 : decode cX8_readPart 96 = .ok (.goto 17, 3) := dk_167 0 17 (dk_at dksX8_readPart_4 4 rfl rfl)
theorem dX8_readPart_99 : decode cX8_readPart 99 = .ok (.aload_n 0, 1) := dk_42 (dk_at dksX8_readPart_4 7 rfl rfl)
theorem dX8_readPart_100 : decode cX8_readPart 100 = .ok (.ldc 168, 2) := dk_18 168 (dk_at dksX8_readPart_4 8 rfl rfl)
theorem dX8_readPart_102 : decode cX8_readPart 102 = .ok (.invokevirtual 130, 3) := dk_182 0 130 (dk_at dksX8_readPart_4 10 rfl rfl)
theorem dX8_readPart_105 : decode cX8_readPart 105 = .ok (.ifCond .eq 7, 3) := dk_153 0 7 (dk_at dksX8_readPart_4 13 rfl rfl)
theorem dX8_readPart_108 : decode cX8_readPart 108 = .ok (.iconst 5, 1) := dk_8 (dk_at dksX8_readPart_4 16 rfl rfl)
theorem dX8_readPart_109 : decode cX8_readPart 109 = .ok (.goto 4, 3) := dk_167 0 4 (dk_at dksX8_readPart_4 17 rfl rfl)
theorem dX8_readPart_112 : decode cX8_readPart 112 = .ok (.iconst (-1), 1) := dk_2 (dk_at dksX8_readPart_4 20 rfl rfl)
theorem dX8_readPart_113 : decode cX8_readPart 113 = .ok (.istore_n 1, 1) := dk_60 (dk_at dksX8_readPart_4 21 rfl rfl)
theorem dX8_readPart_114 : decode cX8_readPart 114 = .ok (.aload_n 0, 1) := dk_42 (dk_at dksX8_readPart_4 22 rfl rfl)
theorem dX8_readPart_115 : decode cX8_readPart 115 = .ok (.iload_n 1, 1) := dk_27 (dk_at dksX8_readPart_4 23 rfl rfl)
theorem dX8_readPart_116 : decode cX8_readPart 116 = .ok (.iconst 0, 1) := dk_3 (dk_at dksX8_readPart_5 0 rfl rfl)
theorem dX8_readPart_117 : decode cX8_readPart 117 = .ok (.invokevirtual 197, 3) := dk_182 0 197 (dk_at dksX8_readPart_5 1 rfl rfl)
theorem dX8_readPart_120 : decode cX8_readPart 120 = .ok (.iload_n 1, 1) := dk_27 (dk_at dksX8_readPart_5 4 rfl rfl)
theorem dX8_readPart_121 : decode cX8_readPart 121 = .ok (.ifCond .lt 7, 3) := dk_155 0 7 (dk_at dksX8_readPart_5 5 rfl rfl)
theorem dX8_readPart_124 : decode cX8_readPart 124 = .ok (.iconst 1, 1) := dk_4 (dk_at dksX8_readPart_5 8 rfl rfl)
theorem dX8_readPart_125 : decode cX8_readPart 125 = .ok (.goto 4, 3) := dk_167 0 4 (dk_at dksX8_readPart_5 9 rfl rfl)
theorem dX8_readPart_128 : decode cX8_readPart 128 = .ok (.iconst 0, 1) := dk_3 (dk_at dksX8_readPart_5 12 rfl rfl)
theorem dX8_readPart_129 : decode cX8_readPart 129 = .ok (.ireturn, 1) := dk_172 (dk_at dksX8_readPart_5 13 rfl rfl)
abbrev cX8_throwsIf : ByteArray := prog_18_method_2_code
def yX8_throwsIf : MethodName := ⟨RX8, "throwsIf", "(ZI)Z"⟩
def dkwX8_throwsIf_0 : List UInt8 := [27, 153, 0, 8, 42, 28, 181, 0, 3, 27, 172]
abbrev dktX8_throwsIf_0 : List UInt8 := dkwX8_throwsIf_0 ++ []
theorem dksX8_throwsIf_0 : cX8_throwsIf.data.toList.drop 0 = dktX8_throwsIf_0 := by decide +kernel
theorem dX8_throwsIf_0 : decode cX8_throwsIf 0 = .ok (.iload_n 1, 1) := dk_27 (dk_at dksX8_throwsIf_0 0 rfl rfl)
theorem dX8_throwsIf_1 : decode cX8_throwsIf 1 = .ok (.ifCond .eq 8, 3) := dk_153 0 8 (dk_at dksX8_throwsIf_0 1 rfl rfl)
theorem dX8_throwsIf_4 : decode cX8_throwsIf 4 = .ok (.aload_n 0, 1) := dk_42 (dk_at dksX8_throwsIf_0 4 rfl rfl)
theorem dX8_throwsIf_5 : decode cX8_throwsIf 5 = .ok (.iload_n 2, 1) := dk_28 (dk_at dksX8_throwsIf_0 5 rfl rfl)
theorem dX8_throwsIf_6 : decode cX8_throwsIf 6 = .ok (.putfield 3, 3) := dk_181 0 3 (dk_at dksX8_throwsIf_0 6 rfl rfl)
theorem dX8_throwsIf_9 : decode cX8_throwsIf 9 = .ok (.iload_n 1, 1) := dk_27 (dk_at dksX8_throwsIf_0 9 rfl rfl)
theorem dX8_throwsIf_10 : decode cX8_throwsIf 10 = .ok (.ireturn, 1) := dk_172 (dk_at dksX8_throwsIf_0 10 rfl rfl)
abbrev cX8_law : ByteArray := prog_18_method_53_code
def yX8_law : MethodName := ⟨RX8, "law", "()I"⟩
def dkwX8_law_4 : List UInt8 := [181, 0, 67, 27, 172]
abbrev dktX8_law_4 : List UInt8 := dkwX8_law_4 ++ []
def dkwX8_law_3 : List UInt8 := [17, 4, 130, 28, 96, 46, 79, 132, 2, 1, 167, 255, 226, 42, 180, 0, 13, 6, 4, 79, 42, 3]
abbrev dktX8_law_3 : List UInt8 := dkwX8_law_3 ++ dktX8_law_4
def dkwX8_law_2 : List UInt8 := [27, 79, 3, 61, 28, 17, 3, 81, 162, 0, 29, 42, 180, 0, 13, 17, 1, 49, 28, 96, 42, 180, 0, 13]
abbrev dktX8_law_2 : List UInt8 := dkwX8_law_2 ++ dktX8_law_3
def dkwX8_law_1 : List UInt8 := [156, 0, 7, 4, 167, 0, 4, 3, 4, 182, 1, 6, 153, 0, 5, 3, 172, 42, 180, 0, 13, 17, 4, 130]
abbrev dktX8_law_1 : List UInt8 := dkwX8_law_1 ++ dktX8_law_2
def dkwX8_law_0 : List UInt8 := [42, 3, 182, 1, 2, 60, 42, 27, 156, 0, 10, 42, 180, 0, 112, 167, 0, 4, 2, 181, 0, 33, 42, 27]
abbrev dktX8_law_0 : List UInt8 := dkwX8_law_0 ++ dktX8_law_1
theorem dksX8_law_0 : cX8_law.data.toList.drop 0 = dktX8_law_0 := by decide +kernel
theorem dksX8_law_1 : cX8_law.data.toList.drop 24 = dktX8_law_1 := dk_seg dksX8_law_0 24 rfl rfl
theorem dksX8_law_2 : cX8_law.data.toList.drop 48 = dktX8_law_2 := dk_seg dksX8_law_1 24 rfl rfl
theorem dksX8_law_3 : cX8_law.data.toList.drop 72 = dktX8_law_3 := dk_seg dksX8_law_2 24 rfl rfl
theorem dksX8_law_4 : cX8_law.data.toList.drop 94 = dktX8_law_4 := dk_seg dksX8_law_3 22 rfl rfl
theorem dX8_law_0 : decode cX8_law 0 = .ok (.aload_n 0, 1) := dk_42 (dk_at dksX8_law_0 0 rfl rfl)
theorem dX8_law_1 : decode cX8_law 1 = .ok (.iconst 0, 1) := dk_3 (dk_at dksX8_law_0 1 rfl rfl)
theorem dX8_law_2 : decode cX8_law 2 = .ok (.invokevirtual 258, 3) := dk_182 1 2 (dk_at dksX8_law_0 2 rfl rfl)
theorem dX8_law_5 : decode cX8_law 5 = .ok (.istore_n 1, 1) := dk_60 (dk_at dksX8_law_0 5 rfl rfl)
theorem dX8_law_6 : decode cX8_law 6 = .ok (.aload_n 0, 1) := dk_42 (dk_at dksX8_law_0 6 rfl rfl)
theorem dX8_law_7 : decode cX8_law 7 = .ok (.iload_n 1, 1) := dk_27 (dk_at dksX8_law_0 7 rfl rfl)
theorem dX8_law_8 : decode cX8_law 8 = .ok (.ifCond .ge 10, 3) := dk_156 0 10 (dk_at dksX8_law_0 8 rfl rfl)
theorem dX8_law_11 : decode cX8_law 11 = .ok (.aload_n 0, 1) := dk_42 (dk_at dksX8_law_0 11 rfl rfl)
theorem dX8_law_12 : decode cX8_law 12 = .ok (.getfield 112, 3) := dk_180 0 112 (dk_at dksX8_law_0 12 rfl rfl)
theorem dX8_law_15 : decode cX8_law 15 = .ok (.goto 4, 3) := dk_167 0 4 (dk_at dksX8_law_0 15 rfl rfl)
theorem dX8_law_18 : decode cX8_law 18 = .ok (.iconst (-1), 1) := dk_2 (dk_at dksX8_law_0 18 rfl rfl)
theorem dX8_law_19 : decode cX8_law 19 = .ok (.putfield 33, 3) := dk_181 0 33 (dk_at dksX8_law_0 19 rfl rfl)
theorem dX8_law_22 : decode cX8_law 22 = .ok (.aload_n 0, 1) := dk_42 (dk_at dksX8_law_0 22 rfl rfl)
theorem dX8_law_23 : decode cX8_law 23 = .ok (.iload_n 1, 1) := dk_27 (dk_at dksX8_law_0 23 rfl rfl)
theorem dX8_law_24 : decode cX8_law 24 = .ok (.ifCond .ge 7, 3) := dk_156 0 7 (dk_at dksX8_law_1 0 rfl rfl)
theorem dX8_law_27 : decode cX8_law 27 = .ok (.iconst 1, 1) := dk_4 (dk_at dksX8_law_1 3 rfl rfl)
theorem dX8_law_28 : decode cX8_law 28 = .ok (.goto 4, 3) := dk_167 0 4 (dk_at dksX8_law_1 4 rfl rfl)
theorem dX8_law_31 : decode cX8_law 31 = .ok (.iconst 0, 1) := dk_3 (dk_at dksX8_law_1 7 rfl rfl)
theorem dX8_law_32 : decode cX8_law 32 = .ok (.iconst 1, 1) := dk_4 (dk_at dksX8_law_1 8 rfl rfl)
theorem dX8_law_33 : decode cX8_law 33 = .ok (.invokevirtual 262, 3) := dk_182 1 6 (dk_at dksX8_law_1 9 rfl rfl)
theorem dX8_law_36 : decode cX8_law 36 = .ok (.ifCond .eq 5, 3) := dk_153 0 5 (dk_at dksX8_law_1 12 rfl rfl)
theorem dX8_law_39 : decode cX8_law 39 = .ok (.iconst 0, 1) := dk_3 (dk_at dksX8_law_1 15 rfl rfl)
theorem dX8_law_40 : decode cX8_law 40 = .ok (.ireturn, 1) := dk_172 (dk_at dksX8_law_1 16 rfl rfl)
theorem dX8_law_41 : decode cX8_law 41 = .ok (.aload_n 0, 1) := dk_42 (dk_at dksX8_law_1 17 rfl rfl)
theorem dX8_law_42 : decode cX8_law 42 = .ok (.getfield 13, 3) := dk_180 0 13 (dk_at dksX8_law_1 18 rfl rfl)
theorem dX8_law_45 : decode cX8_law 45 = .ok (.sipush 1154, 3) := dk_17 4 130 (dk_at dksX8_law_1 21 rfl rfl)
theorem dX8_law_48 : decode cX8_law 48 = .ok (.iload_n 1, 1) := dk_27 (dk_at dksX8_law_2 0 rfl rfl)
theorem dX8_law_49 : decode cX8_law 49 = .ok (.iastore, 1) := dk_79 (dk_at dksX8_law_2 1 rfl rfl)
theorem dX8_law_50 : decode cX8_law 50 = .ok (.iconst 0, 1) := dk_3 (dk_at dksX8_law_2 2 rfl rfl)
theorem dX8_law_51 : decode cX8_law 51 = .ok (.istore_n 2, 1) := dk_61 (dk_at dksX8_law_2 3 rfl rfl)
theorem dX8_law_52 : decode cX8_law 52 = .ok (.iload_n 2, 1) := dk_28 (dk_at dksX8_law_2 4 rfl rfl)
theorem dX8_law_53 : decode cX8_law 53 = .ok (.sipush 849, 3) := dk_17 3 81 (dk_at dksX8_law_2 5 rfl rfl)
theorem dX8_law_56 : decode cX8_law 56 = .ok (.if_icmp .ge 29, 3) := dk_162 0 29 (dk_at dksX8_law_2 8 rfl rfl)
theorem dX8_law_59 : decode cX8_law 59 = .ok (.aload_n 0, 1) := dk_42 (dk_at dksX8_law_2 11 rfl rfl)
theorem dX8_law_60 : decode cX8_law 60 = .ok (.getfield 13, 3) := dk_180 0 13 (dk_at dksX8_law_2 12 rfl rfl)
theorem dX8_law_63 : decode cX8_law 63 = .ok (.sipush 305, 3) := dk_17 1 49 (dk_at dksX8_law_2 15 rfl rfl)
theorem dX8_law_66 : decode cX8_law 66 = .ok (.iload_n 2, 1) := dk_28 (dk_at dksX8_law_2 18 rfl rfl)
theorem dX8_law_67 : decode cX8_law 67 = .ok (.iadd, 1) := dk_96 (dk_at dksX8_law_2 19 rfl rfl)
theorem dX8_law_68 : decode cX8_law 68 = .ok (.aload_n 0, 1) := dk_42 (dk_at dksX8_law_2 20 rfl rfl)
theorem dX8_law_69 : decode cX8_law 69 = .ok (.getfield 13, 3) := dk_180 0 13 (dk_at dksX8_law_2 21 rfl rfl)
theorem dX8_law_72 : decode cX8_law 72 = .ok (.sipush 1154, 3) := dk_17 4 130 (dk_at dksX8_law_3 0 rfl rfl)
theorem dX8_law_75 : decode cX8_law 75 = .ok (.iload_n 2, 1) := dk_28 (dk_at dksX8_law_3 3 rfl rfl)
theorem dX8_law_76 : decode cX8_law 76 = .ok (.iadd, 1) := dk_96 (dk_at dksX8_law_3 4 rfl rfl)
theorem dX8_law_77 : decode cX8_law 77 = .ok (.iaload, 1) := dk_46 (dk_at dksX8_law_3 5 rfl rfl)
theorem dX8_law_78 : decode cX8_law 78 = .ok (.iastore, 1) := dk_79 (dk_at dksX8_law_3 6 rfl rfl)
theorem dX8_law_79 : decode cX8_law 79 = .ok (.iinc 2 1, 3) := dk_132 2 1 (dk_at dksX8_law_3 7 rfl rfl)
theorem dX8_law_82 : decode cX8_law 82 = .ok (.goto (-30), 3) := dk_167 255 226 (dk_at dksX8_law_3 10 rfl rfl)
theorem dX8_law_85 : decode cX8_law 85 = .ok (.aload_n 0, 1) := dk_42 (dk_at dksX8_law_3 13 rfl rfl)
theorem dX8_law_86 : decode cX8_law 86 = .ok (.getfield 13, 3) := dk_180 0 13 (dk_at dksX8_law_3 14 rfl rfl)
theorem dX8_law_89 : decode cX8_law 89 = .ok (.iconst 3, 1) := dk_6 (dk_at dksX8_law_3 17 rfl rfl)
theorem dX8_law_90 : decode cX8_law 90 = .ok (.iconst 1, 1) := dk_4 (dk_at dksX8_law_3 18 rfl rfl)
theorem dX8_law_91 : decode cX8_law 91 = .ok (.iastore, 1) := dk_79 (dk_at dksX8_law_3 19 rfl rfl)
theorem dX8_law_92 : decode cX8_law 92 = .ok (.aload_n 0, 1) := dk_42 (dk_at dksX8_law_3 20 rfl rfl)
theorem dX8_law_93 : decode cX8_law 93 = .ok (.iconst 0, 1) := dk_3 (dk_at dksX8_law_3 21 rfl rfl)
theorem dX8_law_94 : decode cX8_law 94 = .ok (.putfield 67, 3) := dk_181 0 67 (dk_at dksX8_law_4 0 rfl rfl)
theorem dX8_law_97 : decode cX8_law 97 = .ok (.iload_n 1, 1) := dk_27 (dk_at dksX8_law_4 3 rfl rfl)
theorem dX8_law_98 : decode cX8_law 98 = .ok (.ireturn, 1) := dk_172 (dk_at dksX8_law_4 4 rfl rfl)
abbrev cX8_prop : ByteArray := prog_18_method_60_code
def yX8_prop : MethodName := ⟨RX8, "prop", "(II)I"⟩
def dkwX8_prop_2 : List UInt8 := [28, 182, 0, 74, 172]
abbrev dktX8_prop_2 : List UInt8 := dkwX8_prop_2 ++ []
def dkwX8_prop_1 : List UInt8 := [184, 0, 87, 154, 0, 7, 4, 167, 0, 4, 3, 5, 182, 1, 6, 153, 0, 7, 3, 167, 0, 9, 42, 27]
abbrev dktX8_prop_1 : List UInt8 := dkwX8_prop_1 ++ dktX8_prop_2
def dkwX8_prop_0 : List UInt8 := [42, 3, 181, 0, 3, 42, 42, 27, 182, 1, 38, 4, 182, 1, 6, 154, 0, 25, 42, 28, 3, 6]
abbrev dktX8_prop_0 : List UInt8 := dkwX8_prop_0 ++ dktX8_prop_1
theorem dksX8_prop_0 : cX8_prop.data.toList.drop 0 = dktX8_prop_0 := by decide +kernel
theorem dksX8_prop_1 : cX8_prop.data.toList.drop 22 = dktX8_prop_1 := dk_seg dksX8_prop_0 22 rfl rfl
theorem dksX8_prop_2 : cX8_prop.data.toList.drop 46 = dktX8_prop_2 := dk_seg dksX8_prop_1 24 rfl rfl
theorem dX8_prop_0 : decode cX8_prop 0 = .ok (.aload_n 0, 1) := dk_42 (dk_at dksX8_prop_0 0 rfl rfl)
theorem dX8_prop_1 : decode cX8_prop 1 = .ok (.iconst 0, 1) := dk_3 (dk_at dksX8_prop_0 1 rfl rfl)
theorem dX8_prop_2 : decode cX8_prop 2 = .ok (.putfield 3, 3) := dk_181 0 3 (dk_at dksX8_prop_0 2 rfl rfl)
theorem dX8_prop_5 : decode cX8_prop 5 = .ok (.aload_n 0, 1) := dk_42 (dk_at dksX8_prop_0 5 rfl rfl)
theorem dX8_prop_6 : decode cX8_prop 6 = .ok (.aload_n 0, 1) := dk_42 (dk_at dksX8_prop_0 6 rfl rfl)
theorem dX8_prop_7 : decode cX8_prop 7 = .ok (.iload_n 1, 1) := dk_27 (dk_at dksX8_prop_0 7 rfl rfl)
theorem dX8_prop_8 : decode cX8_prop 8 = .ok (.invokevirtual 294, 3) := dk_182 1 38 (dk_at dksX8_prop_0 8 rfl rfl)
theorem dX8_prop_11 : decode cX8_prop 11 = .ok (.iconst 1, 1) := dk_4 (dk_at dksX8_prop_0 11 rfl rfl)
theorem dX8_prop_12 : decode cX8_prop 12 = .ok (.invokevirtual 262, 3) := dk_182 1 6 (dk_at dksX8_prop_0 12 rfl rfl)
theorem dX8_prop_15 : decode cX8_prop 15 = .ok (.ifCond .ne 25, 3) := dk_154 0 25 (dk_at dksX8_prop_0 15 rfl rfl)
theorem dX8_prop_18 : decode cX8_prop 18 = .ok (.aload_n 0, 1) := dk_42 (dk_at dksX8_prop_0 18 rfl rfl)
theorem dX8_prop_19 : decode cX8_prop 19 = .ok (.iload_n 2, 1) := dk_28 (dk_at dksX8_prop_0 19 rfl rfl)
theorem dX8_prop_20 : decode cX8_prop 20 = .ok (.iconst 0, 1) := dk_3 (dk_at dksX8_prop_0 20 rfl rfl)
theorem dX8_prop_21 : decode cX8_prop 21 = .ok (.iconst 3, 1) := dk_6 (dk_at dksX8_prop_0 21 rfl rfl)
theorem dX8_prop_22 : decode cX8_prop 22 = .ok (.invokestatic 87, 3) := dk_184 0 87 (dk_at dksX8_prop_1 0 rfl rfl)
theorem dX8_prop_25 : decode cX8_prop 25 = .ok (.ifCond .ne 7, 3) := dk_154 0 7 (dk_at dksX8_prop_1 3 rfl rfl)
theorem dX8_prop_28 : decode cX8_prop 28 = .ok (.iconst 1, 1) := dk_4 (dk_at dksX8_prop_1 6 rfl rfl)
theorem dX8_prop_29 : decode cX8_prop 29 = .ok (.goto 4, 3) := dk_167 0 4 (dk_at dksX8_prop_1 7 rfl rfl)
theorem dX8_prop_32 : decode cX8_prop 32 = .ok (.iconst 0, 1) := dk_3 (dk_at dksX8_prop_1 10 rfl rfl)
theorem dX8_prop_33 : decode cX8_prop 33 = .ok (.iconst 2, 1) := dk_5 (dk_at dksX8_prop_1 11 rfl rfl)
theorem dX8_prop_34 : decode cX8_prop 34 = .ok (.invokevirtual 262, 3) := dk_182 1 6 (dk_at dksX8_prop_1 12 rfl rfl)
theorem dX8_prop_37 : decode cX8_prop 37 = .ok (.ifCond .eq 7, 3) := dk_153 0 7 (dk_at dksX8_prop_1 15 rfl rfl)
theorem dX8_prop_40 : decode cX8_prop 40 = .ok (.iconst 0, 1) := dk_3 (dk_at dksX8_prop_1 18 rfl rfl)
theorem dX8_prop_41 : decode cX8_prop 41 = .ok (.goto 9, 3) := dk_167 0 9 (dk_at dksX8_prop_1 19 rfl rfl)
theorem dX8_prop_44 : decode cX8_prop 44 = .ok (.aload_n 0, 1) := dk_42 (dk_at dksX8_prop_1 22 rfl rfl)
theorem dX8_prop_45 : decode cX8_prop 45 = .ok (.iload_n 1, 1) := dk_27 (dk_at dksX8_prop_1 23 rfl rfl)
theorem dX8_prop_46 : decode cX8_prop 46 = .ok (.iload_n 2, 1) := dk_28 (dk_at dksX8_prop_2 0 rfl rfl)
theorem dX8_prop_47 : decode cX8_prop 47 = .ok (.invokevirtual 74, 3) := dk_182 0 74 (dk_at dksX8_prop_2 1 rfl rfl)
theorem dX8_prop_50 : decode cX8_prop 50 = .ok (.ireturn, 1) := dk_172 (dk_at dksX8_prop_2 4 rfl rfl)
abbrev cX8_noProp : ByteArray := prog_18_method_19_code
def yX8_noProp : MethodName := ⟨RX8, "noProp", "(I)Z"⟩
def dkwX8_noProp_0 : List UInt8 := [27, 3, 42, 182, 0, 83, 4, 100, 184, 0, 87, 154, 0, 7, 4, 167, 0, 4, 3, 172]
abbrev dktX8_noProp_0 : List UInt8 := dkwX8_noProp_0 ++ []
theorem dksX8_noProp_0 : cX8_noProp.data.toList.drop 0 = dktX8_noProp_0 := by decide +kernel
theorem dX8_noProp_0 : decode cX8_noProp 0 = .ok (.iload_n 1, 1) := dk_27 (dk_at dksX8_noProp_0 0 rfl rfl)
theorem dX8_noProp_1 : decode cX8_noProp 1 = .ok (.iconst 0, 1) := dk_3 (dk_at dksX8_noProp_0 1 rfl rfl)
theorem dX8_noProp_2 : decode cX8_noProp 2 = .ok (.aload_n 0, 1) := dk_42 (dk_at dksX8_noProp_0 2 rfl rfl)
theorem dX8_noProp_3 : decode cX8_noProp 3 = .ok (.invokevirtual 83, 3) := dk_182 0 83 (dk_at dksX8_noProp_0 3 rfl rfl)
theorem dX8_noProp_6 : decode cX8_noProp 6 = .ok (.iconst 1, 1) := dk_4 (dk_at dksX8_noProp_0 6 rfl rfl)
theorem dX8_noProp_7 : decode cX8_noProp 7 = .ok (.isub, 1) := dk_100 (dk_at dksX8_noProp_0 7 rfl rfl)
theorem dX8_noProp_8 : decode cX8_noProp 8 = .ok (.invokestatic 87, 3) := dk_184 0 87 (dk_at dksX8_noProp_0 8 rfl rfl)
theorem dX8_noProp_11 : decode cX8_noProp 11 = .ok (.ifCond .ne 7, 3) := dk_154 0 7 (dk_at dksX8_noProp_0 11 rfl rfl)
theorem dX8_noProp_14 : decode cX8_noProp 14 = .ok (.iconst 1, 1) := dk_4 (dk_at dksX8_noProp_0 14 rfl rfl)
theorem dX8_noProp_15 : decode cX8_noProp 15 = .ok (.goto 4, 3) := dk_167 0 4 (dk_at dksX8_noProp_0 15 rfl rfl)
theorem dX8_noProp_18 : decode cX8_noProp 18 = .ok (.iconst 0, 1) := dk_3 (dk_at dksX8_noProp_0 18 rfl rfl)
theorem dX8_noProp_19 : decode cX8_noProp 19 = .ok (.ireturn, 1) := dk_172 (dk_at dksX8_noProp_0 19 rfl rfl)
abbrev cX8_slot : ByteArray := prog_18_method_61_code
def yX8_slot : MethodName := ⟨RX8, "slot", "(I)I"⟩
def dkwX8_slot_1 : List UInt8 := [182, 0, 160, 172]
abbrev dktX8_slot_1 : List UInt8 := dkwX8_slot_1 ++ []
def dkwX8_slot_0 : List UInt8 := [42, 3, 181, 0, 3, 42, 27, 184, 1, 41, 4, 182, 1, 6, 153, 0, 7, 3, 167, 0, 8, 42, 27]
abbrev dktX8_slot_0 : List UInt8 := dkwX8_slot_0 ++ dktX8_slot_1
theorem dksX8_slot_0 : cX8_slot.data.toList.drop 0 = dktX8_slot_0 := by decide +kernel
theorem dksX8_slot_1 : cX8_slot.data.toList.drop 23 = dktX8_slot_1 := dk_seg dksX8_slot_0 23 rfl rfl
theorem dX8_slot_0 : decode cX8_slot 0 = .ok (.aload_n 0, 1) := dk_42 (dk_at dksX8_slot_0 0 rfl rfl)
theorem dX8_slot_1 : decode cX8_slot 1 = .ok (.iconst 0, 1) := dk_3 (dk_at dksX8_slot_0 1 rfl rfl)
theorem dX8_slot_2 : decode cX8_slot 2 = .ok (.putfield 3, 3) := dk_181 0 3 (dk_at dksX8_slot_0 2 rfl rfl)
theorem dX8_slot_5 : decode cX8_slot 5 = .ok (.aload_n 0, 1) := dk_42 (dk_at dksX8_slot_0 5 rfl rfl)
theorem dX8_slot_6 : decode cX8_slot 6 = .ok (.iload_n 1, 1) := dk_27 (dk_at dksX8_slot_0 6 rfl rfl)
theorem dX8_slot_7 : decode cX8_slot 7 = .ok (.invokestatic 297, 3) := dk_184 1 41 (dk_at dksX8_slot_0 7 rfl rfl)
theorem dX8_slot_10 : decode cX8_slot 10 = .ok (.iconst 1, 1) := dk_4 (dk_at dksX8_slot_0 10 rfl rfl)
theorem dX8_slot_11 : decode cX8_slot 11 = .ok (.invokevirtual 262, 3) := dk_182 1 6 (dk_at dksX8_slot_0 11 rfl rfl)
theorem dX8_slot_14 : decode cX8_slot 14 = .ok (.ifCond .eq 7, 3) := dk_153 0 7 (dk_at dksX8_slot_0 14 rfl rfl)
theorem dX8_slot_17 : decode cX8_slot 17 = .ok (.iconst 0, 1) := dk_3 (dk_at dksX8_slot_0 17 rfl rfl)
theorem dX8_slot_18 : decode cX8_slot 18 = .ok (.goto 8, 3) := dk_167 0 8 (dk_at dksX8_slot_0 18 rfl rfl)
theorem dX8_slot_21 : decode cX8_slot 21 = .ok (.aload_n 0, 1) := dk_42 (dk_at dksX8_slot_0 21 rfl rfl)
theorem dX8_slot_22 : decode cX8_slot 22 = .ok (.iload_n 1, 1) := dk_27 (dk_at dksX8_slot_0 22 rfl rfl)
theorem dX8_slot_23 : decode cX8_slot 23 = .ok (.invokevirtual 160, 3) := dk_182 0 160 (dk_at dksX8_slot_1 0 rfl rfl)
theorem dX8_slot_26 : decode cX8_slot 26 = .ok (.ireturn, 1) := dk_172 (dk_at dksX8_slot_1 3 rfl rfl)
abbrev cX8_noSlot : ByteArray := prog_18_method_21_code
def yX8_noSlot : MethodName := ⟨RX8, "noSlot", "(I)Z"⟩
def dkwX8_noSlot_0 : List UInt8 := [26, 3, 16, 9, 184, 0, 87, 154, 0, 7, 4, 167, 0, 4, 3, 172]
abbrev dktX8_noSlot_0 : List UInt8 := dkwX8_noSlot_0 ++ []
theorem dksX8_noSlot_0 : cX8_noSlot.data.toList.drop 0 = dktX8_noSlot_0 := by decide +kernel
theorem dX8_noSlot_0 : decode cX8_noSlot 0 = .ok (.iload_n 0, 1) := dk_26 (dk_at dksX8_noSlot_0 0 rfl rfl)
theorem dX8_noSlot_1 : decode cX8_noSlot 1 = .ok (.iconst 0, 1) := dk_3 (dk_at dksX8_noSlot_0 1 rfl rfl)
theorem dX8_noSlot_2 : decode cX8_noSlot 2 = .ok (.bipush 9, 2) := dk_16 9 (dk_at dksX8_noSlot_0 2 rfl rfl)
theorem dX8_noSlot_4 : decode cX8_noSlot 4 = .ok (.invokestatic 87, 3) := dk_184 0 87 (dk_at dksX8_noSlot_0 4 rfl rfl)
theorem dX8_noSlot_7 : decode cX8_noSlot 7 = .ok (.ifCond .ne 7, 3) := dk_154 0 7 (dk_at dksX8_noSlot_0 7 rfl rfl)
theorem dX8_noSlot_10 : decode cX8_noSlot 10 = .ok (.iconst 1, 1) := dk_4 (dk_at dksX8_noSlot_0 10 rfl rfl)
theorem dX8_noSlot_11 : decode cX8_noSlot 11 = .ok (.goto 4, 3) := dk_167 0 4 (dk_at dksX8_noSlot_0 11 rfl rfl)
theorem dX8_noSlot_14 : decode cX8_noSlot 14 = .ok (.iconst 0, 1) := dk_3 (dk_at dksX8_noSlot_0 14 rfl rfl)
theorem dX8_noSlot_15 : decode cX8_noSlot 15 = .ok (.ireturn, 1) := dk_172 (dk_at dksX8_noSlot_0 15 rfl rfl)
abbrev cX8_accused : ByteArray := prog_18_method_62_code
def yX8_accused : MethodName := ⟨RX8, "accused", "(II)I"⟩
def dkwX8_accused_2 : List UInt8 := [28, 182, 0, 80, 172]
abbrev dktX8_accused_2 : List UInt8 := dkwX8_accused_2 ++ []
def dkwX8_accused_1 : List UInt8 := [184, 0, 87, 154, 0, 7, 4, 167, 0, 4, 3, 5, 182, 1, 6, 153, 0, 7, 3, 167, 0, 9, 42, 27]
abbrev dktX8_accused_1 : List UInt8 := dkwX8_accused_1 ++ dktX8_accused_2
def dkwX8_accused_0 : List UInt8 := [42, 3, 181, 0, 3, 42, 42, 27, 182, 1, 44, 4, 182, 1, 6, 154, 0, 25, 42, 28, 3, 6]
abbrev dktX8_accused_0 : List UInt8 := dkwX8_accused_0 ++ dktX8_accused_1
theorem dksX8_accused_0 : cX8_accused.data.toList.drop 0 = dktX8_accused_0 := by decide +kernel
theorem dksX8_accused_1 : cX8_accused.data.toList.drop 22 = dktX8_accused_1 := dk_seg dksX8_accused_0 22 rfl rfl
theorem dksX8_accused_2 : cX8_accused.data.toList.drop 46 = dktX8_accused_2 := dk_seg dksX8_accused_1 24 rfl rfl
theorem dX8_accused_0 : decode cX8_accused 0 = .ok (.aload_n 0, 1) := dk_42 (dk_at dksX8_accused_0 0 rfl rfl)
theorem dX8_accused_1 : decode cX8_accused 1 = .ok (.iconst 0, 1) := dk_3 (dk_at dksX8_accused_0 1 rfl rfl)
theorem dX8_accused_2 : decode cX8_accused 2 = .ok (.putfield 3, 3) := dk_181 0 3 (dk_at dksX8_accused_0 2 rfl rfl)
theorem dX8_accused_5 : decode cX8_accused 5 = .ok (.aload_n 0, 1) := dk_42 (dk_at dksX8_accused_0 5 rfl rfl)
theorem dX8_accused_6 : decode cX8_accused 6 = .ok (.aload_n 0, 1) := dk_42 (dk_at dksX8_accused_0 6 rfl rfl)
theorem dX8_accused_7 : decode cX8_accused 7 = .ok (.iload_n 1, 1) := dk_27 (dk_at dksX8_accused_0 7 rfl rfl)
theorem dX8_accused_8 : decode cX8_accused 8 = .ok (.invokevirtual 300, 3) := dk_182 1 44 (dk_at dksX8_accused_0 8 rfl rfl)
theorem dX8_accused_11 : decode cX8_accused 11 = .ok (.iconst 1, 1) := dk_4 (dk_at dksX8_accused_0 11 rfl rfl)
theorem dX8_accused_12 : decode cX8_accused 12 = .ok (.invokevirtual 262, 3) := dk_182 1 6 (dk_at dksX8_accused_0 12 rfl rfl)
theorem dX8_accused_15 : decode cX8_accused 15 = .ok (.ifCond .ne 25, 3) := dk_154 0 25 (dk_at dksX8_accused_0 15 rfl rfl)
theorem dX8_accused_18 : decode cX8_accused 18 = .ok (.aload_n 0, 1) := dk_42 (dk_at dksX8_accused_0 18 rfl rfl)
theorem dX8_accused_19 : decode cX8_accused 19 = .ok (.iload_n 2, 1) := dk_28 (dk_at dksX8_accused_0 19 rfl rfl)
theorem dX8_accused_20 : decode cX8_accused 20 = .ok (.iconst 0, 1) := dk_3 (dk_at dksX8_accused_0 20 rfl rfl)
theorem dX8_accused_21 : decode cX8_accused 21 = .ok (.iconst 3, 1) := dk_6 (dk_at dksX8_accused_0 21 rfl rfl)
theorem dX8_accused_22 : decode cX8_accused 22 = .ok (.invokestatic 87, 3) := dk_184 0 87 (dk_at dksX8_accused_1 0 rfl rfl)
theorem dX8_accused_25 : decode cX8_accused 25 = .ok (.ifCond .ne 7, 3) := dk_154 0 7 (dk_at dksX8_accused_1 3 rfl rfl)
theorem dX8_accused_28 : decode cX8_accused 28 = .ok (.iconst 1, 1) := dk_4 (dk_at dksX8_accused_1 6 rfl rfl)
theorem dX8_accused_29 : decode cX8_accused 29 = .ok (.goto 4, 3) := dk_167 0 4 (dk_at dksX8_accused_1 7 rfl rfl)
theorem dX8_accused_32 : decode cX8_accused 32 = .ok (.iconst 0, 1) := dk_3 (dk_at dksX8_accused_1 10 rfl rfl)
theorem dX8_accused_33 : decode cX8_accused 33 = .ok (.iconst 2, 1) := dk_5 (dk_at dksX8_accused_1 11 rfl rfl)
theorem dX8_accused_34 : decode cX8_accused 34 = .ok (.invokevirtual 262, 3) := dk_182 1 6 (dk_at dksX8_accused_1 12 rfl rfl)
theorem dX8_accused_37 : decode cX8_accused 37 = .ok (.ifCond .eq 7, 3) := dk_153 0 7 (dk_at dksX8_accused_1 15 rfl rfl)
theorem dX8_accused_40 : decode cX8_accused 40 = .ok (.iconst 0, 1) := dk_3 (dk_at dksX8_accused_1 18 rfl rfl)
theorem dX8_accused_41 : decode cX8_accused 41 = .ok (.goto 9, 3) := dk_167 0 9 (dk_at dksX8_accused_1 19 rfl rfl)
theorem dX8_accused_44 : decode cX8_accused 44 = .ok (.aload_n 0, 1) := dk_42 (dk_at dksX8_accused_1 22 rfl rfl)
theorem dX8_accused_45 : decode cX8_accused 45 = .ok (.iload_n 1, 1) := dk_27 (dk_at dksX8_accused_1 23 rfl rfl)
theorem dX8_accused_46 : decode cX8_accused 46 = .ok (.iload_n 2, 1) := dk_28 (dk_at dksX8_accused_2 0 rfl rfl)
theorem dX8_accused_47 : decode cX8_accused 47 = .ok (.invokevirtual 80, 3) := dk_182 0 80 (dk_at dksX8_accused_2 1 rfl rfl)
theorem dX8_accused_50 : decode cX8_accused 50 = .ok (.ireturn, 1) := dk_172 (dk_at dksX8_accused_2 4 rfl rfl)
abbrev cX8_noOne : ByteArray := prog_18_method_20_code
def yX8_noOne : MethodName := ⟨RX8, "noOne", "(I)Z"⟩
def dkwX8_noOne_0 : List UInt8 := [27, 3, 42, 182, 0, 91, 4, 100, 184, 0, 87, 154, 0, 7, 4, 167, 0, 4, 3, 172]
abbrev dktX8_noOne_0 : List UInt8 := dkwX8_noOne_0 ++ []
theorem dksX8_noOne_0 : cX8_noOne.data.toList.drop 0 = dktX8_noOne_0 := by decide +kernel
theorem dX8_noOne_0 : decode cX8_noOne 0 = .ok (.iload_n 1, 1) := dk_27 (dk_at dksX8_noOne_0 0 rfl rfl)
theorem dX8_noOne_1 : decode cX8_noOne 1 = .ok (.iconst 0, 1) := dk_3 (dk_at dksX8_noOne_0 1 rfl rfl)
theorem dX8_noOne_2 : decode cX8_noOne 2 = .ok (.aload_n 0, 1) := dk_42 (dk_at dksX8_noOne_0 2 rfl rfl)
theorem dX8_noOne_3 : decode cX8_noOne 3 = .ok (.invokevirtual 91, 3) := dk_182 0 91 (dk_at dksX8_noOne_0 3 rfl rfl)
theorem dX8_noOne_6 : decode cX8_noOne 6 = .ok (.iconst 1, 1) := dk_4 (dk_at dksX8_noOne_0 6 rfl rfl)
theorem dX8_noOne_7 : decode cX8_noOne 7 = .ok (.isub, 1) := dk_100 (dk_at dksX8_noOne_0 7 rfl rfl)
theorem dX8_noOne_8 : decode cX8_noOne 8 = .ok (.invokestatic 87, 3) := dk_184 0 87 (dk_at dksX8_noOne_0 8 rfl rfl)
theorem dX8_noOne_11 : decode cX8_noOne 11 = .ok (.ifCond .ne 7, 3) := dk_154 0 7 (dk_at dksX8_noOne_0 11 rfl rfl)
theorem dX8_noOne_14 : decode cX8_noOne 14 = .ok (.iconst 1, 1) := dk_4 (dk_at dksX8_noOne_0 14 rfl rfl)
theorem dX8_noOne_15 : decode cX8_noOne 15 = .ok (.goto 4, 3) := dk_167 0 4 (dk_at dksX8_noOne_0 15 rfl rfl)
theorem dX8_noOne_18 : decode cX8_noOne 18 = .ok (.iconst 0, 1) := dk_3 (dk_at dksX8_noOne_0 18 rfl rfl)
theorem dX8_noOne_19 : decode cX8_noOne 19 = .ok (.ireturn, 1) := dk_172 (dk_at dksX8_noOne_0 19 rfl rfl)
abbrev cX8_of : ByteArray := prog_18_method_16_code
def yX8_of : MethodName := ⟨RX8, "of", "(II)I"⟩
def dkwX8_of_0 : List UInt8 := [42, 180, 0, 13, 27, 28, 184, 0, 77, 46, 172]
abbrev dktX8_of_0 : List UInt8 := dkwX8_of_0 ++ []
theorem dksX8_of_0 : cX8_of.data.toList.drop 0 = dktX8_of_0 := by decide +kernel
theorem dX8_of_0 : decode cX8_of 0 = .ok (.aload_n 0, 1) := dk_42 (dk_at dksX8_of_0 0 rfl rfl)
theorem dX8_of_1 : decode cX8_of 1 = .ok (.getfield 13, 3) := dk_180 0 13 (dk_at dksX8_of_0 1 rfl rfl)
theorem dX8_of_4 : decode cX8_of 4 = .ok (.iload_n 1, 1) := dk_27 (dk_at dksX8_of_0 4 rfl rfl)
theorem dX8_of_5 : decode cX8_of 5 = .ok (.iload_n 2, 1) := dk_28 (dk_at dksX8_of_0 5 rfl rfl)
theorem dX8_of_6 : decode cX8_of 6 = .ok (.invokestatic 77, 3) := dk_184 0 77 (dk_at dksX8_of_0 6 rfl rfl)
theorem dX8_of_9 : decode cX8_of 9 = .ok (.iaload, 1) := dk_46 (dk_at dksX8_of_0 9 rfl rfl)
theorem dX8_of_10 : decode cX8_of 10 = .ok (.ireturn, 1) := dk_172 (dk_at dksX8_of_0 10 rfl rfl)
abbrev cX8_fright : ByteArray := prog_18_method_63_code
def yX8_fright : MethodName := ⟨RX8, "fright", "(IIIZ)I"⟩
def dkwX8_fright_4 : List UInt8 := [167, 0, 10, 42, 21, 5, 29, 182, 1, 54, 172]
abbrev dktX8_fright_4 : List UInt8 := dkwX8_fright_4 ++ []
def dkwX8_fright_3 : List UInt8 := [160, 0, 5, 3, 172, 42, 27, 182, 1, 47, 21, 4, 153, 0, 13, 42, 21, 5, 29, 182, 1, 51]
abbrev dktX8_fright_3 : List UInt8 := dkwX8_fright_3 ++ dktX8_fright_4
def dkwX8_fright_2 : List UInt8 := [167, 0, 4, 3, 5, 182, 1, 6, 153, 0, 5, 3, 172, 42, 28, 182, 0, 160, 54, 5, 21, 5, 2]
abbrev dktX8_fright_2 : List UInt8 := dkwX8_fright_2 ++ dktX8_fright_3
def dkwX8_fright_1 : List UInt8 := [167, 0, 4, 3, 4, 182, 1, 6, 154, 0, 26, 42, 29, 3, 16, 99, 184, 0, 87, 154, 0, 7, 4]
abbrev dktX8_fright_1 : List UInt8 := dkwX8_fright_1 ++ dktX8_fright_2
def dkwX8_fright_0 : List UInt8 := [42, 3, 181, 0, 3, 42, 42, 27, 182, 1, 44, 154, 0, 10, 28, 184, 1, 41, 153, 0, 7, 4]
abbrev dktX8_fright_0 : List UInt8 := dkwX8_fright_0 ++ dktX8_fright_1
theorem dksX8_fright_0 : cX8_fright.data.toList.drop 0 = dktX8_fright_0 := by decide +kernel
theorem dksX8_fright_1 : cX8_fright.data.toList.drop 22 = dktX8_fright_1 := dk_seg dksX8_fright_0 22 rfl rfl
theorem dksX8_fright_2 : cX8_fright.data.toList.drop 45 = dktX8_fright_2 := dk_seg dksX8_fright_1 23 rfl rfl
theorem dksX8_fright_3 : cX8_fright.data.toList.drop 68 = dktX8_fright_3 := dk_seg dksX8_fright_2 23 rfl rfl
theorem dksX8_fright_4 : cX8_fright.data.toList.drop 90 = dktX8_fright_4 := dk_seg dksX8_fright_3 22 rfl rfl
theorem dX8_fright_0 : decode cX8_fright 0 = .ok (.aload_n 0, 1) := dk_42 (dk_at dksX8_fright_0 0 rfl rfl)
theorem dX8_fright_1 : decode cX8_fright 1 = .ok (.iconst 0, 1) := dk_3 (dk_at dksX8_fright_0 1 rfl rfl)
theorem dX8_fright_2 : decode cX8_fright 2 = .ok (.putfield 3, 3) := dk_181 0 3 (dk_at dksX8_fright_0 2 rfl rfl)
theorem dX8_fright_5 : decode cX8_fright 5 = .ok (.aload_n 0, 1) := dk_42 (dk_at dksX8_fright_0 5 rfl rfl)
theorem dX8_fright_6 : decode cX8_fright 6 = .ok (.aload_n 0, 1) := dk_42 (dk_at dksX8_fright_0 6 rfl rfl)
theorem dX8_fright_7 : decode cX8_fright 7 = .ok (.iload_n 1, 1) := dk_27 (dk_at dksX8_fright_0 7 rfl rfl)
theorem dX8_fright_8 : decode cX8_fright 8 = .ok (.invokevirtual 300, 3) := dk_182 1 44 (dk_at dksX8_fright_0 8 rfl rfl)
theorem dX8_fright_11 : decode cX8_fright 11 = .ok (.ifCond .ne 10, 3) := dk_154 0 10 (dk_at dksX8_fright_0 11 rfl rfl)
theorem dX8_fright_14 : decode cX8_fright 14 = .ok (.iload_n 2, 1) := dk_28 (dk_at dksX8_fright_0 14 rfl rfl)
theorem dX8_fright_15 : decode cX8_fright 15 = .ok (.invokestatic 297, 3) := dk_184 1 41 (dk_at dksX8_fright_0 15 rfl rfl)
theorem dX8_fright_18 : decode cX8_fright 18 = .ok (.ifCond .eq 7, 3) := dk_153 0 7 (dk_at dksX8_fright_0 18 rfl rfl)
theorem dX8_fright_21 : decode cX8_fright 21 = .ok (.iconst 1, 1) := dk_4 (dk_at dksX8_fright_0 21 rfl rfl)
theorem dX8_fright_22 : decode cX8_fright 22 = .ok (.goto 4, 3) := dk_167 0 4 (dk_at dksX8_fright_1 0 rfl rfl)
theorem dX8_fright_25 : decode cX8_fright 25 = .ok (.iconst 0, 1) := dk_3 (dk_at dksX8_fright_1 3 rfl rfl)
theorem dX8_fright_26 : decode cX8_fright 26 = .ok (.iconst 1, 1) := dk_4 (dk_at dksX8_fright_1 4 rfl rfl)
theorem dX8_fright_27 : decode cX8_fright 27 = .ok (.invokevirtual 262, 3) := dk_182 1 6 (dk_at dksX8_fright_1 5 rfl rfl)
theorem dX8_fright_30 : decode cX8_fright 30 = .ok (.ifCond .ne 26, 3) := dk_154 0 26 (dk_at dksX8_fright_1 8 rfl rfl)
theorem dX8_fright_33 : decode cX8_fright 33 = .ok (.aload_n 0, 1) := dk_42 (dk_at dksX8_fright_1 11 rfl rfl)
theorem dX8_fright_34 : decode cX8_fright 34 = .ok (.iload_n 3, 1) := dk_29 (dk_at dksX8_fright_1 12 rfl rfl)
theorem dX8_fright_35 : decode cX8_fright 35 = .ok (.iconst 0, 1) := dk_3 (dk_at dksX8_fright_1 13 rfl rfl)
theorem dX8_fright_36 : decode cX8_fright 36 = .ok (.bipush 99, 2) := dk_16 99 (dk_at dksX8_fright_1 14 rfl rfl)
theorem dX8_fright_38 : decode cX8_fright 38 = .ok (.invokestatic 87, 3) := dk_184 0 87 (dk_at dksX8_fright_1 16 rfl rfl)
theorem dX8_fright_41 : decode cX8_fright 41 = .ok (.ifCond .ne 7, 3) := dk_154 0 7 (dk_at dksX8_fright_1 19 rfl rfl)
theorem dX8_fright_44 : decode cX8_fright 44 = .ok (.iconst 1, 1) := dk_4 (dk_at dksX8_fright_1 22 rfl rfl)
theorem dX8_fright_45 : decode cX8_fright 45 = .ok (.goto 4, 3) := dk_167 0 4 (dk_at dksX8_fright_2 0 rfl rfl)
theorem dX8_fright_48 : decode cX8_fright 48 = .ok (.iconst 0, 1) := dk_3 (dk_at dksX8_fright_2 3 rfl rfl)
theorem dX8_fright_49 : decode cX8_fright 49 = .ok (.iconst 2, 1) := dk_5 (dk_at dksX8_fright_2 4 rfl rfl)
theorem dX8_fright_50 : decode cX8_fright 50 = .ok (.invokevirtual 262, 3) := dk_182 1 6 (dk_at dksX8_fright_2 5 rfl rfl)
theorem dX8_fright_53 : decode cX8_fright 53 = .ok (.ifCond .eq 5, 3) := dk_153 0 5 (dk_at dksX8_fright_2 8 rfl rfl)
theorem dX8_fright_56 : decode cX8_fright 56 = .ok (.iconst 0, 1) := dk_3 (dk_at dksX8_fright_2 11 rfl rfl)
theorem dX8_fright_57 : decode cX8_fright 57 = .ok (.ireturn, 1) := dk_172 (dk_at dksX8_fright_2 12 rfl rfl)
theorem dX8_fright_58 : decode cX8_fright 58 = .ok (.aload_n 0, 1) := dk_42 (dk_at dksX8_fright_2 13 rfl rfl)
theorem dX8_fright_59 : decode cX8_fright 59 = .ok (.iload_n 2, 1) := dk_28 (dk_at dksX8_fright_2 14 rfl rfl)
theorem dX8_fright_60 : decode cX8_fright 60 = .ok (.invokevirtual 160, 3) := dk_182 0 160 (dk_at dksX8_fright_2 15 rfl rfl)
theorem dX8_fright_63 : decode cX8_fright 63 = .ok (.istore 5, 2) := dk_54 5 (dk_at dksX8_fright_2 18 rfl rfl)
theorem dX8_fright_65 : decode cX8_fright 65 = .ok (.iload 5, 2) := dk_21 5 (dk_at dksX8_fright_2 20 rfl rfl)
theorem dX8_fright_67 : decode cX8_fright 67 = .ok (.iconst (-1), 1) := dk_2 (dk_at dksX8_fright_2 22 rfl rfl)
theorem dX8_fright_68 : decode cX8_fright 68 = .ok (.if_icmp .ne 5, 3) := dk_160 0 5 (dk_at dksX8_fright_3 0 rfl rfl)
theorem dX8_fright_71 : decode cX8_fright 71 = .ok (.iconst 0, 1) := dk_3 (dk_at dksX8_fright_3 3 rfl rfl)
theorem dX8_fright_72 : decode cX8_fright 72 = .ok (.ireturn, 1) := dk_172 (dk_at dksX8_fright_3 4 rfl rfl)
theorem dX8_fright_73 : decode cX8_fright 73 = .ok (.aload_n 0, 1) := dk_42 (dk_at dksX8_fright_3 5 rfl rfl)
theorem dX8_fright_74 : decode cX8_fright 74 = .ok (.iload_n 1, 1) := dk_27 (dk_at dksX8_fright_3 6 rfl rfl)
theorem dX8_fright_75 : decode cX8_fright 75 = .ok (.invokevirtual 303, 3) := dk_182 1 47 (dk_at dksX8_fright_3 7 rfl rfl)
theorem dX8_fright_78 : decode cX8_fright 78 = .ok (.iload 4, 2) := dk_21 4 (dk_at dksX8_fright_3 10 rfl rfl)
theorem dX8_fright_80 : decode cX8_fright 80 = .ok (.ifCond .eq 13, 3) := dk_153 0 13 (dk_at dksX8_fright_3 12 rfl rfl)
theorem dX8_fright_83 : decode cX8_fright 83 = .ok (.aload_n 0, 1) := dk_42 (dk_at dksX8_fright_3 15 rfl rfl)
theorem dX8_fright_84 : decode cX8_fright 84 = .ok (.iload 5, 2) := dk_21 5 (dk_at dksX8_fright_3 16 rfl rfl)
theorem dX8_fright_86 : decode cX8_fright 86 = .ok (.iload_n 3, 1) := dk_29 (dk_at dksX8_fright_3 18 rfl rfl)
theorem dX8_fright_87 : decode cX8_fright 87 = .ok (.invokevirtual 307, 3) := dk_182 1 51 (dk_at dksX8_fright_3 19 rfl rfl)
theorem dX8_fright_90 : decode cX8_fright 90 = .ok (.goto 10, 3) := dk_167 0 10 (dk_at dksX8_fright_4 0 rfl rfl)
theorem dX8_fright_93 : decode cX8_fright 93 = .ok (.aload_n 0, 1) := dk_42 (dk_at dksX8_fright_4 3 rfl rfl)
theorem dX8_fright_94 : decode cX8_fright 94 = .ok (.iload 5, 2) := dk_21 5 (dk_at dksX8_fright_4 4 rfl rfl)
theorem dX8_fright_96 : decode cX8_fright 96 = .ok (.iload_n 3, 1) := dk_29 (dk_at dksX8_fright_4 6 rfl rfl)
theorem dX8_fright_97 : decode cX8_fright 97 = .ok (.invokevirtual 310, 3) := dk_182 1 54 (dk_at dksX8_fright_4 7 rfl rfl)
theorem dX8_fright_100 : decode cX8_fright 100 = .ok (.ireturn, 1) := dk_172 (dk_at dksX8_fright_4 10 rfl rfl)
abbrev cX8_looksAt : ByteArray := prog_18_method_54_code
def yX8_looksAt : MethodName := ⟨RX8, "looksAt", "(I)V"⟩
def dkwX8_looksAt_1 : List UInt8 := [182, 0, 80, 181, 1, 15, 177]
abbrev dktX8_looksAt_1 : List UInt8 := dkwX8_looksAt_1 ++ []
def dkwX8_looksAt_0 : List UInt8 := [42, 42, 27, 3, 182, 0, 80, 181, 1, 9, 42, 42, 27, 4, 182, 0, 80, 181, 1, 12, 42, 42, 27, 5]
abbrev dktX8_looksAt_0 : List UInt8 := dkwX8_looksAt_0 ++ dktX8_looksAt_1
theorem dksX8_looksAt_0 : cX8_looksAt.data.toList.drop 0 = dktX8_looksAt_0 := by decide +kernel
theorem dksX8_looksAt_1 : cX8_looksAt.data.toList.drop 24 = dktX8_looksAt_1 := dk_seg dksX8_looksAt_0 24 rfl rfl
theorem dX8_looksAt_0 : decode cX8_looksAt 0 = .ok (.aload_n 0, 1) := dk_42 (dk_at dksX8_looksAt_0 0 rfl rfl)
theorem dX8_looksAt_1 : decode cX8_looksAt 1 = .ok (.aload_n 0, 1) := dk_42 (dk_at dksX8_looksAt_0 1 rfl rfl)
theorem dX8_looksAt_2 : decode cX8_looksAt 2 = .ok (.iload_n 1, 1) := dk_27 (dk_at dksX8_looksAt_0 2 rfl rfl)
theorem dX8_looksAt_3 : decode cX8_looksAt 3 = .ok (.iconst 0, 1) := dk_3 (dk_at dksX8_looksAt_0 3 rfl rfl)
theorem dX8_looksAt_4 : decode cX8_looksAt 4 = .ok (.invokevirtual 80, 3) := dk_182 0 80 (dk_at dksX8_looksAt_0 4 rfl rfl)
theorem dX8_looksAt_7 : decode cX8_looksAt 7 = .ok (.putfield 265, 3) := dk_181 1 9 (dk_at dksX8_looksAt_0 7 rfl rfl)
theorem dX8_looksAt_10 : decode cX8_looksAt 10 = .ok (.aload_n 0, 1) := dk_42 (dk_at dksX8_looksAt_0 10 rfl rfl)
theorem dX8_looksAt_11 : decode cX8_looksAt 11 = .ok (.aload_n 0, 1) := dk_42 (dk_at dksX8_looksAt_0 11 rfl rfl)
theorem dX8_looksAt_12 : decode cX8_looksAt 12 = .ok (.iload_n 1, 1) := dk_27 (dk_at dksX8_looksAt_0 12 rfl rfl)
theorem dX8_looksAt_13 : decode cX8_looksAt 13 = .ok (.iconst 1, 1) := dk_4 (dk_at dksX8_looksAt_0 13 rfl rfl)
theorem dX8_looksAt_14 : decode cX8_looksAt 14 = .ok (.invokevirtual 80, 3) := dk_182 0 80 (dk_at dksX8_looksAt_0 14 rfl rfl)
theorem dX8_looksAt_17 : decode cX8_looksAt 17 = .ok (.putfield 268, 3) := dk_181 1 12 (dk_at dksX8_looksAt_0 17 rfl rfl)
theorem dX8_looksAt_20 : decode cX8_looksAt 20 = .ok (.aload_n 0, 1) := dk_42 (dk_at dksX8_looksAt_0 20 rfl rfl)
theorem dX8_looksAt_21 : decode cX8_looksAt 21 = .ok (.aload_n 0, 1) := dk_42 (dk_at dksX8_looksAt_0 21 rfl rfl)
theorem dX8_looksAt_22 : decode cX8_looksAt 22 = .ok (.iload_n 1, 1) := dk_27 (dk_at dksX8_looksAt_0 22 rfl rfl)
theorem dX8_looksAt_23 : decode cX8_looksAt 23 = .ok (.iconst 2, 1) := dk_5 (dk_at dksX8_looksAt_0 23 rfl rfl)
theorem dX8_looksAt_24 : decode cX8_looksAt 24 = .ok (.invokevirtual 80, 3) := dk_182 0 80 (dk_at dksX8_looksAt_1 0 rfl rfl)
theorem dX8_looksAt_27 : decode cX8_looksAt 27 = .ok (.putfield 271, 3) := dk_181 1 15 (dk_at dksX8_looksAt_1 3 rfl rfl)
theorem dX8_looksAt_30 : decode cX8_looksAt 30 = .ok (.return_, 1) := dk_177 (dk_at dksX8_looksAt_1 6 rfl rfl)
abbrev cX8_wearsBy : ByteArray := prog_18_method_59_code
def yX8_wearsBy : MethodName := ⟨RX8, "wearsBy", "(II)I"⟩
def dkwX8_wearsBy_0 : List UInt8 := [42, 27, 181, 1, 18, 42, 28, 181, 1, 21, 4, 42, 5, 182, 1, 30, 96, 172]
abbrev dktX8_wearsBy_0 : List UInt8 := dkwX8_wearsBy_0 ++ []
theorem dksX8_wearsBy_0 : cX8_wearsBy.data.toList.drop 0 = dktX8_wearsBy_0 := by decide +kernel
theorem dX8_wearsBy_0 : decode cX8_wearsBy 0 = .ok (.aload_n 0, 1) := dk_42 (dk_at dksX8_wearsBy_0 0 rfl rfl)
theorem dX8_wearsBy_1 : decode cX8_wearsBy 1 = .ok (.iload_n 1, 1) := dk_27 (dk_at dksX8_wearsBy_0 1 rfl rfl)
theorem dX8_wearsBy_2 : decode cX8_wearsBy 2 = .ok (.putfield 274, 3) := dk_181 1 18 (dk_at dksX8_wearsBy_0 2 rfl rfl)
theorem dX8_wearsBy_5 : decode cX8_wearsBy 5 = .ok (.aload_n 0, 1) := dk_42 (dk_at dksX8_wearsBy_0 5 rfl rfl)
theorem dX8_wearsBy_6 : decode cX8_wearsBy 6 = .ok (.iload_n 2, 1) := dk_28 (dk_at dksX8_wearsBy_0 6 rfl rfl)
theorem dX8_wearsBy_7 : decode cX8_wearsBy 7 = .ok (.putfield 277, 3) := dk_181 1 21 (dk_at dksX8_wearsBy_0 7 rfl rfl)
theorem dX8_wearsBy_10 : decode cX8_wearsBy 10 = .ok (.iconst 1, 1) := dk_4 (dk_at dksX8_wearsBy_0 10 rfl rfl)
theorem dX8_wearsBy_11 : decode cX8_wearsBy 11 = .ok (.aload_n 0, 1) := dk_42 (dk_at dksX8_wearsBy_0 11 rfl rfl)
theorem dX8_wearsBy_12 : decode cX8_wearsBy 12 = .ok (.iconst 2, 1) := dk_5 (dk_at dksX8_wearsBy_0 12 rfl rfl)
theorem dX8_wearsBy_13 : decode cX8_wearsBy 13 = .ok (.invokevirtual 286, 3) := dk_182 1 30 (dk_at dksX8_wearsBy_0 13 rfl rfl)
theorem dX8_wearsBy_16 : decode cX8_wearsBy 16 = .ok (.iadd, 1) := dk_96 (dk_at dksX8_wearsBy_0 16 rfl rfl)
theorem dX8_wearsBy_17 : decode cX8_wearsBy 17 = .ok (.ireturn, 1) := dk_172 (dk_at dksX8_wearsBy_0 17 rfl rfl)
abbrev cX8_sumOf : ByteArray := prog_18_method_57_code
def yX8_sumOf : MethodName := ⟨RX8, "sumOf", "(I)I"⟩
def dkwX8_sumOf_3 : List UInt8 := [167, 255, 190, 28, 172]
abbrev dktX8_sumOf_3 : List UInt8 := dkwX8_sumOf_3 ++ []
def dkwX8_sumOf_2 : List UInt8 := [153, 0, 20, 28, 42, 180, 0, 13, 17, 1, 50, 7, 29, 104, 96, 4, 96, 46, 96, 61, 132, 3, 1]
abbrev dktX8_sumOf_2 : List UInt8 := dkwX8_sumOf_2 ++ dktX8_sumOf_3
def dkwX8_sumOf_1 : List UInt8 := [162, 0, 50, 42, 180, 0, 13, 17, 1, 50, 7, 29, 104, 96, 46, 27, 160, 0, 28, 42, 29, 182, 1, 27]
abbrev dktX8_sumOf_1 : List UInt8 := dkwX8_sumOf_1 ++ dktX8_sumOf_2
def dkwX8_sumOf_0 : List UInt8 := [3, 61, 3, 62, 42, 180, 0, 13, 6, 46, 4, 160, 0, 62, 29, 42, 180, 0, 13, 17, 1, 49, 46]
abbrev dktX8_sumOf_0 : List UInt8 := dkwX8_sumOf_0 ++ dktX8_sumOf_1
theorem dksX8_sumOf_0 : cX8_sumOf.data.toList.drop 0 = dktX8_sumOf_0 := by decide +kernel
theorem dksX8_sumOf_1 : cX8_sumOf.data.toList.drop 23 = dktX8_sumOf_1 := dk_seg dksX8_sumOf_0 23 rfl rfl
theorem dksX8_sumOf_2 : cX8_sumOf.data.toList.drop 47 = dktX8_sumOf_2 := dk_seg dksX8_sumOf_1 24 rfl rfl
theorem dksX8_sumOf_3 : cX8_sumOf.data.toList.drop 70 = dktX8_sumOf_3 := dk_seg dksX8_sumOf_2 23 rfl rfl
theorem dX8_sumOf_0 : decode cX8_sumOf 0 = .ok (.iconst 0, 1) := dk_3 (dk_at dksX8_sumOf_0 0 rfl rfl)
theorem dX8_sumOf_1 : decode cX8_sumOf 1 = .ok (.istore_n 2, 1) := dk_61 (dk_at dksX8_sumOf_0 1 rfl rfl)
theorem dX8_sumOf_2 : decode cX8_sumOf 2 = .ok (.iconst 0, 1) := dk_3 (dk_at dksX8_sumOf_0 2 rfl rfl)
theorem dX8_sumOf_3 : decode cX8_sumOf 3 = .ok (.istore_n 3, 1) := dk_62 (dk_at dksX8_sumOf_0 3 rfl rfl)
theorem dX8_sumOf_4 : decode cX8_sumOf 4 = .ok (.aload_n 0, 1) := dk_42 (dk_at dksX8_sumOf_0 4 rfl rfl)
theorem dX8_sumOf_5 : decode cX8_sumOf 5 = .ok (.getfield 13, 3) := dk_180 0 13 (dk_at dksX8_sumOf_0 5 rfl rfl)
theorem dX8_sumOf_8 : decode cX8_sumOf 8 = .ok (.iconst 3, 1) := dk_6 (dk_at dksX8_sumOf_0 8 rfl rfl)
theorem dX8_sumOf_9 : decode cX8_sumOf 9 = .ok (.iaload, 1) := dk_46 (dk_at dksX8_sumOf_0 9 rfl rfl)
theorem dX8_sumOf_10 : decode cX8_sumOf 10 = .ok (.iconst 1, 1) := dk_4 (dk_at dksX8_sumOf_0 10 rfl rfl)
theorem dX8_sumOf_11 : decode cX8_sumOf 11 = .ok (.if_icmp .ne 62, 3) := dk_160 0 62 (dk_at dksX8_sumOf_0 11 rfl rfl)
theorem dX8_sumOf_14 : decode cX8_sumOf 14 = .ok (.iload_n 3, 1) := dk_29 (dk_at dksX8_sumOf_0 14 rfl rfl)
theorem dX8_sumOf_15 : decode cX8_sumOf 15 = .ok (.aload_n 0, 1) := dk_42 (dk_at dksX8_sumOf_0 15 rfl rfl)
theorem dX8_sumOf_16 : decode cX8_sumOf 16 = .ok (.getfield 13, 3) := dk_180 0 13 (dk_at dksX8_sumOf_0 16 rfl rfl)
theorem dX8_sumOf_19 : decode cX8_sumOf 19 = .ok (.sipush 305, 3) := dk_17 1 49 (dk_at dksX8_sumOf_0 19 rfl rfl)
theorem dX8_sumOf_22 : decode cX8_sumOf 22 = .ok (.iaload, 1) := dk_46 (dk_at dksX8_sumOf_0 22 rfl rfl)
theorem dX8_sumOf_23 : decode cX8_sumOf 23 = .ok (.if_icmp .ge 50, 3) := dk_162 0 50 (dk_at dksX8_sumOf_1 0 rfl rfl)
theorem dX8_sumOf_26 : decode cX8_sumOf 26 = .ok (.aload_n 0, 1) := dk_42 (dk_at dksX8_sumOf_1 3 rfl rfl)
theorem dX8_sumOf_27 : decode cX8_sumOf 27 = .ok (.getfield 13, 3) := dk_180 0 13 (dk_at dksX8_sumOf_1 4 rfl rfl)
theorem dX8_sumOf_30 : decode cX8_sumOf 30 = .ok (.sipush 306, 3) := dk_17 1 50 (dk_at dksX8_sumOf_1 7 rfl rfl)
theorem dX8_sumOf_33 : decode cX8_sumOf 33 = .ok (.iconst 4, 1) := dk_7 (dk_at dksX8_sumOf_1 10 rfl rfl)
theorem dX8_sumOf_34 : decode cX8_sumOf 34 = .ok (.iload_n 3, 1) := dk_29 (dk_at dksX8_sumOf_1 11 rfl rfl)
theorem dX8_sumOf_35 : decode cX8_sumOf 35 = .ok (.imul, 1) := dk_104 (dk_at dksX8_sumOf_1 12 rfl rfl)
theorem dX8_sumOf_36 : decode cX8_sumOf 36 = .ok (.iadd, 1) := dk_96 (dk_at dksX8_sumOf_1 13 rfl rfl)
theorem dX8_sumOf_37 : decode cX8_sumOf 37 = .ok (.iaload, 1) := dk_46 (dk_at dksX8_sumOf_1 14 rfl rfl)
theorem dX8_sumOf_38 : decode cX8_sumOf 38 = .ok (.iload_n 1, 1) := dk_27 (dk_at dksX8_sumOf_1 15 rfl rfl)
theorem dX8_sumOf_39 : decode cX8_sumOf 39 = .ok (.if_icmp .ne 28, 3) := dk_160 0 28 (dk_at dksX8_sumOf_1 16 rfl rfl)
theorem dX8_sumOf_42 : decode cX8_sumOf 42 = .ok (.aload_n 0, 1) := dk_42 (dk_at dksX8_sumOf_1 19 rfl rfl)
theorem dX8_sumOf_43 : decode cX8_sumOf 43 = .ok (.iload_n 3, 1) := dk_29 (dk_at dksX8_sumOf_1 20 rfl rfl)
theorem dX8_sumOf_44 : decode cX8_sumOf 44 = .ok (.invokevirtual 283, 3) := dk_182 1 27 (dk_at dksX8_sumOf_1 21 rfl rfl)
theorem dX8_sumOf_47 : decode cX8_sumOf 47 = .ok (.ifCond .eq 20, 3) := dk_153 0 20 (dk_at dksX8_sumOf_2 0 rfl rfl)
theorem dX8_sumOf_50 : decode cX8_sumOf 50 = .ok (.iload_n 2, 1) := dk_28 (dk_at dksX8_sumOf_2 3 rfl rfl)
theorem dX8_sumOf_51 : decode cX8_sumOf 51 = .ok (.aload_n 0, 1) := dk_42 (dk_at dksX8_sumOf_2 4 rfl rfl)
theorem dX8_sumOf_52 : decode cX8_sumOf 52 = .ok (.getfield 13, 3) := dk_180 0 13 (dk_at dksX8_sumOf_2 5 rfl rfl)
theorem dX8_sumOf_55 : decode cX8_sumOf 55 = .ok (.sipush 306, 3) := dk_17 1 50 (dk_at dksX8_sumOf_2 8 rfl rfl)
theorem dX8_sumOf_58 : decode cX8_sumOf 58 = .ok (.iconst 4, 1) := dk_7 (dk_at dksX8_sumOf_2 11 rfl rfl)
theorem dX8_sumOf_59 : decode cX8_sumOf 59 = .ok (.iload_n 3, 1) := dk_29 (dk_at dksX8_sumOf_2 12 rfl rfl)
theorem dX8_sumOf_60 : decode cX8_sumOf 60 = .ok (.imul, 1) := dk_104 (dk_at dksX8_sumOf_2 13 rfl rfl)
theorem dX8_sumOf_61 : decode cX8_sumOf 61 = .ok (.iadd, 1) := dk_96 (dk_at dksX8_sumOf_2 14 rfl rfl)
theorem dX8_sumOf_62 : decode cX8_sumOf 62 = .ok (.iconst 1, 1) := dk_4 (dk_at dksX8_sumOf_2 15 rfl rfl)
theorem dX8_sumOf_63 : decode cX8_sumOf 63 = .ok (.iadd, 1) := dk_96 (dk_at dksX8_sumOf_2 16 rfl rfl)
theorem dX8_sumOf_64 : decode cX8_sumOf 64 = .ok (.iaload, 1) := dk_46 (dk_at dksX8_sumOf_2 17 rfl rfl)
theorem dX8_sumOf_65 : decode cX8_sumOf 65 = .ok (.iadd, 1) := dk_96 (dk_at dksX8_sumOf_2 18 rfl rfl)
theorem dX8_sumOf_66 : decode cX8_sumOf 66 = .ok (.istore_n 2, 1) := dk_61 (dk_at dksX8_sumOf_2 19 rfl rfl)
theorem dX8_sumOf_67 : decode cX8_sumOf 67 = .ok (.iinc 3 1, 3) := dk_132 3 1 (dk_at dksX8_sumOf_2 20 rfl rfl)
theorem dX8_sumOf_70 : decode cX8_sumOf 70 = .ok (.goto (-66), 3) := dk_167 255 190 (dk_at dksX8_sumOf_3 0 rfl rfl)
theorem dX8_sumOf_73 : decode cX8_sumOf 73 = .ok (.iload_n 2, 1) := dk_28 (dk_at dksX8_sumOf_3 3 rfl rfl)
theorem dX8_sumOf_74 : decode cX8_sumOf 74 = .ok (.ireturn, 1) := dk_172 (dk_at dksX8_sumOf_3 4 rfl rfl)
abbrev cX8_holdsLine : ByteArray := prog_18_method_56_code
def yX8_holdsLine : MethodName := ⟨RX8, "holdsLine", "(I)Z"⟩
def dkwX8_holdsLine_12 : List UInt8 := [3, 172]
abbrev dktX8_holdsLine_12 : List UInt8 := dkwX8_holdsLine_12 ++ []
def dkwX8_holdsLine_11 : List UInt8 := [132, 4, 1, 167, 255, 20, 28, 153, 0, 13, 42, 180, 0, 39, 3, 46, 4, 160, 0, 7, 4, 167, 0, 4]
abbrev dktX8_holdsLine_11 : List UInt8 := dkwX8_holdsLine_11 ++ dktX8_holdsLine_12
def dkwX8_holdsLine_10 : List UInt8 := [160, 0, 11, 21, 6, 21, 7, 96, 167, 0, 13, 21, 8, 153, 0, 7, 4, 167, 0, 4, 3, 79]
abbrev dktX8_holdsLine_10 : List UInt8 := dkwX8_holdsLine_10 ++ dktX8_holdsLine_11
def dkwX8_holdsLine_9 : List UInt8 := [96, 158, 0, 7, 4, 167, 0, 4, 3, 54, 8, 42, 180, 0, 39, 28, 4, 100, 21, 5, 16, 9]
abbrev dktX8_holdsLine_9 : List UInt8 := dkwX8_holdsLine_9 ++ dktX8_holdsLine_10
def dkwX8_holdsLine_8 : List UInt8 := [160, 0, 20, 21, 6, 21, 7, 96, 5, 160, 0, 7, 4, 167, 0, 20, 3, 167, 0, 16, 21, 6, 21, 7]
abbrev dktX8_holdsLine_8 : List UInt8 := dkwX8_holdsLine_8 ++ dktX8_holdsLine_9
def dkwX8_holdsLine_7 : List UInt8 := [160, 0, 18, 21, 6, 21, 7, 164, 0, 7, 4, 167, 0, 44, 3, 167, 0, 40, 21, 5, 16, 13]
abbrev dktX8_holdsLine_7 : List UInt8 := dkwX8_holdsLine_7 ++ dktX8_holdsLine_8
def dkwX8_holdsLine_6 : List UInt8 := [16, 10, 160, 0, 18, 21, 6, 21, 7, 162, 0, 7, 4, 167, 0, 66, 3, 167, 0, 62, 21, 5, 16, 11]
abbrev dktX8_holdsLine_6 : List UInt8 := dkwX8_holdsLine_6 ++ dktX8_holdsLine_7
def dkwX8_holdsLine_5 : List UInt8 := [132, 2, 255, 42, 180, 0, 39, 28, 4, 100, 46, 54, 6, 42, 180, 0, 39, 28, 46, 54, 7, 21, 5]
abbrev dktX8_holdsLine_5 : List UInt8 := dkwX8_holdsLine_5 ++ dktX8_holdsLine_6
def dkwX8_holdsLine_4 : List UInt8 := [160, 0, 24, 42, 180, 0, 39, 28, 4, 100, 4, 42, 180, 0, 39, 28, 4, 100, 46, 100, 79, 167, 0, 140]
abbrev dktX8_holdsLine_4 : List UInt8 := dkwX8_holdsLine_4 ++ dktX8_holdsLine_5
def dkwX8_holdsLine_3 : List UInt8 := [5, 21, 4, 104, 96, 4, 96, 46, 182, 1, 24, 79, 132, 2, 1, 167, 0, 168, 21, 5, 16, 12]
abbrev dktX8_holdsLine_3 : List UInt8 := dkwX8_holdsLine_3 ++ dktX8_holdsLine_4
def dkwX8_holdsLine_2 : List UInt8 := [54, 5, 21, 5, 16, 8, 163, 0, 36, 42, 180, 0, 39, 28, 42, 21, 5, 42, 180, 0, 13, 17, 1, 98]
abbrev dktX8_holdsLine_2 : List UInt8 := dkwX8_holdsLine_2 ++ dktX8_holdsLine_3
def dkwX8_holdsLine_1 : List UInt8 := [180, 0, 13, 29, 6, 96, 46, 162, 0, 229, 42, 180, 0, 13, 17, 1, 98, 5, 21, 4, 104, 96, 46]
abbrev dktX8_holdsLine_1 : List UInt8 := dkwX8_holdsLine_1 ++ dktX8_holdsLine_2
def dkwX8_holdsLine_0 : List UInt8 := [3, 61, 17, 1, 50, 7, 27, 104, 96, 62, 42, 180, 0, 13, 29, 5, 96, 46, 54, 4, 21, 4, 42]
abbrev dktX8_holdsLine_0 : List UInt8 := dkwX8_holdsLine_0 ++ dktX8_holdsLine_1
theorem dksX8_holdsLine_0 : cX8_holdsLine.data.toList.drop 0 = dktX8_holdsLine_0 := by decide +kernel
theorem dksX8_holdsLine_1 : cX8_holdsLine.data.toList.drop 23 = dktX8_holdsLine_1 := dk_seg dksX8_holdsLine_0 23 rfl rfl
theorem dksX8_holdsLine_2 : cX8_holdsLine.data.toList.drop 46 = dktX8_holdsLine_2 := dk_seg dksX8_holdsLine_1 23 rfl rfl
theorem dksX8_holdsLine_3 : cX8_holdsLine.data.toList.drop 70 = dktX8_holdsLine_3 := dk_seg dksX8_holdsLine_2 24 rfl rfl
theorem dksX8_holdsLine_4 : cX8_holdsLine.data.toList.drop 92 = dktX8_holdsLine_4 := dk_seg dksX8_holdsLine_3 22 rfl rfl
theorem dksX8_holdsLine_5 : cX8_holdsLine.data.toList.drop 116 = dktX8_holdsLine_5 := dk_seg dksX8_holdsLine_4 24 rfl rfl
theorem dksX8_holdsLine_6 : cX8_holdsLine.data.toList.drop 139 = dktX8_holdsLine_6 := dk_seg dksX8_holdsLine_5 23 rfl rfl
theorem dksX8_holdsLine_7 : cX8_holdsLine.data.toList.drop 163 = dktX8_holdsLine_7 := dk_seg dksX8_holdsLine_6 24 rfl rfl
theorem dksX8_holdsLine_8 : cX8_holdsLine.data.toList.drop 185 = dktX8_holdsLine_8 := dk_seg dksX8_holdsLine_7 22 rfl rfl
theorem dksX8_holdsLine_9 : cX8_holdsLine.data.toList.drop 209 = dktX8_holdsLine_9 := dk_seg dksX8_holdsLine_8 24 rfl rfl
theorem dksX8_holdsLine_10 : cX8_holdsLine.data.toList.drop 231 = dktX8_holdsLine_10 := dk_seg dksX8_holdsLine_9 22 rfl rfl
theorem dksX8_holdsLine_11 : cX8_holdsLine.data.toList.drop 253 = dktX8_holdsLine_11 := dk_seg dksX8_holdsLine_10 22 rfl rfl
theorem dksX8_holdsLine_12 : cX8_holdsLine.data.toList.drop 277 = dktX8_holdsLine_12 := dk_seg dksX8_holdsLine_11 24 rfl rfl
theorem dX8_holdsLine_0 : decode cX8_holdsLine 0 = .ok (.iconst 0, 1) := dk_3 (dk_at dksX8_holdsLine_0 0 rfl rfl)
theorem dX8_holdsLine_1 : decode cX8_holdsLine 1 = .ok (.istore_n 2, 1) := dk_61 (dk_at dksX8_holdsLine_0 1 rfl rfl)
theorem dX8_holdsLine_2 : decode cX8_holdsLine 2 = .ok (.sipush 306, 3) := dk_17 1 50 (dk_at dksX8_holdsLine_0 2 rfl rfl)
theorem dX8_holdsLine_5 : decode cX8_holdsLine 5 = .ok (.iconst 4, 1) := dk_7 (dk_at dksX8_holdsLine_0 5 rfl rfl)
theorem dX8_holdsLine_6 : decode cX8_holdsLine 6 = .ok (.iload_n 1, 1) := dk_27 (dk_at dksX8_holdsLine_0 6 rfl rfl)
theorem dX8_holdsLine_7 : decode cX8_holdsLine 7 = .ok (.imul, 1) := dk_104 (dk_at dksX8_holdsLine_0 7 rfl rfl)
theorem dX8_holdsLine_8 : decode cX8_holdsLine 8 = .ok (.iadd, 1) := dk_96 (dk_at dksX8_holdsLine_0 8 rfl rfl)
theorem dX8_holdsLine_9 : decode cX8_holdsLine 9 = .ok (.istore_n 3, 1) := dk_62 (dk_at dksX8_holdsLine_0 9 rfl rfl)
theorem dX8_holdsLine_10 : decode cX8_holdsLine 10 = .ok (.aload_n 0, 1) := dk_42 (dk_at dksX8_holdsLine_0 10 rfl rfl)
theorem dX8_holdsLine_11 : decode cX8_holdsLine 11 = .ok (.getfield 13, 3) := dk_180 0 13 (dk_at dksX8_holdsLine_0 11 rfl rfl)
theorem dX8_holdsLine_14 : decode cX8_holdsLine 14 = .ok (.iload_n 3, 1) := dk_29 (dk_at dksX8_holdsLine_0 14 rfl rfl)
theorem dX8_holdsLine_15 : decode cX8_holdsLine 15 = .ok (.iconst 2, 1) := dk_5 (dk_at dksX8_holdsLine_0 15 rfl rfl)
theorem dX8_holdsLine_16 : decode cX8_holdsLine 16 = .ok (.iadd, 1) := dk_96 (dk_at dksX8_holdsLine_0 16 rfl rfl)
theorem dX8_holdsLine_17 : decode cX8_holdsLine 17 = .ok (.iaload, 1) := dk_46 (dk_at dksX8_holdsLine_0 17 rfl rfl)
theorem dX8_holdsLine_18 : decode cX8_holdsLine 18 = .ok (.istore 4, 2) := dk_54 4 (dk_at dksX8_holdsLine_0 18 rfl rfl)
theorem dX8_holdsLine_20 : decode cX8_holdsLine 20 = .ok (.iload 4, 2) := dk_21 4 (dk_at dksX8_holdsLine_0 20 rfl rfl)
theorem dX8_holdsLine_22 : decode cX8_holdsLine 22 = .ok (.aload_n 0, 1) := dk_42 (dk_at dksX8_holdsLine_0 22 rfl rfl)
theorem dX8_holdsLine_23 : decode cX8_holdsLine 23 = .ok (.getfield 13, 3) := dk_180 0 13 (dk_at dksX8_holdsLine_1 0 rfl rfl)
theorem dX8_holdsLine_26 : decode cX8_holdsLine 26 = .ok (.iload_n 3, 1) := dk_29 (dk_at dksX8_holdsLine_1 3 rfl rfl)
theorem dX8_holdsLine_27 : decode cX8_holdsLine 27 = .ok (.iconst 3, 1) := dk_6 (dk_at dksX8_holdsLine_1 4 rfl rfl)
theorem dX8_holdsLine_28 : decode cX8_holdsLine 28 = .ok (.iadd, 1) := dk_96 (dk_at dksX8_holdsLine_1 5 rfl rfl)
theorem dX8_holdsLine_29 : decode cX8_holdsLine 29 = .ok (.iaload, 1) := dk_46 (dk_at dksX8_holdsLine_1 6 rfl rfl)
theorem dX8_holdsLine_30 : decode cX8_holdsLine 30 = .ok (.if_icmp .ge 229, 3) := dk_162 0 229 (dk_at dksX8_holdsLine_1 7 rfl rfl)
theorem dX8_holdsLine_33 : decode cX8_holdsLine 33 = .ok (.aload_n 0, 1) := dk_42 (dk_at dksX8_holdsLine_1 10 rfl rfl)
theorem dX8_holdsLine_34 : decode cX8_holdsLine 34 = .ok (.getfield 13, 3) := dk_180 0 13 (dk_at dksX8_holdsLine_1 11 rfl rfl)
theorem dX8_holdsLine_37 : decode cX8_holdsLine 37 = .ok (.sipush 354, 3) := dk_17 1 98 (dk_at dksX8_holdsLine_1 14 rfl rfl)
theorem dX8_holdsLine_40 : decode cX8_holdsLine 40 = .ok (.iconst 2, 1) := dk_5 (dk_at dksX8_holdsLine_1 17 rfl rfl)
theorem dX8_holdsLine_41 : decode cX8_holdsLine 41 = .ok (.iload 4, 2) := dk_21 4 (dk_at dksX8_holdsLine_1 18 rfl rfl)
theorem dX8_holdsLine_43 : decode cX8_holdsLine 43 = .ok (.imul, 1) := dk_104 (dk_at dksX8_holdsLine_1 20 rfl rfl)
theorem dX8_holdsLine_44 : decode cX8_holdsLine 44 = .ok (.iadd, 1) := dk_96 (dk_at dksX8_holdsLine_1 21 rfl rfl)
theorem dX8_holdsLine_45 : decode cX8_holdsLine 45 = .ok (.iaload, 1) := dk_46 (dk_at dksX8_holdsLine_1 22 rfl rfl)
theorem dX8_holdsLine_46 : decode cX8_holdsLine 46 = .ok (.istore 5, 2) := dk_54 5 (dk_at dksX8_holdsLine_2 0 rfl rfl)
theorem dX8_holdsLine_48 : decode cX8_holdsLine 48 = .ok (.iload 5, 2) := dk_21 5 (dk_at dksX8_holdsLine_2 2 rfl rfl)
theorem dX8_holdsLine_50 : decode cX8_holdsLine 50 = .ok (.bipush 8, 2) := dk_16 8 (dk_at dksX8_holdsLine_2 4 rfl rfl)
theorem dX8_holdsLine_52 : decode cX8_holdsLine 52 = .ok (.if_icmp .gt 36, 3) := dk_163 0 36 (dk_at dksX8_holdsLine_2 6 rfl rfl)
theorem dX8_holdsLine_55 : decode cX8_holdsLine 55 = .ok (.aload_n 0, 1) := dk_42 (dk_at dksX8_holdsLine_2 9 rfl rfl)
theorem dX8_holdsLine_56 : decode cX8_holdsLine 56 = .ok (.getfield 39, 3) := dk_180 0 39 (dk_at dksX8_holdsLine_2 10 rfl rfl)
theorem dX8_holdsLine_59 : decode cX8_holdsLine 59 = .ok (.iload_n 2, 1) := dk_28 (dk_at dksX8_holdsLine_2 13 rfl rfl)
theorem dX8_holdsLine_60 : decode cX8_holdsLine 60 = .ok (.aload_n 0, 1) := dk_42 (dk_at dksX8_holdsLine_2 14 rfl rfl)
theorem dX8_holdsLine_61 : decode cX8_holdsLine 61 = .ok (.iload 5, 2) := dk_21 5 (dk_at dksX8_holdsLine_2 15 rfl rfl)
theorem dX8_holdsLine_63 : decode cX8_holdsLine 63 = .ok (.aload_n 0, 1) := dk_42 (dk_at dksX8_holdsLine_2 17 rfl rfl)
theorem dX8_holdsLine_64 : decode cX8_holdsLine 64 = .ok (.getfield 13, 3) := dk_180 0 13 (dk_at dksX8_holdsLine_2 18 rfl rfl)
theorem dX8_holdsLine_67 : decode cX8_holdsLine 67 = .ok (.sipush 354, 3) := dk_17 1 98 (dk_at dksX8_holdsLine_2 21 rfl rfl)
theorem dX8_holdsLine_70 : decode cX8_holdsLine 70 = .ok (.iconst 2, 1) := dk_5 (dk_at dksX8_holdsLine_3 0 rfl rfl)
theorem dX8_holdsLine_71 : decode cX8_holdsLine 71 = .ok (.iload 4, 2) := dk_21 4 (dk_at dksX8_holdsLine_3 1 rfl rfl)
theorem dX8_holdsLine_73 : decode cX8_holdsLine 73 = .ok (.imul, 1) := dk_104 (dk_at dksX8_holdsLine_3 3 rfl rfl)
theorem dX8_holdsLine_74 : decode cX8_holdsLine 74 = .ok (.iadd, 1) := dk_96 (dk_at dksX8_holdsLine_3 4 rfl rfl)
theorem dX8_holdsLine_75 : decode cX8_holdsLine 75 = .ok (.iconst 1, 1) := dk_4 (dk_at dksX8_holdsLine_3 5 rfl rfl)
theorem dX8_holdsLine_76 : decode cX8_holdsLine 76 = .ok (.iadd, 1) := dk_96 (dk_at dksX8_holdsLine_3 6 rfl rfl)
theorem dX8_holdsLine_77 : decode cX8_holdsLine 77 = .ok (.iaload, 1) := dk_46 (dk_at dksX8_holdsLine_3 7 rfl rfl)
theorem dX8_holdsLine_78 : decode cX8_holdsLine 78 = .ok (.invokevirtual 280, 3) := dk_182 1 24 (dk_at dksX8_holdsLine_3 8 rfl rfl)
theorem dX8_holdsLine_81 : decode cX8_holdsLine 81 = .ok (.iastore, 1) := dk_79 (dk_at dksX8_holdsLine_3 11 rfl rfl)
theorem dX8_holdsLine_82 : decode cX8_holdsLine 82 = .ok (.iinc 2 1, 3) := dk_132 2 1 (dk_at dksX8_holdsLine_3 12 rfl rfl)
theorem dX8_holdsLine_85 : decode cX8_holdsLine 85 = .ok (.goto 168, 3) := dk_167 0 168 (dk_at dksX8_holdsLine_3 15 rfl rfl)
theorem dX8_holdsLine_88 : decode cX8_holdsLine 88 = .ok (.iload 5, 2) := dk_21 5 (dk_at dksX8_holdsLine_3 18 rfl rfl)
theorem dX8_holdsLine_90 : decode cX8_holdsLine 90 = .ok (.bipush 12, 2) := dk_16 12 (dk_at dksX8_holdsLine_3 20 rfl rfl)
theorem dX8_holdsLine_92 : decode cX8_holdsLine 92 = .ok (.if_icmp .ne 24, 3) := dk_160 0 24 (dk_at dksX8_holdsLine_4 0 rfl rfl)
theorem dX8_holdsLine_95 : decode cX8_holdsLine 95 = .ok (.aload_n 0, 1) := dk_42 (dk_at dksX8_holdsLine_4 3 rfl rfl)
theorem dX8_holdsLine_96 : decode cX8_holdsLine 96 = .ok (.getfield 39, 3) := dk_180 0 39 (dk_at dksX8_holdsLine_4 4 rfl rfl)
theorem dX8_holdsLine_99 : decode cX8_holdsLine 99 = .ok (.iload_n 2, 1) := dk_28 (dk_at dksX8_holdsLine_4 7 rfl rfl)
theorem dX8_holdsLine_100 : decode cX8_holdsLine 100 = .ok (.iconst 1, 1) := dk_4 (dk_at dksX8_holdsLine_4 8 rfl rfl)
theorem dX8_holdsLine_101 : decode cX8_holdsLine 101 = .ok (.isub, 1) := dk_100 (dk_at dksX8_holdsLine_4 9 rfl rfl)
theorem dX8_holdsLine_102 : decode cX8_holdsLine 102 = .ok (.iconst 1, 1) := dk_4 (dk_at dksX8_holdsLine_4 10 rfl rfl)
theorem dX8_holdsLine_103 : decode cX8_holdsLine 103 = .ok (.aload_n 0, 1) := dk_42 (dk_at dksX8_holdsLine_4 11 rfl rfl)
theorem dX8_holdsLine_104 : decode cX8_holdsLine 104 = .ok (.getfield 39, 3) := dk_180 0 39 (dk_at dksX8_holdsLine_4 12 rfl rfl)
theorem dX8_holdsLine_107 : decode cX8_holdsLine 107 = .ok (.iload_n 2, 1) := dk_28 (dk_at dksX8_holdsLine_4 15 rfl rfl)
theorem dX8_holdsLine_108 : decode cX8_holdsLine 108 = .ok (.iconst 1, 1) := dk_4 (dk_at dksX8_holdsLine_4 16 rfl rfl)
theorem dX8_holdsLine_109 : decode cX8_holdsLine 109 = .ok (.isub, 1) := dk_100 (dk_at dksX8_holdsLine_4 17 rfl rfl)
theorem dX8_holdsLine_110 : decode cX8_holdsLine 110 = .ok (.iaload, 1) := dk_46 (dk_at dksX8_holdsLine_4 18 rfl rfl)
theorem dX8_holdsLine_111 : decode cX8_holdsLine 111 = .ok (.isub, 1) := dk_100 (dk_at dksX8_holdsLine_4 19 rfl rfl)
theorem dX8_holdsLine_112 : decode cX8_holdsLine 112 = .ok (.iastore, 1) := dk_79 (dk_at dksX8_holdsLine_4 20 rfl rfl)
theorem dX8_holdsLine_113 : decode cX8_holdsLine 113 = .ok (.goto 140, 3) := dk_167 0 140 (dk_at dksX8_holdsLine_4 21 rfl rfl)
theorem dX8_holdsLine_116 : decode cX8_holdsLine 116 = .ok (.iinc 2 (-1), 3) := dk_132 2 255 (dk_at dksX8_holdsLine_5 0 rfl rfl)
theorem dX8_holdsLine_119 : decode cX8_holdsLine 119 = .ok (.aload_n 0, 1) := dk_42 (dk_at dksX8_holdsLine_5 3 rfl rfl)
theorem dX8_holdsLine_120 : decode cX8_holdsLine 120 = .ok (.getfield 39, 3) := dk_180 0 39 (dk_at dksX8_holdsLine_5 4 rfl rfl)
theorem dX8_holdsLine_123 : decode cX8_holdsLine 123 = .ok (.iload_n 2, 1) := dk_28 (dk_at dksX8_holdsLine_5 7 rfl rfl)
theorem dX8_holdsLine_124 : decode cX8_holdsLine 124 = .ok (.iconst 1, 1) := dk_4 (dk_at dksX8_holdsLine_5 8 rfl rfl)
theorem dX8_holdsLine_125 : decode cX8_holdsLine 125 = .ok (.isub, 1) := dk_100 (dk_at dksX8_holdsLine_5 9 rfl rfl)
theorem dX8_holdsLine_126 : decode cX8_holdsLine 126 = .ok (.iaload, 1) := dk_46 (dk_at dksX8_holdsLine_5 10 rfl rfl)
theorem dX8_holdsLine_127 : decode cX8_holdsLine 127 = .ok (.istore 6, 2) := dk_54 6 (dk_at dksX8_holdsLine_5 11 rfl rfl)
theorem dX8_holdsLine_129 : decode cX8_holdsLine 129 = .ok (.aload_n 0, 1) := dk_42 (dk_at dksX8_holdsLine_5 13 rfl rfl)
theorem dX8_holdsLine_130 : decode cX8_holdsLine 130 = .ok (.getfield 39, 3) := dk_180 0 39 (dk_at dksX8_holdsLine_5 14 rfl rfl)
theorem dX8_holdsLine_133 : decode cX8_holdsLine 133 = .ok (.iload_n 2, 1) := dk_28 (dk_at dksX8_holdsLine_5 17 rfl rfl)
theorem dX8_holdsLine_134 : decode cX8_holdsLine 134 = .ok (.iaload, 1) := dk_46 (dk_at dksX8_holdsLine_5 18 rfl rfl)
theorem dX8_holdsLine_135 : decode cX8_holdsLine 135 = .ok (.istore 7, 2) := dk_54 7 (dk_at dksX8_holdsLine_5 19 rfl rfl)
theorem dX8_holdsLine_137 : decode cX8_holdsLine 137 = .ok (.iload 5, 2) := dk_21 5 (dk_at dksX8_holdsLine_5 21 rfl rfl)
theorem dX8_holdsLine_139 : decode cX8_holdsLine 139 = .ok (.bipush 10, 2) := dk_16 10 (dk_at dksX8_holdsLine_6 0 rfl rfl)
theorem dX8_holdsLine_141 : decode cX8_holdsLine 141 = .ok (.if_icmp .ne 18, 3) := dk_160 0 18 (dk_at dksX8_holdsLine_6 2 rfl rfl)
theorem dX8_holdsLine_144 : decode cX8_holdsLine 144 = .ok (.iload 6, 2) := dk_21 6 (dk_at dksX8_holdsLine_6 5 rfl rfl)
theorem dX8_holdsLine_146 : decode cX8_holdsLine 146 = .ok (.iload 7, 2) := dk_21 7 (dk_at dksX8_holdsLine_6 7 rfl rfl)
theorem dX8_holdsLine_148 : decode cX8_holdsLine 148 = .ok (.if_icmp .ge 7, 3) := dk_162 0 7 (dk_at dksX8_holdsLine_6 9 rfl rfl)
theorem dX8_holdsLine_151 : decode cX8_holdsLine 151 = .ok (.iconst 1, 1) := dk_4 (dk_at dksX8_holdsLine_6 12 rfl rfl)
theorem dX8_holdsLine_152 : decode cX8_holdsLine 152 = .ok (.goto 66, 3) := dk_167 0 66 (dk_at dksX8_holdsLine_6 13 rfl rfl)
theorem dX8_holdsLine_155 : decode cX8_holdsLine 155 = .ok (.iconst 0, 1) := dk_3 (dk_at dksX8_holdsLine_6 16 rfl rfl)
theorem dX8_holdsLine_156 : decode cX8_holdsLine 156 = .ok (.goto 62, 3) := dk_167 0 62 (dk_at dksX8_holdsLine_6 17 rfl rfl)
theorem dX8_holdsLine_159 : decode cX8_holdsLine 159 = .ok (.iload 5, 2) := dk_21 5 (dk_at dksX8_holdsLine_6 20 rfl rfl)
theorem dX8_holdsLine_161 : decode cX8_holdsLine 161 = .ok (.bipush 11, 2) := dk_16 11 (dk_at dksX8_holdsLine_6 22 rfl rfl)
theorem dX8_holdsLine_163 : decode cX8_holdsLine 163 = .ok (.if_icmp .ne 18, 3) := dk_160 0 18 (dk_at dksX8_holdsLine_7 0 rfl rfl)
theorem dX8_holdsLine_166 : decode cX8_holdsLine 166 = .ok (.iload 6, 2) := dk_21 6 (dk_at dksX8_holdsLine_7 3 rfl rfl)
theorem dX8_holdsLine_168 : decode cX8_holdsLine 168 = .ok (.iload 7, 2) := dk_21 7 (dk_at dksX8_holdsLine_7 5 rfl rfl)
theorem dX8_holdsLine_170 : decode cX8_holdsLine 170 = .ok (.if_icmp .le 7, 3) := dk_164 0 7 (dk_at dksX8_holdsLine_7 7 rfl rfl)
theorem dX8_holdsLine_173 : decode cX8_holdsLine 173 = .ok (.iconst 1, 1) := dk_4 (dk_at dksX8_holdsLine_7 10 rfl rfl)
theorem dX8_holdsLine_174 : decode cX8_holdsLine 174 = .ok (.goto 44, 3) := dk_167 0 44 (dk_at dksX8_holdsLine_7 11 rfl rfl)
theorem dX8_holdsLine_177 : decode cX8_holdsLine 177 = .ok (.iconst 0, 1) := dk_3 (dk_at dksX8_holdsLine_7 14 rfl rfl)
theorem dX8_holdsLine_178 : decode cX8_holdsLine 178 = .ok (.goto 40, 3) := dk_167 0 40 (dk_at dksX8_holdsLine_7 15 rfl rfl)
theorem dX8_holdsLine_181 : decode cX8_holdsLine 181 = .ok (.iload 5, 2) := dk_21 5 (dk_at dksX8_holdsLine_7 18 rfl rfl)
theorem dX8_holdsLine_183 : decode cX8_holdsLine 183 = .ok (.bipush 13, 2) := dk_16 13 (dk_at dksX8_holdsLine_7 20 rfl rfl)
theorem dX8_holdsLine_185 : decode cX8_holdsLine 185 = .ok (.if_icmp .ne 20, 3) := dk_160 0 20 (dk_at dksX8_holdsLine_8 0 rfl rfl)
theorem dX8_holdsLine_188 : decode cX8_holdsLine 188 = .ok (.iload 6, 2) := dk_21 6 (dk_at dksX8_holdsLine_8 3 rfl rfl)
theorem dX8_holdsLine_190 : decode cX8_holdsLine 190 = .ok (.iload 7, 2) := dk_21 7 (dk_at dksX8_holdsLine_8 5 rfl rfl)
theorem dX8_holdsLine_192 : decode cX8_holdsLine 192 = .ok (.iadd, 1) := dk_96 (dk_at dksX8_holdsLine_8 7 rfl rfl)
theorem dX8_holdsLine_193 : decode cX8_holdsLine 193 = .ok (.iconst 2, 1) := dk_5 (dk_at dksX8_holdsLine_8 8 rfl rfl)
theorem dX8_holdsLine_194 : decode cX8_holdsLine 194 = .ok (.if_icmp .ne 7, 3) := dk_160 0 7 (dk_at dksX8_holdsLine_8 9 rfl rfl)
theorem dX8_holdsLine_197 : decode cX8_holdsLine 197 = .ok (.iconst 1, 1) := dk_4 (dk_at dksX8_holdsLine_8 12 rfl rfl)
theorem dX8_holdsLine_198 : decode cX8_holdsLine 198 = .ok (.goto 20, 3) := dk_167 0 20 (dk_at dksX8_holdsLine_8 13 rfl rfl)
theorem dX8_holdsLine_201 : decode cX8_holdsLine 201 = .ok (.iconst 0, 1) := dk_3 (dk_at dksX8_holdsLine_8 16 rfl rfl)
theorem dX8_holdsLine_202 : decode cX8_holdsLine 202 = .ok (.goto 16, 3) := dk_167 0 16 (dk_at dksX8_holdsLine_8 17 rfl rfl)
theorem dX8_holdsLine_205 : decode cX8_holdsLine 205 = .ok (.iload 6, 2) := dk_21 6 (dk_at dksX8_holdsLine_8 20 rfl rfl)
theorem dX8_holdsLine_207 : decode cX8_holdsLine 207 = .ok (.iload 7, 2) := dk_21 7 (dk_at dksX8_holdsLine_8 22 rfl rfl)
theorem dX8_holdsLine_209 : decode cX8_holdsLine 209 = .ok (.iadd, 1) := dk_96 (dk_at dksX8_holdsLine_9 0 rfl rfl)
theorem dX8_holdsLine_210 : decode cX8_holdsLine 210 = .ok (.ifCond .le 7, 3) := dk_158 0 7 (dk_at dksX8_holdsLine_9 1 rfl rfl)
theorem dX8_holdsLine_213 : decode cX8_holdsLine 213 = .ok (.iconst 1, 1) := dk_4 (dk_at dksX8_holdsLine_9 4 rfl rfl)
theorem dX8_holdsLine_214 : decode cX8_holdsLine 214 = .ok (.goto 4, 3) := dk_167 0 4 (dk_at dksX8_holdsLine_9 5 rfl rfl)
theorem dX8_holdsLine_217 : decode cX8_holdsLine 217 = .ok (.iconst 0, 1) := dk_3 (dk_at dksX8_holdsLine_9 8 rfl rfl)
theorem dX8_holdsLine_218 : decode cX8_holdsLine 218 = .ok (.istore 8, 2) := dk_54 8 (dk_at dksX8_holdsLine_9 9 rfl rfl)
theorem dX8_holdsLine_220 : decode cX8_holdsLine 220 = .ok (.aload_n 0, 1) := dk_42 (dk_at dksX8_holdsLine_9 11 rfl rfl)
theorem dX8_holdsLine_221 : decode cX8_holdsLine 221 = .ok (.getfield 39, 3) := dk_180 0 39 (dk_at dksX8_holdsLine_9 12 rfl rfl)
theorem dX8_holdsLine_224 : decode cX8_holdsLine 224 = .ok (.iload_n 2, 1) := dk_28 (dk_at dksX8_holdsLine_9 15 rfl rfl)
theorem dX8_holdsLine_225 : decode cX8_holdsLine 225 = .ok (.iconst 1, 1) := dk_4 (dk_at dksX8_holdsLine_9 16 rfl rfl)
theorem dX8_holdsLine_226 : decode cX8_holdsLine 226 = .ok (.isub, 1) := dk_100 (dk_at dksX8_holdsLine_9 17 rfl rfl)
theorem dX8_holdsLine_227 : decode cX8_holdsLine 227 = .ok (.iload 5, 2) := dk_21 5 (dk_at dksX8_holdsLine_9 18 rfl rfl)
theorem dX8_holdsLine_229 : decode cX8_holdsLine 229 = .ok (.bipush 9, 2) := dk_16 9 (dk_at dksX8_holdsLine_9 20 rfl rfl)
theorem dX8_holdsLine_231 : decode cX8_holdsLine 231 = .ok (.if_icmp .ne 11, 3) := dk_160 0 11 (dk_at dksX8_holdsLine_10 0 rfl rfl)
theorem dX8_holdsLine_234 : decode cX8_holdsLine 234 = .ok (.iload 6, 2) := dk_21 6 (dk_at dksX8_holdsLine_10 3 rfl rfl)
theorem dX8_holdsLine_236 : decode cX8_holdsLine 236 = .ok (.iload 7, 2) := dk_21 7 (dk_at dksX8_holdsLine_10 5 rfl rfl)
theorem dX8_holdsLine_238 : decode cX8_holdsLine 238 = .ok (.iadd, 1) := dk_96 (dk_at dksX8_holdsLine_10 7 rfl rfl)
theorem dX8_holdsLine_239 : decode cX8_holdsLine 239 = .ok (.goto 13, 3) := dk_167 0 13 (dk_at dksX8_holdsLine_10 8 rfl rfl)
theorem dX8_holdsLine_242 : decode cX8_holdsLine 242 = .ok (.iload 8, 2) := dk_21 8 (dk_at dksX8_holdsLine_10 11 rfl rfl)
theorem dX8_holdsLine_244 : decode cX8_holdsLine 244 = .ok (.ifCond .eq 7, 3) := dk_153 0 7 (dk_at dksX8_holdsLine_10 13 rfl rfl)
theorem dX8_holdsLine_247 : decode cX8_holdsLine 247 = .ok (.iconst 1, 1) := dk_4 (dk_at dksX8_holdsLine_10 16 rfl rfl)
theorem dX8_holdsLine_248 : decode cX8_holdsLine 248 = .ok (.goto 4, 3) := dk_167 0 4 (dk_at dksX8_holdsLine_10 17 rfl rfl)
theorem dX8_holdsLine_251 : decode cX8_holdsLine 251 = .ok (.iconst 0, 1) := dk_3 (dk_at dksX8_holdsLine_10 20 rfl rfl)
theorem dX8_holdsLine_252 : decode cX8_holdsLine 252 = .ok (.iastore, 1) := dk_79 (dk_at dksX8_holdsLine_10 21 rfl rfl)
theorem dX8_holdsLine_253 : decode cX8_holdsLine 253 = .ok (.iinc 4 1, 3) := dk_132 4 1 (dk_at dksX8_holdsLine_11 0 rfl rfl)
theorem dX8_holdsLine_256 : decode cX8_holdsLine 256 = .ok (.goto (-236), 3) := dk_167 255 20 (dk_at dksX8_holdsLine_11 3 rfl rfl)
theorem dX8_holdsLine_259 : decode cX8_holdsLine 259 = .ok (.iload_n 2, 1) := dk_28 (dk_at dksX8_holdsLine_11 6 rfl rfl)
theorem dX8_holdsLine_260 : decode cX8_holdsLine 260 = .ok (.ifCond .eq 13, 3) := dk_153 0 13 (dk_at dksX8_holdsLine_11 7 rfl rfl)
theorem dX8_holdsLine_263 : decode cX8_holdsLine 263 = .ok (.aload_n 0, 1) := dk_42 (dk_at dksX8_holdsLine_11 10 rfl rfl)
theorem dX8_holdsLine_264 : decode cX8_holdsLine 264 = .ok (.getfield 39, 3) := dk_180 0 39 (dk_at dksX8_holdsLine_11 11 rfl rfl)
theorem dX8_holdsLine_267 : decode cX8_holdsLine 267 = .ok (.iconst 0, 1) := dk_3 (dk_at dksX8_holdsLine_11 14 rfl rfl)
theorem dX8_holdsLine_268 : decode cX8_holdsLine 268 = .ok (.iaload, 1) := dk_46 (dk_at dksX8_holdsLine_11 15 rfl rfl)
theorem dX8_holdsLine_269 : decode cX8_holdsLine 269 = .ok (.iconst 1, 1) := dk_4 (dk_at dksX8_holdsLine_11 16 rfl rfl)
theorem dX8_holdsLine_270 : decode cX8_holdsLine 270 = .ok (.if_icmp .ne 7, 3) := dk_160 0 7 (dk_at dksX8_holdsLine_11 17 rfl rfl)
theorem dX8_holdsLine_273 : decode cX8_holdsLine 273 = .ok (.iconst 1, 1) := dk_4 (dk_at dksX8_holdsLine_11 20 rfl rfl)
theorem dX8_holdsLine_274 : decode cX8_holdsLine 274 = .ok (.goto 4, 3) := dk_167 0 4 (dk_at dksX8_holdsLine_11 21 rfl rfl)
theorem dX8_holdsLine_277 : decode cX8_holdsLine 277 = .ok (.iconst 0, 1) := dk_3 (dk_at dksX8_holdsLine_12 0 rfl rfl)
theorem dX8_holdsLine_278 : decode cX8_holdsLine 278 = .ok (.ireturn, 1) := dk_172 (dk_at dksX8_holdsLine_12 1 rfl rfl)
abbrev cX8_factOf : ByteArray := prog_18_method_55_code
def yX8_factOf : MethodName := ⟨RX8, "factOf", "(II)I"⟩
def dkwX8_factOf_5 : List UInt8 := [42, 180, 1, 18, 3, 182, 0, 74, 184, 0, 137, 153, 0, 7, 4, 167, 0, 4, 3, 172, 28, 172]
abbrev dktX8_factOf_5 : List UInt8 := dkwX8_factOf_5 ++ []
def dkwX8_factOf_4 : List UInt8 := [180, 1, 15, 42, 180, 1, 18, 184, 0, 137, 153, 0, 7, 4, 167, 0, 4, 3, 172, 42, 180, 1, 9, 42]
abbrev dktX8_factOf_4 : List UInt8 := dkwX8_factOf_4 ++ dktX8_factOf_5
def dkwX8_factOf_3 : List UInt8 := [172, 42, 42, 180, 1, 18, 5, 182, 0, 74, 172, 42, 180, 1, 21, 172, 42, 180, 1, 12, 172, 42]
abbrev dktX8_factOf_3 : List UInt8 := dkwX8_factOf_3 ++ dktX8_factOf_4
def dkwX8_factOf_2 : List UInt8 := [42, 180, 1, 18, 172, 42, 42, 180, 1, 18, 6, 182, 0, 74, 172, 42, 42, 180, 1, 18, 4, 182, 0, 74]
abbrev dktX8_factOf_2 : List UInt8 := dkwX8_factOf_2 ++ dktX8_factOf_3
def dkwX8_factOf_1 : List UInt8 := [170, 0, 0, 0, 0, 0, 137, 0, 0, 0, 0, 0, 0, 0, 7, 0, 0, 0, 47, 0, 0, 0, 52, 0, 0, 0, 62, 0, 0, 0, 72, 0, 0, 0, 82, 0, 0, 0, 87, 0, 0, 0, 92, 0, 0, 0, 112]
abbrev dktX8_factOf_1 : List UInt8 := dkwX8_factOf_1 ++ dktX8_factOf_2
def dkwX8_factOf_0 : List UInt8 := [27]
abbrev dktX8_factOf_0 : List UInt8 := dkwX8_factOf_0 ++ dktX8_factOf_1
theorem dksX8_factOf_0 : cX8_factOf.data.toList.drop 0 = dktX8_factOf_0 := by decide +kernel
theorem dksX8_factOf_1 : cX8_factOf.data.toList.drop 1 = dktX8_factOf_1 := dk_seg dksX8_factOf_0 1 rfl rfl
theorem dksX8_factOf_2 : cX8_factOf.data.toList.drop 48 = dktX8_factOf_2 := dk_seg dksX8_factOf_1 47 rfl rfl
theorem dksX8_factOf_3 : cX8_factOf.data.toList.drop 72 = dktX8_factOf_3 := dk_seg dksX8_factOf_2 24 rfl rfl
theorem dksX8_factOf_4 : cX8_factOf.data.toList.drop 94 = dktX8_factOf_4 := dk_seg dksX8_factOf_3 22 rfl rfl
theorem dksX8_factOf_5 : cX8_factOf.data.toList.drop 118 = dktX8_factOf_5 := dk_seg dksX8_factOf_4 24 rfl rfl
theorem dX8_factOf_0 : decode cX8_factOf 0 = .ok (.iload_n 1, 1) := dk_27 (dk_at dksX8_factOf_0 0 rfl rfl)
theorem dX8_factOf_1 : decode cX8_factOf 1 = .ok (.tableswitch 137 0 7 #[47, 52, 62, 72, 82, 87, 92, 112], 47) := by decide +kernel
theorem dX8_factOf_48 : decode cX8_factOf 48 = .ok (.aload_n 0, 1) := dk_42 (dk_at dksX8_factOf_2 0 rfl rfl)
theorem dX8_factOf_49 : decode cX8_factOf 49 = .ok (.getfield 274, 3) := dk_180 1 18 (dk_at dksX8_factOf_2 1 rfl rfl)
theorem dX8_factOf_52 : decode cX8_factOf 52 = .ok (.ireturn, 1) := dk_172 (dk_at dksX8_factOf_2 4 rfl rfl)
theorem dX8_factOf_53 : decode cX8_factOf 53 = .ok (.aload_n 0, 1) := dk_42 (dk_at dksX8_factOf_2 5 rfl rfl)
theorem dX8_factOf_54 : decode cX8_factOf 54 = .ok (.aload_n 0, 1) := dk_42 (dk_at dksX8_factOf_2 6 rfl rfl)
theorem dX8_factOf_55 : decode cX8_factOf 55 = .ok (.getfield 274, 3) := dk_180 1 18 (dk_at dksX8_factOf_2 7 rfl rfl)
theorem dX8_factOf_58 : decode cX8_factOf 58 = .ok (.iconst 3, 1) := dk_6 (dk_at dksX8_factOf_2 10 rfl rfl)
theorem dX8_factOf_59 : decode cX8_factOf 59 = .ok (.invokevirtual 74, 3) := dk_182 0 74 (dk_at dksX8_factOf_2 11 rfl rfl)
theorem dX8_factOf_62 : decode cX8_factOf 62 = .ok (.ireturn, 1) := dk_172 (dk_at dksX8_factOf_2 14 rfl rfl)
theorem dX8_factOf_63 : decode cX8_factOf 63 = .ok (.aload_n 0, 1) := dk_42 (dk_at dksX8_factOf_2 15 rfl rfl)
theorem dX8_factOf_64 : decode cX8_factOf 64 = .ok (.aload_n 0, 1) := dk_42 (dk_at dksX8_factOf_2 16 rfl rfl)
theorem dX8_factOf_65 : decode cX8_factOf 65 = .ok (.getfield 274, 3) := dk_180 1 18 (dk_at dksX8_factOf_2 17 rfl rfl)
theorem dX8_factOf_68 : decode cX8_factOf 68 = .ok (.iconst 1, 1) := dk_4 (dk_at dksX8_factOf_2 20 rfl rfl)
theorem dX8_factOf_69 : decode cX8_factOf 69 = .ok (.invokevirtual 74, 3) := dk_182 0 74 (dk_at dksX8_factOf_2 21 rfl rfl)
theorem dX8_factOf_72 : decode cX8_factOf 72 = .ok (.ireturn, 1) := dk_172 (dk_at dksX8_factOf_3 0 rfl rfl)
theorem dX8_factOf_73 : decode cX8_factOf 73 = .ok (.aload_n 0, 1) := dk_42 (dk_at dksX8_factOf_3 1 rfl rfl)
theorem dX8_factOf_74 : decode cX8_factOf 74 = .ok (.aload_n 0, 1) := dk_42 (dk_at dksX8_factOf_3 2 rfl rfl)
theorem dX8_factOf_75 : decode cX8_factOf 75 = .ok (.getfield 274, 3) := dk_180 1 18 (dk_at dksX8_factOf_3 3 rfl rfl)
theorem dX8_factOf_78 : decode cX8_factOf 78 = .ok (.iconst 2, 1) := dk_5 (dk_at dksX8_factOf_3 6 rfl rfl)
theorem dX8_factOf_79 : decode cX8_factOf 79 = .ok (.invokevirtual 74, 3) := dk_182 0 74 (dk_at dksX8_factOf_3 7 rfl rfl)
theorem dX8_factOf_82 : decode cX8_factOf 82 = .ok (.ireturn, 1) := dk_172 (dk_at dksX8_factOf_3 10 rfl rfl)
theorem dX8_factOf_83 : decode cX8_factOf 83 = .ok (.aload_n 0, 1) := dk_42 (dk_at dksX8_factOf_3 11 rfl rfl)
theorem dX8_factOf_84 : decode cX8_factOf 84 = .ok (.getfield 277, 3) := dk_180 1 21 (dk_at dksX8_factOf_3 12 rfl rfl)
theorem dX8_factOf_87 : decode cX8_factOf 87 = .ok (.ireturn, 1) := dk_172 (dk_at dksX8_factOf_3 15 rfl rfl)
theorem dX8_factOf_88 : decode cX8_factOf 88 = .ok (.aload_n 0, 1) := dk_42 (dk_at dksX8_factOf_3 16 rfl rfl)
theorem dX8_factOf_89 : decode cX8_factOf 89 = .ok (.getfield 268, 3) := dk_180 1 12 (dk_at dksX8_factOf_3 17 rfl rfl)
theorem dX8_factOf_92 : decode cX8_factOf 92 = .ok (.ireturn, 1) := dk_172 (dk_at dksX8_factOf_3 20 rfl rfl)
theorem dX8_factOf_93 : decode cX8_factOf 93 = .ok (.aload_n 0, 1) := dk_42 (dk_at dksX8_factOf_3 21 rfl rfl)
theorem dX8_factOf_94 : decode cX8_factOf 94 = .ok (.getfield 271, 3) := dk_180 1 15 (dk_at dksX8_factOf_4 0 rfl rfl)
theorem dX8_factOf_97 : decode cX8_factOf 97 = .ok (.aload_n 0, 1) := dk_42 (dk_at dksX8_factOf_4 3 rfl rfl)
theorem dX8_factOf_98 : decode cX8_factOf 98 = .ok (.getfield 274, 3) := dk_180 1 18 (dk_at dksX8_factOf_4 4 rfl rfl)
theorem dX8_factOf_101 : decode cX8_factOf 101 = .ok (.invokestatic 137, 3) := dk_184 0 137 (dk_at dksX8_factOf_4 7 rfl rfl)
theorem dX8_factOf_104 : decode cX8_factOf 104 = .ok (.ifCond .eq 7, 3) := dk_153 0 7 (dk_at dksX8_factOf_4 10 rfl rfl)
theorem dX8_factOf_107 : decode cX8_factOf 107 = .ok (.iconst 1, 1) := dk_4 (dk_at dksX8_factOf_4 13 rfl rfl)
theorem dX8_factOf_108 : decode cX8_factOf 108 = .ok (.goto 4, 3) := dk_167 0 4 (dk_at dksX8_factOf_4 14 rfl rfl)
theorem dX8_factOf_111 : decode cX8_factOf 111 = .ok (.iconst 0, 1) := dk_3 (dk_at dksX8_factOf_4 17 rfl rfl)
theorem dX8_factOf_112 : decode cX8_factOf 112 = .ok (.ireturn, 1) := dk_172 (dk_at dksX8_factOf_4 18 rfl rfl)
theorem dX8_factOf_113 : decode cX8_factOf 113 = .ok (.aload_n 0, 1) := dk_42 (dk_at dksX8_factOf_4 19 rfl rfl)
theorem dX8_factOf_114 : decode cX8_factOf 114 = .ok (.getfield 265, 3) := dk_180 1 9 (dk_at dksX8_factOf_4 20 rfl rfl)
theorem dX8_factOf_117 : decode cX8_factOf 117 = .ok (.aload_n 0, 1) := dk_42 (dk_at dksX8_factOf_4 23 rfl rfl)
theorem dX8_factOf_118 : decode cX8_factOf 118 = .ok (.aload_n 0, 1) := dk_42 (dk_at dksX8_factOf_5 0 rfl rfl)
theorem dX8_factOf_119 : decode cX8_factOf 119 = .ok (.getfield 274, 3) := dk_180 1 18 (dk_at dksX8_factOf_5 1 rfl rfl)
theorem dX8_factOf_122 : decode cX8_factOf 122 = .ok (.iconst 0, 1) := dk_3 (dk_at dksX8_factOf_5 4 rfl rfl)
theorem dX8_factOf_123 : decode cX8_factOf 123 = .ok (.invokevirtual 74, 3) := dk_182 0 74 (dk_at dksX8_factOf_5 5 rfl rfl)
theorem dX8_factOf_126 : decode cX8_factOf 126 = .ok (.invokestatic 137, 3) := dk_184 0 137 (dk_at dksX8_factOf_5 8 rfl rfl)
theorem dX8_factOf_129 : decode cX8_factOf 129 = .ok (.ifCond .eq 7, 3) := dk_153 0 7 (dk_at dksX8_factOf_5 11 rfl rfl)
theorem dX8_factOf_132 : decode cX8_factOf 132 = .ok (.iconst 1, 1) := dk_4 (dk_at dksX8_factOf_5 14 rfl rfl)
theorem dX8_factOf_133 : decode cX8_factOf 133 = .ok (.goto 4, 3) := dk_167 0 4 (dk_at dksX8_factOf_5 15 rfl rfl)
theorem dX8_factOf_136 : decode cX8_factOf 136 = .ok (.iconst 0, 1) := dk_3 (dk_at dksX8_factOf_5 18 rfl rfl)
theorem dX8_factOf_137 : decode cX8_factOf 137 = .ok (.ireturn, 1) := dk_172 (dk_at dksX8_factOf_5 19 rfl rfl)
theorem dX8_factOf_138 : decode cX8_factOf 138 = .ok (.iload_n 2, 1) := dk_28 (dk_at dksX8_factOf_5 20 rfl rfl)
theorem dX8_factOf_139 : decode cX8_factOf 139 = .ok (.ireturn, 1) := dk_172 (dk_at dksX8_factOf_5 21 rfl rfl)
abbrev cX8_frightsBy : ByteArray := prog_18_method_58_code
def yX8_frightsBy : MethodName := ⟨RX8, "frightsBy", "(II)I"⟩
def dkwX8_frightsBy_1 : List UInt8 := [16, 10, 108, 100, 42, 3, 182, 1, 30, 96, 42, 4, 182, 1, 30, 100, 184, 1, 33, 172]
abbrev dktX8_frightsBy_1 : List UInt8 := dkwX8_frightsBy_1 ++ []
def dkwX8_frightsBy_0 : List UInt8 := [42, 27, 181, 1, 18, 42, 28, 181, 1, 21, 3, 42, 27, 4, 182, 0, 74, 42, 27, 5, 182, 0, 74]
abbrev dktX8_frightsBy_0 : List UInt8 := dkwX8_frightsBy_0 ++ dktX8_frightsBy_1
theorem dksX8_frightsBy_0 : cX8_frightsBy.data.toList.drop 0 = dktX8_frightsBy_0 := by decide +kernel
theorem dksX8_frightsBy_1 : cX8_frightsBy.data.toList.drop 23 = dktX8_frightsBy_1 := dk_seg dksX8_frightsBy_0 23 rfl rfl
theorem dX8_frightsBy_0 : decode cX8_frightsBy 0 = .ok (.aload_n 0, 1) := dk_42 (dk_at dksX8_frightsBy_0 0 rfl rfl)
theorem dX8_frightsBy_1 : decode cX8_frightsBy 1 = .ok (.iload_n 1, 1) := dk_27 (dk_at dksX8_frightsBy_0 1 rfl rfl)
theorem dX8_frightsBy_2 : decode cX8_frightsBy 2 = .ok (.putfield 274, 3) := dk_181 1 18 (dk_at dksX8_frightsBy_0 2 rfl rfl)
theorem dX8_frightsBy_5 : decode cX8_frightsBy 5 = .ok (.aload_n 0, 1) := dk_42 (dk_at dksX8_frightsBy_0 5 rfl rfl)
theorem dX8_frightsBy_6 : decode cX8_frightsBy 6 = .ok (.iload_n 2, 1) := dk_28 (dk_at dksX8_frightsBy_0 6 rfl rfl)
theorem dX8_frightsBy_7 : decode cX8_frightsBy 7 = .ok (.putfield 277, 3) := dk_181 1 21 (dk_at dksX8_frightsBy_0 7 rfl rfl)
theorem dX8_frightsBy_10 : decode cX8_frightsBy 10 = .ok (.iconst 0, 1) := dk_3 (dk_at dksX8_frightsBy_0 10 rfl rfl)
theorem dX8_frightsBy_11 : decode cX8_frightsBy 11 = .ok (.aload_n 0, 1) := dk_42 (dk_at dksX8_frightsBy_0 11 rfl rfl)
theorem dX8_frightsBy_12 : decode cX8_frightsBy 12 = .ok (.iload_n 1, 1) := dk_27 (dk_at dksX8_frightsBy_0 12 rfl rfl)
theorem dX8_frightsBy_13 : decode cX8_frightsBy 13 = .ok (.iconst 1, 1) := dk_4 (dk_at dksX8_frightsBy_0 13 rfl rfl)
theorem dX8_frightsBy_14 : decode cX8_frightsBy 14 = .ok (.invokevirtual 74, 3) := dk_182 0 74 (dk_at dksX8_frightsBy_0 14 rfl rfl)
theorem dX8_frightsBy_17 : decode cX8_frightsBy 17 = .ok (.aload_n 0, 1) := dk_42 (dk_at dksX8_frightsBy_0 17 rfl rfl)
theorem dX8_frightsBy_18 : decode cX8_frightsBy 18 = .ok (.iload_n 1, 1) := dk_27 (dk_at dksX8_frightsBy_0 18 rfl rfl)
theorem dX8_frightsBy_19 : decode cX8_frightsBy 19 = .ok (.iconst 2, 1) := dk_5 (dk_at dksX8_frightsBy_0 19 rfl rfl)
theorem dX8_frightsBy_20 : decode cX8_frightsBy 20 = .ok (.invokevirtual 74, 3) := dk_182 0 74 (dk_at dksX8_frightsBy_0 20 rfl rfl)
theorem dX8_frightsBy_23 : decode cX8_frightsBy 23 = .ok (.bipush 10, 2) := dk_16 10 (dk_at dksX8_frightsBy_1 0 rfl rfl)
theorem dX8_frightsBy_25 : decode cX8_frightsBy 25 = .ok (.idiv, 1) := dk_108 (dk_at dksX8_frightsBy_1 2 rfl rfl)
theorem dX8_frightsBy_26 : decode cX8_frightsBy 26 = .ok (.isub, 1) := dk_100 (dk_at dksX8_frightsBy_1 3 rfl rfl)
theorem dX8_frightsBy_27 : decode cX8_frightsBy 27 = .ok (.aload_n 0, 1) := dk_42 (dk_at dksX8_frightsBy_1 4 rfl rfl)
theorem dX8_frightsBy_28 : decode cX8_frightsBy 28 = .ok (.iconst 0, 1) := dk_3 (dk_at dksX8_frightsBy_1 5 rfl rfl)
theorem dX8_frightsBy_29 : decode cX8_frightsBy 29 = .ok (.invokevirtual 286, 3) := dk_182 1 30 (dk_at dksX8_frightsBy_1 6 rfl rfl)
theorem dX8_frightsBy_32 : decode cX8_frightsBy 32 = .ok (.iadd, 1) := dk_96 (dk_at dksX8_frightsBy_1 9 rfl rfl)
theorem dX8_frightsBy_33 : decode cX8_frightsBy 33 = .ok (.aload_n 0, 1) := dk_42 (dk_at dksX8_frightsBy_1 10 rfl rfl)
theorem dX8_frightsBy_34 : decode cX8_frightsBy 34 = .ok (.iconst 1, 1) := dk_4 (dk_at dksX8_frightsBy_1 11 rfl rfl)
theorem dX8_frightsBy_35 : decode cX8_frightsBy 35 = .ok (.invokevirtual 286, 3) := dk_182 1 30 (dk_at dksX8_frightsBy_1 12 rfl rfl)
theorem dX8_frightsBy_38 : decode cX8_frightsBy 38 = .ok (.isub, 1) := dk_100 (dk_at dksX8_frightsBy_1 15 rfl rfl)
theorem dX8_frightsBy_39 : decode cX8_frightsBy 39 = .ok (.invokestatic 289, 3) := dk_184 1 33 (dk_at dksX8_frightsBy_1 16 rfl rfl)
theorem dX8_frightsBy_42 : decode cX8_frightsBy 42 = .ok (.ireturn, 1) := dk_172 (dk_at dksX8_frightsBy_1 19 rfl rfl)
abbrev cX8_send : ByteArray := prog_18_method_72_code
def yX8_send : MethodName := ⟨RX8, "send", "(I)I"⟩
def dkwX8_send_7 : List UInt8 := [79, 42, 180, 0, 13, 16, 7, 16, 60, 42, 180, 0, 13, 16, 7, 46, 4, 96, 184, 1, 96, 79, 28, 172]
abbrev dktX8_send_7 : List UInt8 := dkwX8_send_7 ++ []
def dkwX8_send_6 : List UInt8 := [16, 67, 28, 2, 160, 0, 8, 16, 10, 167, 0, 4, 28, 79, 42, 180, 0, 13, 16, 68, 42, 180, 1, 60]
abbrev dktX8_send_6 : List UInt8 := dkwX8_send_6 ++ dktX8_send_7
def dkwX8_send_5 : List UInt8 := [180, 0, 13, 16, 65, 42, 180, 0, 13, 7, 46, 79, 42, 180, 0, 13, 16, 66, 27, 79, 42, 180, 0, 13]
abbrev dktX8_send_5 : List UInt8 := dkwX8_send_5 ++ dktX8_send_6
def dkwX8_send_4 : List UInt8 := [16, 65, 29, 96, 42, 180, 0, 13, 16, 65, 29, 96, 7, 100, 46, 79, 132, 3, 255, 167, 255, 228, 42]
abbrev dktX8_send_4 : List UInt8 := dkwX8_send_4 ++ dktX8_send_5
def dkwX8_send_3 : List UInt8 := [28, 2, 160, 0, 7, 5, 167, 0, 4, 4, 79, 17, 0, 239, 62, 29, 7, 161, 0, 29, 42, 180, 0, 13]
abbrev dktX8_send_3 : List UInt8 := dkwX8_send_3 ++ dktX8_send_4
def dkwX8_send_2 : List UInt8 := [182, 1, 47, 42, 4, 3, 182, 1, 92, 61, 42, 27, 182, 1, 105, 42, 180, 0, 13, 27, 6, 184, 0, 77]
abbrev dktX8_send_2 : List UInt8 := dkwX8_send_2 ++ dktX8_send_3
def dkwX8_send_1 : List UInt8 := [154, 0, 7, 4, 167, 0, 4, 3, 5, 182, 1, 6, 153, 0, 5, 3, 172, 42, 182, 1, 102, 42, 27]
abbrev dktX8_send_1 : List UInt8 := dkwX8_send_1 ++ dktX8_send_2
def dkwX8_send_0 : List UInt8 := [42, 3, 181, 0, 3, 42, 42, 27, 182, 1, 44, 4, 182, 1, 6, 154, 0, 24, 42, 42, 27, 182, 1, 99]
abbrev dktX8_send_0 : List UInt8 := dkwX8_send_0 ++ dktX8_send_1
theorem dksX8_send_0 : cX8_send.data.toList.drop 0 = dktX8_send_0 := by decide +kernel
theorem dksX8_send_1 : cX8_send.data.toList.drop 24 = dktX8_send_1 := dk_seg dksX8_send_0 24 rfl rfl
theorem dksX8_send_2 : cX8_send.data.toList.drop 47 = dktX8_send_2 := dk_seg dksX8_send_1 23 rfl rfl
theorem dksX8_send_3 : cX8_send.data.toList.drop 71 = dktX8_send_3 := dk_seg dksX8_send_2 24 rfl rfl
theorem dksX8_send_4 : cX8_send.data.toList.drop 95 = dktX8_send_4 := dk_seg dksX8_send_3 24 rfl rfl
theorem dksX8_send_5 : cX8_send.data.toList.drop 118 = dktX8_send_5 := dk_seg dksX8_send_4 23 rfl rfl
theorem dksX8_send_6 : cX8_send.data.toList.drop 142 = dktX8_send_6 := dk_seg dksX8_send_5 24 rfl rfl
theorem dksX8_send_7 : cX8_send.data.toList.drop 166 = dktX8_send_7 := dk_seg dksX8_send_6 24 rfl rfl
theorem dX8_send_0 : decode cX8_send 0 = .ok (.aload_n 0, 1) := dk_42 (dk_at dksX8_send_0 0 rfl rfl)
theorem dX8_send_1 : decode cX8_send 1 = .ok (.iconst 0, 1) := dk_3 (dk_at dksX8_send_0 1 rfl rfl)
theorem dX8_send_2 : decode cX8_send 2 = .ok (.putfield 3, 3) := dk_181 0 3 (dk_at dksX8_send_0 2 rfl rfl)
theorem dX8_send_5 : decode cX8_send 5 = .ok (.aload_n 0, 1) := dk_42 (dk_at dksX8_send_0 5 rfl rfl)
theorem dX8_send_6 : decode cX8_send 6 = .ok (.aload_n 0, 1) := dk_42 (dk_at dksX8_send_0 6 rfl rfl)
theorem dX8_send_7 : decode cX8_send 7 = .ok (.iload_n 1, 1) := dk_27 (dk_at dksX8_send_0 7 rfl rfl)
theorem dX8_send_8 : decode cX8_send 8 = .ok (.invokevirtual 300, 3) := dk_182 1 44 (dk_at dksX8_send_0 8 rfl rfl)
theorem dX8_send_11 : decode cX8_send 11 = .ok (.iconst 1, 1) := dk_4 (dk_at dksX8_send_0 11 rfl rfl)
theorem dX8_send_12 : decode cX8_send 12 = .ok (.invokevirtual 262, 3) := dk_182 1 6 (dk_at dksX8_send_0 12 rfl rfl)
theorem dX8_send_15 : decode cX8_send 15 = .ok (.ifCond .ne 24, 3) := dk_154 0 24 (dk_at dksX8_send_0 15 rfl rfl)
theorem dX8_send_18 : decode cX8_send 18 = .ok (.aload_n 0, 1) := dk_42 (dk_at dksX8_send_0 18 rfl rfl)
theorem dX8_send_19 : decode cX8_send 19 = .ok (.aload_n 0, 1) := dk_42 (dk_at dksX8_send_0 19 rfl rfl)
theorem dX8_send_20 : decode cX8_send 20 = .ok (.iload_n 1, 1) := dk_27 (dk_at dksX8_send_0 20 rfl rfl)
theorem dX8_send_21 : decode cX8_send 21 = .ok (.invokevirtual 355, 3) := dk_182 1 99 (dk_at dksX8_send_0 21 rfl rfl)
theorem dX8_send_24 : decode cX8_send 24 = .ok (.ifCond .ne 7, 3) := dk_154 0 7 (dk_at dksX8_send_1 0 rfl rfl)
theorem dX8_send_27 : decode cX8_send 27 = .ok (.iconst 1, 1) := dk_4 (dk_at dksX8_send_1 3 rfl rfl)
theorem dX8_send_28 : decode cX8_send 28 = .ok (.goto 4, 3) := dk_167 0 4 (dk_at dksX8_send_1 4 rfl rfl)
theorem dX8_send_31 : decode cX8_send 31 = .ok (.iconst 0, 1) := dk_3 (dk_at dksX8_send_1 7 rfl rfl)
theorem dX8_send_32 : decode cX8_send 32 = .ok (.iconst 2, 1) := dk_5 (dk_at dksX8_send_1 8 rfl rfl)
theorem dX8_send_33 : decode cX8_send 33 = .ok (.invokevirtual 262, 3) := dk_182 1 6 (dk_at dksX8_send_1 9 rfl rfl)
theorem dX8_send_36 : decode cX8_send 36 = .ok (.ifCond .eq 5, 3) := dk_153 0 5 (dk_at dksX8_send_1 12 rfl rfl)
theorem dX8_send_39 : decode cX8_send 39 = .ok (.iconst 0, 1) := dk_3 (dk_at dksX8_send_1 15 rfl rfl)
theorem dX8_send_40 : decode cX8_send 40 = .ok (.ireturn, 1) := dk_172 (dk_at dksX8_send_1 16 rfl rfl)
theorem dX8_send_41 : decode cX8_send 41 = .ok (.aload_n 0, 1) := dk_42 (dk_at dksX8_send_1 17 rfl rfl)
theorem dX8_send_42 : decode cX8_send 42 = .ok (.invokevirtual 358, 3) := dk_182 1 102 (dk_at dksX8_send_1 18 rfl rfl)
theorem dX8_send_45 : decode cX8_send 45 = .ok (.aload_n 0, 1) := dk_42 (dk_at dksX8_send_1 21 rfl rfl)
theorem dX8_send_46 : decode cX8_send 46 = .ok (.iload_n 1, 1) := dk_27 (dk_at dksX8_send_1 22 rfl rfl)
theorem dX8_send_47 : decode cX8_send 47 = .ok (.invokevirtual 303, 3) := dk_182 1 47 (dk_at dksX8_send_2 0 rfl rfl)
theorem dX8_send_50 : decode cX8_send 50 = .ok (.aload_n 0, 1) := dk_42 (dk_at dksX8_send_2 3 rfl rfl)
theorem dX8_send_51 : decode cX8_send 51 = .ok (.iconst 1, 1) := dk_4 (dk_at dksX8_send_2 4 rfl rfl)
theorem dX8_send_52 : decode cX8_send 52 = .ok (.iconst 0, 1) := dk_3 (dk_at dksX8_send_2 5 rfl rfl)
theorem dX8_send_53 : decode cX8_send 53 = .ok (.invokevirtual 348, 3) := dk_182 1 92 (dk_at dksX8_send_2 6 rfl rfl)
theorem dX8_send_56 : decode cX8_send 56 = .ok (.istore_n 2, 1) := dk_61 (dk_at dksX8_send_2 9 rfl rfl)
theorem dX8_send_57 : decode cX8_send 57 = .ok (.aload_n 0, 1) := dk_42 (dk_at dksX8_send_2 10 rfl rfl)
theorem dX8_send_58 : decode cX8_send 58 = .ok (.iload_n 1, 1) := dk_27 (dk_at dksX8_send_2 11 rfl rfl)
theorem dX8_send_59 : decode cX8_send 59 = .ok (.invokevirtual 361, 3) := dk_182 1 105 (dk_at dksX8_send_2 12 rfl rfl)
theorem dX8_send_62 : decode cX8_send 62 = .ok (.aload_n 0, 1) := dk_42 (dk_at dksX8_send_2 15 rfl rfl)
theorem dX8_send_63 : decode cX8_send 63 = .ok (.getfield 13, 3) := dk_180 0 13 (dk_at dksX8_send_2 16 rfl rfl)
theorem dX8_send_66 : decode cX8_send 66 = .ok (.iload_n 1, 1) := dk_27 (dk_at dksX8_send_2 19 rfl rfl)
theorem dX8_send_67 : decode cX8_send 67 = .ok (.iconst 3, 1) := dk_6 (dk_at dksX8_send_2 20 rfl rfl)
theorem dX8_send_68 : decode cX8_send 68 = .ok (.invokestatic 77, 3) := dk_184 0 77 (dk_at dksX8_send_2 21 rfl rfl)
theorem dX8_send_71 : decode cX8_send 71 = .ok (.iload_n 2, 1) := dk_28 (dk_at dksX8_send_3 0 rfl rfl)
theorem dX8_send_72 : decode cX8_send 72 = .ok (.iconst (-1), 1) := dk_2 (dk_at dksX8_send_3 1 rfl rfl)
theorem dX8_send_73 : decode cX8_send 73 = .ok (.if_icmp .ne 7, 3) := dk_160 0 7 (dk_at dksX8_send_3 2 rfl rfl)
theorem dX8_send_76 : decode cX8_send 76 = .ok (.iconst 2, 1) := dk_5 (dk_at dksX8_send_3 5 rfl rfl)
theorem dX8_send_77 : decode cX8_send 77 = .ok (.goto 4, 3) := dk_167 0 4 (dk_at dksX8_send_3 6 rfl rfl)
theorem dX8_send_80 : decode cX8_send 80 = .ok (.iconst 1, 1) := dk_4 (dk_at dksX8_send_3 9 rfl rfl)
theorem dX8_send_81 : decode cX8_send 81 = .ok (.iastore, 1) := dk_79 (dk_at dksX8_send_3 10 rfl rfl)
theorem dX8_send_82 : decode cX8_send 82 = .ok (.sipush 239, 3) := dk_17 0 239 (dk_at dksX8_send_3 11 rfl rfl)
theorem dX8_send_85 : decode cX8_send 85 = .ok (.istore_n 3, 1) := dk_62 (dk_at dksX8_send_3 14 rfl rfl)
theorem dX8_send_86 : decode cX8_send 86 = .ok (.iload_n 3, 1) := dk_29 (dk_at dksX8_send_3 15 rfl rfl)
theorem dX8_send_87 : decode cX8_send 87 = .ok (.iconst 4, 1) := dk_7 (dk_at dksX8_send_3 16 rfl rfl)
theorem dX8_send_88 : decode cX8_send 88 = .ok (.if_icmp .lt 29, 3) := dk_161 0 29 (dk_at dksX8_send_3 17 rfl rfl)
theorem dX8_send_91 : decode cX8_send 91 = .ok (.aload_n 0, 1) := dk_42 (dk_at dksX8_send_3 20 rfl rfl)
theorem dX8_send_92 : decode cX8_send 92 = .ok (.getfield 13, 3) := dk_180 0 13 (dk_at dksX8_send_3 21 rfl rfl)
theorem dX8_send_95 : decode cX8_send 95 = .ok (.bipush 65, 2) := dk_16 65 (dk_at dksX8_send_4 0 rfl rfl)
theorem dX8_send_97 : decode cX8_send 97 = .ok (.iload_n 3, 1) := dk_29 (dk_at dksX8_send_4 2 rfl rfl)
theorem dX8_send_98 : decode cX8_send 98 = .ok (.iadd, 1) := dk_96 (dk_at dksX8_send_4 3 rfl rfl)
theorem dX8_send_99 : decode cX8_send 99 = .ok (.aload_n 0, 1) := dk_42 (dk_at dksX8_send_4 4 rfl rfl)
theorem dX8_send_100 : decode cX8_send 100 = .ok (.getfield 13, 3) := dk_180 0 13 (dk_at dksX8_send_4 5 rfl rfl)
theorem dX8_send_103 : decode cX8_send 103 = .ok (.bipush 65, 2) := dk_16 65 (dk_at dksX8_send_4 8 rfl rfl)
theorem dX8_send_105 : decode cX8_send 105 = .ok (.iload_n 3, 1) := dk_29 (dk_at dksX8_send_4 10 rfl rfl)
theorem dX8_send_106 : decode cX8_send 106 = .ok (.iadd, 1) := dk_96 (dk_at dksX8_send_4 11 rfl rfl)
theorem dX8_send_107 : decode cX8_send 107 = .ok (.iconst 4, 1) := dk_7 (dk_at dksX8_send_4 12 rfl rfl)
theorem dX8_send_108 : decode cX8_send 108 = .ok (.isub, 1) := dk_100 (dk_at dksX8_send_4 13 rfl rfl)
theorem dX8_send_109 : decode cX8_send 109 = .ok (.iaload, 1) := dk_46 (dk_at dksX8_send_4 14 rfl rfl)
theorem dX8_send_110 : decode cX8_send 110 = .ok (.iastore, 1) := dk_79 (dk_at dksX8_send_4 15 rfl rfl)
theorem dX8_send_111 : decode cX8_send 111 = .ok (.iinc 3 (-1), 3) := dk_132 3 255 (dk_at dksX8_send_4 16 rfl rfl)
theorem dX8_send_114 : decode cX8_send 114 = .ok (.goto (-28), 3) := dk_167 255 228 (dk_at dksX8_send_4 19 rfl rfl)
theorem dX8_send_117 : decode cX8_send 117 = .ok (.aload_n 0, 1) := dk_42 (dk_at dksX8_send_4 22 rfl rfl)
theorem dX8_send_118 : decode cX8_send 118 = .ok (.getfield 13, 3) := dk_180 0 13 (dk_at dksX8_send_5 0 rfl rfl)
theorem dX8_send_121 : decode cX8_send 121 = .ok (.bipush 65, 2) := dk_16 65 (dk_at dksX8_send_5 3 rfl rfl)
theorem dX8_send_123 : decode cX8_send 123 = .ok (.aload_n 0, 1) := dk_42 (dk_at dksX8_send_5 5 rfl rfl)
theorem dX8_send_124 : decode cX8_send 124 = .ok (.getfield 13, 3) := dk_180 0 13 (dk_at dksX8_send_5 6 rfl rfl)
theorem dX8_send_127 : decode cX8_send 127 = .ok (.iconst 4, 1) := dk_7 (dk_at dksX8_send_5 9 rfl rfl)
theorem dX8_send_128 : decode cX8_send 128 = .ok (.iaload, 1) := dk_46 (dk_at dksX8_send_5 10 rfl rfl)
theorem dX8_send_129 : decode cX8_send 129 = .ok (.iastore, 1) := dk_79 (dk_at dksX8_send_5 11 rfl rfl)
theorem dX8_send_130 : decode cX8_send 130 = .ok (.aload_n 0, 1) := dk_42 (dk_at dksX8_send_5 12 rfl rfl)
theorem dX8_send_131 : decode cX8_send 131 = .ok (.getfield 13, 3) := dk_180 0 13 (dk_at dksX8_send_5 13 rfl rfl)
theorem dX8_send_134 : decode cX8_send 134 = .ok (.bipush 66, 2) := dk_16 66 (dk_at dksX8_send_5 16 rfl rfl)
theorem dX8_send_136 : decode cX8_send 136 = .ok (.iload_n 1, 1) := dk_27 (dk_at dksX8_send_5 18 rfl rfl)
theorem dX8_send_137 : decode cX8_send 137 = .ok (.iastore, 1) := dk_79 (dk_at dksX8_send_5 19 rfl rfl)
theorem dX8_send_138 : decode cX8_send 138 = .ok (.aload_n 0, 1) := dk_42 (dk_at dksX8_send_5 20 rfl rfl)
theorem dX8_send_139 : decode cX8_send 139 = .ok (.getfield 13, 3) := dk_180 0 13 (dk_at dksX8_send_5 21 rfl rfl)
theorem dX8_send_142 : decode cX8_send 142 = .ok (.bipush 67, 2) := dk_16 67 (dk_at dksX8_send_6 0 rfl rfl)
theorem dX8_send_144 : decode cX8_send 144 = .ok (.iload_n 2, 1) := dk_28 (dk_at dksX8_send_6 2 rfl rfl)
theorem dX8_send_145 : decode cX8_send 145 = .ok (.iconst (-1), 1) := dk_2 (dk_at dksX8_send_6 3 rfl rfl)
theorem dX8_send_146 : decode cX8_send 146 = .ok (.if_icmp .ne 8, 3) := dk_160 0 8 (dk_at dksX8_send_6 4 rfl rfl)
theorem dX8_send_149 : decode cX8_send 149 = .ok (.bipush 10, 2) := dk_16 10 (dk_at dksX8_send_6 7 rfl rfl)
theorem dX8_send_151 : decode cX8_send 151 = .ok (.goto 4, 3) := dk_167 0 4 (dk_at dksX8_send_6 9 rfl rfl)
theorem dX8_send_154 : decode cX8_send 154 = .ok (.iload_n 2, 1) := dk_28 (dk_at dksX8_send_6 12 rfl rfl)
theorem dX8_send_155 : decode cX8_send 155 = .ok (.iastore, 1) := dk_79 (dk_at dksX8_send_6 13 rfl rfl)
theorem dX8_send_156 : decode cX8_send 156 = .ok (.aload_n 0, 1) := dk_42 (dk_at dksX8_send_6 14 rfl rfl)
theorem dX8_send_157 : decode cX8_send 157 = .ok (.getfield 13, 3) := dk_180 0 13 (dk_at dksX8_send_6 15 rfl rfl)
theorem dX8_send_160 : decode cX8_send 160 = .ok (.bipush 68, 2) := dk_16 68 (dk_at dksX8_send_6 18 rfl rfl)
theorem dX8_send_162 : decode cX8_send 162 = .ok (.aload_n 0, 1) := dk_42 (dk_at dksX8_send_6 20 rfl rfl)
theorem dX8_send_163 : decode cX8_send 163 = .ok (.getfield 316, 3) := dk_180 1 60 (dk_at dksX8_send_6 21 rfl rfl)
theorem dX8_send_166 : decode cX8_send 166 = .ok (.iastore, 1) := dk_79 (dk_at dksX8_send_7 0 rfl rfl)
theorem dX8_send_167 : decode cX8_send 167 = .ok (.aload_n 0, 1) := dk_42 (dk_at dksX8_send_7 1 rfl rfl)
theorem dX8_send_168 : decode cX8_send 168 = .ok (.getfield 13, 3) := dk_180 0 13 (dk_at dksX8_send_7 2 rfl rfl)
theorem dX8_send_171 : decode cX8_send 171 = .ok (.bipush 7, 2) := dk_16 7 (dk_at dksX8_send_7 5 rfl rfl)
theorem dX8_send_173 : decode cX8_send 173 = .ok (.bipush 60, 2) := dk_16 60 (dk_at dksX8_send_7 7 rfl rfl)
theorem dX8_send_175 : decode cX8_send 175 = .ok (.aload_n 0, 1) := dk_42 (dk_at dksX8_send_7 9 rfl rfl)
theorem dX8_send_176 : decode cX8_send 176 = .ok (.getfield 13, 3) := dk_180 0 13 (dk_at dksX8_send_7 10 rfl rfl)
theorem dX8_send_179 : decode cX8_send 179 = .ok (.bipush 7, 2) := dk_16 7 (dk_at dksX8_send_7 13 rfl rfl)
theorem dX8_send_181 : decode cX8_send 181 = .ok (.iaload, 1) := dk_46 (dk_at dksX8_send_7 15 rfl rfl)
theorem dX8_send_182 : decode cX8_send 182 = .ok (.iconst 1, 1) := dk_4 (dk_at dksX8_send_7 16 rfl rfl)
theorem dX8_send_183 : decode cX8_send 183 = .ok (.iadd, 1) := dk_96 (dk_at dksX8_send_7 17 rfl rfl)
theorem dX8_send_184 : decode cX8_send 184 = .ok (.invokestatic 352, 3) := dk_184 1 96 (dk_at dksX8_send_7 18 rfl rfl)
theorem dX8_send_187 : decode cX8_send 187 = .ok (.iastore, 1) := dk_79 (dk_at dksX8_send_7 21 rfl rfl)
theorem dX8_send_188 : decode cX8_send 188 = .ok (.iload_n 2, 1) := dk_28 (dk_at dksX8_send_7 22 rfl rfl)
theorem dX8_send_189 : decode cX8_send 189 = .ok (.ireturn, 1) := dk_172 (dk_at dksX8_send_7 23 rfl rfl)
abbrev cX8_waits : ByteArray := prog_18_method_17_code
def yX8_waits : MethodName := ⟨RX8, "waits", "(I)Z"⟩
def dkwX8_waits_0 : List UInt8 := [42, 27, 6, 182, 0, 80, 154, 0, 7, 4, 167, 0, 4, 3, 172]
abbrev dktX8_waits_0 : List UInt8 := dkwX8_waits_0 ++ []
theorem dksX8_waits_0 : cX8_waits.data.toList.drop 0 = dktX8_waits_0 := by decide +kernel
theorem dX8_waits_0 : decode cX8_waits 0 = .ok (.aload_n 0, 1) := dk_42 (dk_at dksX8_waits_0 0 rfl rfl)
theorem dX8_waits_1 : decode cX8_waits 1 = .ok (.iload_n 1, 1) := dk_27 (dk_at dksX8_waits_0 1 rfl rfl)
theorem dX8_waits_2 : decode cX8_waits 2 = .ok (.iconst 3, 1) := dk_6 (dk_at dksX8_waits_0 2 rfl rfl)
theorem dX8_waits_3 : decode cX8_waits 3 = .ok (.invokevirtual 80, 3) := dk_182 0 80 (dk_at dksX8_waits_0 3 rfl rfl)
theorem dX8_waits_6 : decode cX8_waits 6 = .ok (.ifCond .ne 7, 3) := dk_154 0 7 (dk_at dksX8_waits_0 6 rfl rfl)
theorem dX8_waits_9 : decode cX8_waits 9 = .ok (.iconst 1, 1) := dk_4 (dk_at dksX8_waits_0 9 rfl rfl)
theorem dX8_waits_10 : decode cX8_waits 10 = .ok (.goto 4, 3) := dk_167 0 4 (dk_at dksX8_waits_0 10 rfl rfl)
theorem dX8_waits_13 : decode cX8_waits 13 = .ok (.iconst 0, 1) := dk_3 (dk_at dksX8_waits_0 13 rfl rfl)
theorem dX8_waits_14 : decode cX8_waits 14 = .ok (.ireturn, 1) := dk_172 (dk_at dksX8_waits_0 14 rfl rfl)
abbrev cX8_remembers : ByteArray := prog_18_method_8_code
def yX8_remembers : MethodName := ⟨RX8, "remembers", "()V"⟩
def dkwX8_remembers_3 : List UInt8 := [180, 0, 67, 4, 100, 104, 27, 96, 42, 180, 0, 13, 27, 46, 79, 132, 1, 1, 167, 255, 223, 177]
abbrev dktX8_remembers_3 : List UInt8 := dkwX8_remembers_3 ++ []
def dkwX8_remembers_2 : List UInt8 := [4, 96, 181, 0, 67, 3, 60, 27, 17, 1, 49, 162, 0, 32, 42, 180, 0, 26, 17, 1, 49, 42]
abbrev dktX8_remembers_2 : List UInt8 := dkwX8_remembers_2 ++ dktX8_remembers_3
def dkwX8_remembers_1 : List UInt8 := [180, 0, 26, 27, 17, 1, 49, 96, 46, 79, 132, 1, 1, 167, 255, 230, 167, 0, 13, 42, 89, 180, 0, 67]
abbrev dktX8_remembers_1 : List UInt8 := dkwX8_remembers_1 ++ dktX8_remembers_2
def dkwX8_remembers_0 : List UInt8 := [42, 180, 0, 67, 16, 12, 160, 0, 37, 3, 60, 27, 17, 13, 27, 162, 0, 25, 42, 180, 0, 26, 27, 42]
abbrev dktX8_remembers_0 : List UInt8 := dkwX8_remembers_0 ++ dktX8_remembers_1
theorem dksX8_remembers_0 : cX8_remembers.data.toList.drop 0 = dktX8_remembers_0 := by decide +kernel
theorem dksX8_remembers_1 : cX8_remembers.data.toList.drop 24 = dktX8_remembers_1 := dk_seg dksX8_remembers_0 24 rfl rfl
theorem dksX8_remembers_2 : cX8_remembers.data.toList.drop 48 = dktX8_remembers_2 := dk_seg dksX8_remembers_1 24 rfl rfl
theorem dksX8_remembers_3 : cX8_remembers.data.toList.drop 70 = dktX8_remembers_3 := dk_seg dksX8_remembers_2 22 rfl rfl
theorem dX8_remembers_0 : decode cX8_remembers 0 = .ok (.aload_n 0, 1) := dk_42 (dk_at dksX8_remembers_0 0 rfl rfl)
theorem dX8_remembers_1 : decode cX8_remembers 1 = .ok (.getfield 67, 3) := dk_180 0 67 (dk_at dksX8_remembers_0 1 rfl rfl)
theorem dX8_remembers_4 : decode cX8_remembers 4 = .ok (.bipush 12, 2) := dk_16 12 (dk_at dksX8_remembers_0 4 rfl rfl)
theorem dX8_remembers_6 : decode cX8_remembers 6 = .ok (.if_icmp .ne 37, 3) := dk_160 0 37 (dk_at dksX8_remembers_0 6 rfl rfl)
theorem dX8_remembers_9 : decode cX8_remembers 9 = .ok (.iconst 0, 1) := dk_3 (dk_at dksX8_remembers_0 9 rfl rfl)
theorem dX8_remembers_10 : decode cX8_remembers 10 = .ok (.istore_n 1, 1) := dk_60 (dk_at dksX8_remembers_0 10 rfl rfl)
theorem dX8_remembers_11 : decode cX8_remembers 11 = .ok (.iload_n 1, 1) := dk_27 (dk_at dksX8_remembers_0 11 rfl rfl)
theorem dX8_remembers_12 : decode cX8_remembers 12 = .ok (.sipush 3355, 3) := dk_17 13 27 (dk_at dksX8_remembers_0 12 rfl rfl)
theorem dX8_remembers_15 : decode cX8_remembers 15 = .ok (.if_icmp .ge 25, 3) := dk_162 0 25 (dk_at dksX8_remembers_0 15 rfl rfl)
theorem dX8_remembers_18 : decode cX8_remembers 18 = .ok (.aload_n 0, 1) := dk_42 (dk_at dksX8_remembers_0 18 rfl rfl)
theorem dX8_remembers_19 : decode cX8_remembers 19 = .ok (.getfield 26, 3) := dk_180 0 26 (dk_at dksX8_remembers_0 19 rfl rfl)
theorem dX8_remembers_22 : decode cX8_remembers 22 = .ok (.iload_n 1, 1) := dk_27 (dk_at dksX8_remembers_0 22 rfl rfl)
theorem dX8_remembers_23 : decode cX8_remembers 23 = .ok (.aload_n 0, 1) := dk_42 (dk_at dksX8_remembers_0 23 rfl rfl)
theorem dX8_remembers_24 : decode cX8_remembers 24 = .ok (.getfield 26, 3) := dk_180 0 26 (dk_at dksX8_remembers_1 0 rfl rfl)
theorem dX8_remembers_27 : decode cX8_remembers 27 = .ok (.iload_n 1, 1) := dk_27 (dk_at dksX8_remembers_1 3 rfl rfl)
theorem dX8_remembers_28 : decode cX8_remembers 28 = .ok (.sipush 305, 3) := dk_17 1 49 (dk_at dksX8_remembers_1 4 rfl rfl)
theorem dX8_remembers_31 : decode cX8_remembers 31 = .ok (.iadd, 1) := dk_96 (dk_at dksX8_remembers_1 7 rfl rfl)
theorem dX8_remembers_32 : decode cX8_remembers 32 = .ok (.iaload, 1) := dk_46 (dk_at dksX8_remembers_1 8 rfl rfl)
theorem dX8_remembers_33 : decode cX8_remembers 33 = .ok (.iastore, 1) := dk_79 (dk_at dksX8_remembers_1 9 rfl rfl)
theorem dX8_remembers_34 : decode cX8_remembers 34 = .ok (.iinc 1 1, 3) := dk_132 1 1 (dk_at dksX8_remembers_1 10 rfl rfl)
theorem dX8_remembers_37 : decode cX8_remembers 37 = .ok (.goto (-26), 3) := dk_167 255 230 (dk_at dksX8_remembers_1 13 rfl rfl)
theorem dX8_remembers_40 : decode cX8_remembers 40 = .ok (.goto 13, 3) := dk_167 0 13 (dk_at dksX8_remembers_1 16 rfl rfl)
theorem dX8_remembers_43 : decode cX8_remembers 43 = .ok (.aload_n 0, 1) := dk_42 (dk_at dksX8_remembers_1 19 rfl rfl)
theorem dX8_remembers_44 : decode cX8_remembers 44 = .ok (.dup, 1) := dk_89 (dk_at dksX8_remembers_1 20 rfl rfl)
theorem dX8_remembers_45 : decode cX8_remembers 45 = .ok (.getfield 67, 3) := dk_180 0 67 (dk_at dksX8_remembers_1 21 rfl rfl)
theorem dX8_remembers_48 : decode cX8_remembers 48 = .ok (.iconst 1, 1) := dk_4 (dk_at dksX8_remembers_2 0 rfl rfl)
theorem dX8_remembers_49 : decode cX8_remembers 49 = .ok (.iadd, 1) := dk_96 (dk_at dksX8_remembers_2 1 rfl rfl)
theorem dX8_remembers_50 : decode cX8_remembers 50 = .ok (.putfield 67, 3) := dk_181 0 67 (dk_at dksX8_remembers_2 2 rfl rfl)
theorem dX8_remembers_53 : decode cX8_remembers 53 = .ok (.iconst 0, 1) := dk_3 (dk_at dksX8_remembers_2 5 rfl rfl)
theorem dX8_remembers_54 : decode cX8_remembers 54 = .ok (.istore_n 1, 1) := dk_60 (dk_at dksX8_remembers_2 6 rfl rfl)
theorem dX8_remembers_55 : decode cX8_remembers 55 = .ok (.iload_n 1, 1) := dk_27 (dk_at dksX8_remembers_2 7 rfl rfl)
theorem dX8_remembers_56 : decode cX8_remembers 56 = .ok (.sipush 305, 3) := dk_17 1 49 (dk_at dksX8_remembers_2 8 rfl rfl)
theorem dX8_remembers_59 : decode cX8_remembers 59 = .ok (.if_icmp .ge 32, 3) := dk_162 0 32 (dk_at dksX8_remembers_2 11 rfl rfl)
theorem dX8_remembers_62 : decode cX8_remembers 62 = .ok (.aload_n 0, 1) := dk_42 (dk_at dksX8_remembers_2 14 rfl rfl)
theorem dX8_remembers_63 : decode cX8_remembers 63 = .ok (.getfield 26, 3) := dk_180 0 26 (dk_at dksX8_remembers_2 15 rfl rfl)
theorem dX8_remembers_66 : decode cX8_remembers 66 = .ok (.sipush 305, 3) := dk_17 1 49 (dk_at dksX8_remembers_2 18 rfl rfl)
theorem dX8_remembers_69 : decode cX8_remembers 69 = .ok (.aload_n 0, 1) := dk_42 (dk_at dksX8_remembers_2 21 rfl rfl)
theorem dX8_remembers_70 : decode cX8_remembers 70 = .ok (.getfield 67, 3) := dk_180 0 67 (dk_at dksX8_remembers_3 0 rfl rfl)
theorem dX8_remembers_73 : decode cX8_remembers 73 = .ok (.iconst 1, 1) := dk_4 (dk_at dksX8_remembers_3 3 rfl rfl)
theorem dX8_remembers_74 : decode cX8_remembers 74 = .ok (.isub, 1) := dk_100 (dk_at dksX8_remembers_3 4 rfl rfl)
theorem dX8_remembers_75 : decode cX8_remembers 75 = .ok (.imul, 1) := dk_104 (dk_at dksX8_remembers_3 5 rfl rfl)
theorem dX8_remembers_76 : decode cX8_remembers 76 = .ok (.iload_n 1, 1) := dk_27 (dk_at dksX8_remembers_3 6 rfl rfl)
theorem dX8_remembers_77 : decode cX8_remembers 77 = .ok (.iadd, 1) := dk_96 (dk_at dksX8_remembers_3 7 rfl rfl)
theorem dX8_remembers_78 : decode cX8_remembers 78 = .ok (.aload_n 0, 1) := dk_42 (dk_at dksX8_remembers_3 8 rfl rfl)
theorem dX8_remembers_79 : decode cX8_remembers 79 = .ok (.getfield 13, 3) := dk_180 0 13 (dk_at dksX8_remembers_3 9 rfl rfl)
theorem dX8_remembers_82 : decode cX8_remembers 82 = .ok (.iload_n 1, 1) := dk_27 (dk_at dksX8_remembers_3 12 rfl rfl)
theorem dX8_remembers_83 : decode cX8_remembers 83 = .ok (.iaload, 1) := dk_46 (dk_at dksX8_remembers_3 13 rfl rfl)
theorem dX8_remembers_84 : decode cX8_remembers 84 = .ok (.iastore, 1) := dk_79 (dk_at dksX8_remembers_3 14 rfl rfl)
theorem dX8_remembers_85 : decode cX8_remembers 85 = .ok (.iinc 1 1, 3) := dk_132 1 1 (dk_at dksX8_remembers_3 15 rfl rfl)
theorem dX8_remembers_88 : decode cX8_remembers 88 = .ok (.goto (-33), 3) := dk_167 255 223 (dk_at dksX8_remembers_3 18 rfl rfl)
theorem dX8_remembers_91 : decode cX8_remembers 91 = .ok (.return_, 1) := dk_177 (dk_at dksX8_remembers_3 21 rfl rfl)
abbrev cX8_rides : ByteArray := prog_18_method_69_code
def yX8_rides : MethodName := ⟨RX8, "rides", "(ZZ)I"⟩
def dkwX8_rides_2 : List UInt8 := [180, 1, 69, 172]
abbrev dktX8_rides_2 : List UInt8 := dkwX8_rides_2 ++ []
def dkwX8_rides_1 : List UInt8 := [3, 79, 42, 180, 1, 69, 2, 160, 0, 10, 42, 29, 27, 28, 182, 1, 88, 132, 3, 1, 167, 255, 218, 42]
abbrev dktX8_rides_1 : List UInt8 := dkwX8_rides_1 ++ dktX8_rides_2
def dkwX8_rides_0 : List UInt8 := [42, 182, 1, 85, 3, 62, 29, 16, 10, 162, 0, 38, 42, 180, 0, 42, 29, 2, 79, 42, 180, 0, 45, 29]
abbrev dktX8_rides_0 : List UInt8 := dkwX8_rides_0 ++ dktX8_rides_1
theorem dksX8_rides_0 : cX8_rides.data.toList.drop 0 = dktX8_rides_0 := by decide +kernel
theorem dksX8_rides_1 : cX8_rides.data.toList.drop 24 = dktX8_rides_1 := dk_seg dksX8_rides_0 24 rfl rfl
theorem dksX8_rides_2 : cX8_rides.data.toList.drop 48 = dktX8_rides_2 := dk_seg dksX8_rides_1 24 rfl rfl
theorem dX8_rides_0 : decode cX8_rides 0 = .ok (.aload_n 0, 1) := dk_42 (dk_at dksX8_rides_0 0 rfl rfl)
theorem dX8_rides_1 : decode cX8_rides 1 = .ok (.invokevirtual 341, 3) := dk_182 1 85 (dk_at dksX8_rides_0 1 rfl rfl)
theorem dX8_rides_4 : decode cX8_rides 4 = .ok (.iconst 0, 1) := dk_3 (dk_at dksX8_rides_0 4 rfl rfl)
theorem dX8_rides_5 : decode cX8_rides 5 = .ok (.istore_n 3, 1) := dk_62 (dk_at dksX8_rides_0 5 rfl rfl)
theorem dX8_rides_6 : decode cX8_rides 6 = .ok (.iload_n 3, 1) := dk_29 (dk_at dksX8_rides_0 6 rfl rfl)
theorem dX8_rides_7 : decode cX8_rides 7 = .ok (.bipush 10, 2) := dk_16 10 (dk_at dksX8_rides_0 7 rfl rfl)
theorem dX8_rides_9 : decode cX8_rides 9 = .ok (.if_icmp .ge 38, 3) := dk_162 0 38 (dk_at dksX8_rides_0 9 rfl rfl)
theorem dX8_rides_12 : decode cX8_rides 12 = .ok (.aload_n 0, 1) := dk_42 (dk_at dksX8_rides_0 12 rfl rfl)
theorem dX8_rides_13 : decode cX8_rides 13 = .ok (.getfield 42, 3) := dk_180 0 42 (dk_at dksX8_rides_0 13 rfl rfl)
theorem dX8_rides_16 : decode cX8_rides 16 = .ok (.iload_n 3, 1) := dk_29 (dk_at dksX8_rides_0 16 rfl rfl)
theorem dX8_rides_17 : decode cX8_rides 17 = .ok (.iconst (-1), 1) := dk_2 (dk_at dksX8_rides_0 17 rfl rfl)
theorem dX8_rides_18 : decode cX8_rides 18 = .ok (.iastore, 1) := dk_79 (dk_at dksX8_rides_0 18 rfl rfl)
theorem dX8_rides_19 : decode cX8_rides 19 = .ok (.aload_n 0, 1) := dk_42 (dk_at dksX8_rides_0 19 rfl rfl)
theorem dX8_rides_20 : decode cX8_rides 20 = .ok (.getfield 45, 3) := dk_180 0 45 (dk_at dksX8_rides_0 20 rfl rfl)
theorem dX8_rides_23 : decode cX8_rides 23 = .ok (.iload_n 3, 1) := dk_29 (dk_at dksX8_rides_0 23 rfl rfl)
theorem dX8_rides_24 : decode cX8_rides 24 = .ok (.iconst 0, 1) := dk_3 (dk_at dksX8_rides_1 0 rfl rfl)
theorem dX8_rides_25 : decode cX8_rides 25 = .ok (.iastore, 1) := dk_79 (dk_at dksX8_rides_1 1 rfl rfl)
theorem dX8_rides_26 : decode cX8_rides 26 = .ok (.aload_n 0, 1) := dk_42 (dk_at dksX8_rides_1 2 rfl rfl)
theorem dX8_rides_27 : decode cX8_rides 27 = .ok (.getfield 325, 3) := dk_180 1 69 (dk_at dksX8_rides_1 3 rfl rfl)
theorem dX8_rides_30 : decode cX8_rides 30 = .ok (.iconst (-1), 1) := dk_2 (dk_at dksX8_rides_1 6 rfl rfl)
theorem dX8_rides_31 : decode cX8_rides 31 = .ok (.if_icmp .ne 10, 3) := dk_160 0 10 (dk_at dksX8_rides_1 7 rfl rfl)
theorem dX8_rides_34 : decode cX8_rides 34 = .ok (.aload_n 0, 1) := dk_42 (dk_at dksX8_rides_1 10 rfl rfl)
theorem dX8_rides_35 : decode cX8_rides 35 = .ok (.iload_n 3, 1) := dk_29 (dk_at dksX8_rides_1 11 rfl rfl)
theorem dX8_rides_36 : decode cX8_rides 36 = .ok (.iload_n 1, 1) := dk_27 (dk_at dksX8_rides_1 12 rfl rfl)
theorem dX8_rides_37 : decode cX8_rides 37 = .ok (.iload_n 2, 1) := dk_28 (dk_at dksX8_rides_1 13 rfl rfl)
theorem dX8_rides_38 : decode cX8_rides 38 = .ok (.invokevirtual 344, 3) := dk_182 1 88 (dk_at dksX8_rides_1 14 rfl rfl)
theorem dX8_rides_41 : decode cX8_rides 41 = .ok (.iinc 3 1, 3) := dk_132 3 1 (dk_at dksX8_rides_1 17 rfl rfl)
theorem dX8_rides_44 : decode cX8_rides 44 = .ok (.goto (-38), 3) := dk_167 255 218 (dk_at dksX8_rides_1 20 rfl rfl)
theorem dX8_rides_47 : decode cX8_rides 47 = .ok (.aload_n 0, 1) := dk_42 (dk_at dksX8_rides_1 23 rfl rfl)
theorem dX8_rides_48 : decode cX8_rides 48 = .ok (.getfield 325, 3) := dk_180 1 69 (dk_at dksX8_rides_2 0 rfl rfl)
theorem dX8_rides_51 : decode cX8_rides 51 = .ok (.ireturn, 1) := dk_172 (dk_at dksX8_rides_2 3 rfl rfl)
abbrev cX8_begins : ByteArray := prog_18_method_67_code
def yX8_begins : MethodName := ⟨RX8, "begins", "()V"⟩
def dkwX8_begins_0 : List UInt8 := [42, 2, 181, 1, 69, 42, 3, 181, 1, 66, 42, 3, 181, 1, 60, 177]
abbrev dktX8_begins_0 : List UInt8 := dkwX8_begins_0 ++ []
theorem dksX8_begins_0 : cX8_begins.data.toList.drop 0 = dktX8_begins_0 := by decide +kernel
theorem dX8_begins_0 : decode cX8_begins 0 = .ok (.aload_n 0, 1) := dk_42 (dk_at dksX8_begins_0 0 rfl rfl)
theorem dX8_begins_1 : decode cX8_begins 1 = .ok (.iconst (-1), 1) := dk_2 (dk_at dksX8_begins_0 1 rfl rfl)
theorem dX8_begins_2 : decode cX8_begins 2 = .ok (.putfield 325, 3) := dk_181 1 69 (dk_at dksX8_begins_0 2 rfl rfl)
theorem dX8_begins_5 : decode cX8_begins 5 = .ok (.aload_n 0, 1) := dk_42 (dk_at dksX8_begins_0 5 rfl rfl)
theorem dX8_begins_6 : decode cX8_begins 6 = .ok (.iconst 0, 1) := dk_3 (dk_at dksX8_begins_0 6 rfl rfl)
theorem dX8_begins_7 : decode cX8_begins 7 = .ok (.putfield 322, 3) := dk_181 1 66 (dk_at dksX8_begins_0 7 rfl rfl)
theorem dX8_begins_10 : decode cX8_begins 10 = .ok (.aload_n 0, 1) := dk_42 (dk_at dksX8_begins_0 10 rfl rfl)
theorem dX8_begins_11 : decode cX8_begins 11 = .ok (.iconst 0, 1) := dk_3 (dk_at dksX8_begins_0 11 rfl rfl)
theorem dX8_begins_12 : decode cX8_begins 12 = .ok (.putfield 316, 3) := dk_181 1 60 (dk_at dksX8_begins_0 12 rfl rfl)
theorem dX8_begins_15 : decode cX8_begins 15 = .ok (.return_, 1) := dk_177 (dk_at dksX8_begins_0 15 rfl rfl)
abbrev cX8_rideSlot : ByteArray := prog_18_method_68_code
def yX8_rideSlot : MethodName := ⟨RX8, "rideSlot", "(IZZ)V"⟩
def dkwX8_rideSlot_3 : List UInt8 := [42, 180, 1, 12, 164, 0, 12, 29, 154, 0, 8, 42, 27, 181, 1, 69, 177]
abbrev dktX8_rideSlot_3 : List UInt8 := dkwX8_rideSlot_3 ++ []
def dkwX8_rideSlot_2 : List UInt8 := [182, 1, 78, 167, 0, 4, 4, 182, 1, 81, 42, 180, 0, 42, 27, 42, 180, 1, 60, 79, 42, 180, 1, 60]
abbrev dktX8_rideSlot_2 : List UInt8 := dkwX8_rideSlot_2 ++ dktX8_rideSlot_3
def dkwX8_rideSlot_1 : List UInt8 := [180, 1, 60, 182, 1, 75, 181, 1, 60, 167, 0, 23, 42, 21, 4, 27, 28, 153, 0, 11, 42, 6]
abbrev dktX8_rideSlot_1 : List UInt8 := dkwX8_rideSlot_1 ++ dktX8_rideSlot_2
def dkwX8_rideSlot_0 : List UInt8 := [42, 27, 182, 1, 72, 54, 4, 42, 180, 0, 45, 27, 3, 79, 21, 4, 2, 160, 0, 18, 42, 42, 42]
abbrev dktX8_rideSlot_0 : List UInt8 := dkwX8_rideSlot_0 ++ dktX8_rideSlot_1
theorem dksX8_rideSlot_0 : cX8_rideSlot.data.toList.drop 0 = dktX8_rideSlot_0 := by decide +kernel
theorem dksX8_rideSlot_1 : cX8_rideSlot.data.toList.drop 23 = dktX8_rideSlot_1 := dk_seg dksX8_rideSlot_0 23 rfl rfl
theorem dksX8_rideSlot_2 : cX8_rideSlot.data.toList.drop 45 = dktX8_rideSlot_2 := dk_seg dksX8_rideSlot_1 22 rfl rfl
theorem dksX8_rideSlot_3 : cX8_rideSlot.data.toList.drop 69 = dktX8_rideSlot_3 := dk_seg dksX8_rideSlot_2 24 rfl rfl
theorem dX8_rideSlot_0 : decode cX8_rideSlot 0 = .ok (.aload_n 0, 1) := dk_42 (dk_at dksX8_rideSlot_0 0 rfl rfl)
theorem dX8_rideSlot_1 : decode cX8_rideSlot 1 = .ok (.iload_n 1, 1) := dk_27 (dk_at dksX8_rideSlot_0 1 rfl rfl)
theorem dX8_rideSlot_2 : decode cX8_rideSlot 2 = .ok (.invokevirtual 328, 3) := dk_182 1 72 (dk_at dksX8_rideSlot_0 2 rfl rfl)
theorem dX8_rideSlot_5 : decode cX8_rideSlot 5 = .ok (.istore 4, 2) := dk_54 4 (dk_at dksX8_rideSlot_0 5 rfl rfl)
theorem dX8_rideSlot_7 : decode cX8_rideSlot 7 = .ok (.aload_n 0, 1) := dk_42 (dk_at dksX8_rideSlot_0 7 rfl rfl)
theorem dX8_rideSlot_8 : decode cX8_rideSlot 8 = .ok (.getfield 45, 3) := dk_180 0 45 (dk_at dksX8_rideSlot_0 8 rfl rfl)
theorem dX8_rideSlot_11 : decode cX8_rideSlot 11 = .ok (.iload_n 1, 1) := dk_27 (dk_at dksX8_rideSlot_0 11 rfl rfl)
theorem dX8_rideSlot_12 : decode cX8_rideSlot 12 = .ok (.iconst 0, 1) := dk_3 (dk_at dksX8_rideSlot_0 12 rfl rfl)
theorem dX8_rideSlot_13 : decode cX8_rideSlot 13 = .ok (.iastore, 1) := dk_79 (dk_at dksX8_rideSlot_0 13 rfl rfl)
theorem dX8_rideSlot_14 : decode cX8_rideSlot 14 = .ok (.iload 4, 2) := dk_21 4 (dk_at dksX8_rideSlot_0 14 rfl rfl)
theorem dX8_rideSlot_16 : decode cX8_rideSlot 16 = .ok (.iconst (-1), 1) := dk_2 (dk_at dksX8_rideSlot_0 16 rfl rfl)
theorem dX8_rideSlot_17 : decode cX8_rideSlot 17 = .ok (.if_icmp .ne 18, 3) := dk_160 0 18 (dk_at dksX8_rideSlot_0 17 rfl rfl)
theorem dX8_rideSlot_20 : decode cX8_rideSlot 20 = .ok (.aload_n 0, 1) := dk_42 (dk_at dksX8_rideSlot_0 20 rfl rfl)
theorem dX8_rideSlot_21 : decode cX8_rideSlot 21 = .ok (.aload_n 0, 1) := dk_42 (dk_at dksX8_rideSlot_0 21 rfl rfl)
theorem dX8_rideSlot_22 : decode cX8_rideSlot 22 = .ok (.aload_n 0, 1) := dk_42 (dk_at dksX8_rideSlot_0 22 rfl rfl)
theorem dX8_rideSlot_23 : decode cX8_rideSlot 23 = .ok (.getfield 316, 3) := dk_180 1 60 (dk_at dksX8_rideSlot_1 0 rfl rfl)
theorem dX8_rideSlot_26 : decode cX8_rideSlot 26 = .ok (.invokevirtual 331, 3) := dk_182 1 75 (dk_at dksX8_rideSlot_1 3 rfl rfl)
theorem dX8_rideSlot_29 : decode cX8_rideSlot 29 = .ok (.putfield 316, 3) := dk_181 1 60 (dk_at dksX8_rideSlot_1 6 rfl rfl)
theorem dX8_rideSlot_32 : decode cX8_rideSlot 32 = .ok (.goto 23, 3) := dk_167 0 23 (dk_at dksX8_rideSlot_1 9 rfl rfl)
theorem dX8_rideSlot_35 : decode cX8_rideSlot 35 = .ok (.aload_n 0, 1) := dk_42 (dk_at dksX8_rideSlot_1 12 rfl rfl)
theorem dX8_rideSlot_36 : decode cX8_rideSlot 36 = .ok (.iload 4, 2) := dk_21 4 (dk_at dksX8_rideSlot_1 13 rfl rfl)
theorem dX8_rideSlot_38 : decode cX8_rideSlot 38 = .ok (.iload_n 1, 1) := dk_27 (dk_at dksX8_rideSlot_1 15 rfl rfl)
theorem dX8_rideSlot_39 : decode cX8_rideSlot 39 = .ok (.iload_n 2, 1) := dk_28 (dk_at dksX8_rideSlot_1 16 rfl rfl)
theorem dX8_rideSlot_40 : decode cX8_rideSlot 40 = .ok (.ifCond .eq 11, 3) := dk_153 0 11 (dk_at dksX8_rideSlot_1 17 rfl rfl)
theorem dX8_rideSlot_43 : decode cX8_rideSlot 43 = .ok (.aload_n 0, 1) := dk_42 (dk_at dksX8_rideSlot_1 20 rfl rfl)
theorem dX8_rideSlot_44 : decode cX8_rideSlot 44 = .ok (.iconst 3, 1) := dk_6 (dk_at dksX8_rideSlot_1 21 rfl rfl)
theorem dX8_rideSlot_45 : decode cX8_rideSlot 45 = .ok (.invokevirtual 334, 3) := dk_182 1 78 (dk_at dksX8_rideSlot_2 0 rfl rfl)
theorem dX8_rideSlot_48 : decode cX8_rideSlot 48 = .ok (.goto 4, 3) := dk_167 0 4 (dk_at dksX8_rideSlot_2 3 rfl rfl)
theorem dX8_rideSlot_51 : decode cX8_rideSlot 51 = .ok (.iconst 1, 1) := dk_4 (dk_at dksX8_rideSlot_2 6 rfl rfl)
theorem dX8_rideSlot_52 : decode cX8_rideSlot 52 = .ok (.invokevirtual 337, 3) := dk_182 1 81 (dk_at dksX8_rideSlot_2 7 rfl rfl)
theorem dX8_rideSlot_55 : decode cX8_rideSlot 55 = .ok (.aload_n 0, 1) := dk_42 (dk_at dksX8_rideSlot_2 10 rfl rfl)
theorem dX8_rideSlot_56 : decode cX8_rideSlot 56 = .ok (.getfield 42, 3) := dk_180 0 42 (dk_at dksX8_rideSlot_2 11 rfl rfl)
theorem dX8_rideSlot_59 : decode cX8_rideSlot 59 = .ok (.iload_n 1, 1) := dk_27 (dk_at dksX8_rideSlot_2 14 rfl rfl)
theorem dX8_rideSlot_60 : decode cX8_rideSlot 60 = .ok (.aload_n 0, 1) := dk_42 (dk_at dksX8_rideSlot_2 15 rfl rfl)
theorem dX8_rideSlot_61 : decode cX8_rideSlot 61 = .ok (.getfield 316, 3) := dk_180 1 60 (dk_at dksX8_rideSlot_2 16 rfl rfl)
theorem dX8_rideSlot_64 : decode cX8_rideSlot 64 = .ok (.iastore, 1) := dk_79 (dk_at dksX8_rideSlot_2 19 rfl rfl)
theorem dX8_rideSlot_65 : decode cX8_rideSlot 65 = .ok (.aload_n 0, 1) := dk_42 (dk_at dksX8_rideSlot_2 20 rfl rfl)
theorem dX8_rideSlot_66 : decode cX8_rideSlot 66 = .ok (.getfield 316, 3) := dk_180 1 60 (dk_at dksX8_rideSlot_2 21 rfl rfl)
theorem dX8_rideSlot_69 : decode cX8_rideSlot 69 = .ok (.aload_n 0, 1) := dk_42 (dk_at dksX8_rideSlot_3 0 rfl rfl)
theorem dX8_rideSlot_70 : decode cX8_rideSlot 70 = .ok (.getfield 268, 3) := dk_180 1 12 (dk_at dksX8_rideSlot_3 1 rfl rfl)
theorem dX8_rideSlot_73 : decode cX8_rideSlot 73 = .ok (.if_icmp .le 12, 3) := dk_164 0 12 (dk_at dksX8_rideSlot_3 4 rfl rfl)
theorem dX8_rideSlot_76 : decode cX8_rideSlot 76 = .ok (.iload_n 3, 1) := dk_29 (dk_at dksX8_rideSlot_3 7 rfl rfl)
theorem dX8_rideSlot_77 : decode cX8_rideSlot 77 = .ok (.ifCond .ne 8, 3) := dk_154 0 8 (dk_at dksX8_rideSlot_3 8 rfl rfl)
theorem dX8_rideSlot_80 : decode cX8_rideSlot 80 = .ok (.aload_n 0, 1) := dk_42 (dk_at dksX8_rideSlot_3 11 rfl rfl)
theorem dX8_rideSlot_81 : decode cX8_rideSlot 81 = .ok (.iload_n 1, 1) := dk_27 (dk_at dksX8_rideSlot_3 12 rfl rfl)
theorem dX8_rideSlot_82 : decode cX8_rideSlot 82 = .ok (.putfield 325, 3) := dk_181 1 69 (dk_at dksX8_rideSlot_3 13 rfl rfl)
theorem dX8_rideSlot_85 : decode cX8_rideSlot 85 = .ok (.return_, 1) := dk_177 (dk_at dksX8_rideSlot_3 16 rfl rfl)
abbrev cX8_propOnTheWay : ByteArray := prog_18_method_64_code
def yX8_propOnTheWay : MethodName := ⟨RX8, "propOnTheWay", "(I)I"⟩
def dkwX8_propOnTheWay_1 : List UInt8 := [167, 0, 4, 28, 172]
abbrev dktX8_propOnTheWay_1 : List UInt8 := dkwX8_propOnTheWay_1 ++ []
def dkwX8_propOnTheWay_0 : List UInt8 := [42, 27, 182, 0, 160, 61, 28, 2, 159, 0, 18, 42, 180, 1, 57, 28, 184, 0, 137, 153, 0, 7, 2]
abbrev dktX8_propOnTheWay_0 : List UInt8 := dkwX8_propOnTheWay_0 ++ dktX8_propOnTheWay_1
theorem dksX8_propOnTheWay_0 : cX8_propOnTheWay.data.toList.drop 0 = dktX8_propOnTheWay_0 := by decide +kernel
theorem dksX8_propOnTheWay_1 : cX8_propOnTheWay.data.toList.drop 23 = dktX8_propOnTheWay_1 := dk_seg dksX8_propOnTheWay_0 23 rfl rfl
theorem dX8_propOnTheWay_0 : decode cX8_propOnTheWay 0 = .ok (.aload_n 0, 1) := dk_42 (dk_at dksX8_propOnTheWay_0 0 rfl rfl)
theorem dX8_propOnTheWay_1 : decode cX8_propOnTheWay 1 = .ok (.iload_n 1, 1) := dk_27 (dk_at dksX8_propOnTheWay_0 1 rfl rfl)
theorem dX8_propOnTheWay_2 : decode cX8_propOnTheWay 2 = .ok (.invokevirtual 160, 3) := dk_182 0 160 (dk_at dksX8_propOnTheWay_0 2 rfl rfl)
theorem dX8_propOnTheWay_5 : decode cX8_propOnTheWay 5 = .ok (.istore_n 2, 1) := dk_61 (dk_at dksX8_propOnTheWay_0 5 rfl rfl)
theorem dX8_propOnTheWay_6 : decode cX8_propOnTheWay 6 = .ok (.iload_n 2, 1) := dk_28 (dk_at dksX8_propOnTheWay_0 6 rfl rfl)
theorem dX8_propOnTheWay_7 : decode cX8_propOnTheWay 7 = .ok (.iconst (-1), 1) := dk_2 (dk_at dksX8_propOnTheWay_0 7 rfl rfl)
theorem dX8_propOnTheWay_8 : decode cX8_propOnTheWay 8 = .ok (.if_icmp .eq 18, 3) := dk_159 0 18 (dk_at dksX8_propOnTheWay_0 8 rfl rfl)
theorem dX8_propOnTheWay_11 : decode cX8_propOnTheWay 11 = .ok (.aload_n 0, 1) := dk_42 (dk_at dksX8_propOnTheWay_0 11 rfl rfl)
theorem dX8_propOnTheWay_12 : decode cX8_propOnTheWay 12 = .ok (.getfield 313, 3) := dk_180 1 57 (dk_at dksX8_propOnTheWay_0 12 rfl rfl)
theorem dX8_propOnTheWay_15 : decode cX8_propOnTheWay 15 = .ok (.iload_n 2, 1) := dk_28 (dk_at dksX8_propOnTheWay_0 15 rfl rfl)
theorem dX8_propOnTheWay_16 : decode cX8_propOnTheWay 16 = .ok (.invokestatic 137, 3) := dk_184 0 137 (dk_at dksX8_propOnTheWay_0 16 rfl rfl)
theorem dX8_propOnTheWay_19 : decode cX8_propOnTheWay 19 = .ok (.ifCond .eq 7, 3) := dk_153 0 7 (dk_at dksX8_propOnTheWay_0 19 rfl rfl)
theorem dX8_propOnTheWay_22 : decode cX8_propOnTheWay 22 = .ok (.iconst (-1), 1) := dk_2 (dk_at dksX8_propOnTheWay_0 22 rfl rfl)
theorem dX8_propOnTheWay_23 : decode cX8_propOnTheWay 23 = .ok (.goto 4, 3) := dk_167 0 4 (dk_at dksX8_propOnTheWay_1 0 rfl rfl)
theorem dX8_propOnTheWay_26 : decode cX8_propOnTheWay 26 = .ok (.iload_n 2, 1) := dk_28 (dk_at dksX8_propOnTheWay_1 3 rfl rfl)
theorem dX8_propOnTheWay_27 : decode cX8_propOnTheWay 27 = .ok (.ireturn, 1) := dk_172 (dk_at dksX8_propOnTheWay_1 4 rfl rfl)
abbrev cX8_calmer : ByteArray := prog_18_method_65_code
def yX8_calmer : MethodName := ⟨RX8, "calmer", "(I)I"⟩
def dkwX8_calmer_0 : List UInt8 := [3, 27, 42, 180, 0, 13, 8, 46, 100, 184, 1, 33, 172]
abbrev dktX8_calmer_0 : List UInt8 := dkwX8_calmer_0 ++ []
theorem dksX8_calmer_0 : cX8_calmer.data.toList.drop 0 = dktX8_calmer_0 := by decide +kernel
theorem dX8_calmer_0 : decode cX8_calmer 0 = .ok (.iconst 0, 1) := dk_3 (dk_at dksX8_calmer_0 0 rfl rfl)
theorem dX8_calmer_1 : decode cX8_calmer 1 = .ok (.iload_n 1, 1) := dk_27 (dk_at dksX8_calmer_0 1 rfl rfl)
theorem dX8_calmer_2 : decode cX8_calmer 2 = .ok (.aload_n 0, 1) := dk_42 (dk_at dksX8_calmer_0 2 rfl rfl)
theorem dX8_calmer_3 : decode cX8_calmer 3 = .ok (.getfield 13, 3) := dk_180 0 13 (dk_at dksX8_calmer_0 3 rfl rfl)
theorem dX8_calmer_6 : decode cX8_calmer 6 = .ok (.iconst 5, 1) := dk_8 (dk_at dksX8_calmer_0 6 rfl rfl)
theorem dX8_calmer_7 : decode cX8_calmer 7 = .ok (.iaload, 1) := dk_46 (dk_at dksX8_calmer_0 7 rfl rfl)
theorem dX8_calmer_8 : decode cX8_calmer 8 = .ok (.isub, 1) := dk_100 (dk_at dksX8_calmer_0 8 rfl rfl)
theorem dX8_calmer_9 : decode cX8_calmer 9 = .ok (.invokestatic 289, 3) := dk_184 1 33 (dk_at dksX8_calmer_0 9 rfl rfl)
theorem dX8_calmer_12 : decode cX8_calmer 12 = .ok (.ireturn, 1) := dk_172 (dk_at dksX8_calmer_0 12 rfl rfl)
abbrev cX8_drawn : ByteArray := prog_18_method_24_code
def yX8_drawn : MethodName := ⟨RX8, "drawn", "(I)I"⟩
def dkwX8_drawn_1 : List UInt8 := [180, 0, 13, 16, 8, 46, 16, 16, 122, 17, 127, 255, 126, 27, 112, 172]
abbrev dktX8_drawn_1 : List UInt8 := dkwX8_drawn_1 ++ []
def dkwX8_drawn_0 : List UInt8 := [42, 180, 0, 13, 16, 8, 18, 98, 42, 180, 0, 13, 16, 8, 46, 104, 17, 48, 57, 96, 79, 42]
abbrev dktX8_drawn_0 : List UInt8 := dkwX8_drawn_0 ++ dktX8_drawn_1
theorem dksX8_drawn_0 : cX8_drawn.data.toList.drop 0 = dktX8_drawn_0 := by decide +kernel
theorem dksX8_drawn_1 : cX8_drawn.data.toList.drop 22 = dktX8_drawn_1 := dk_seg dksX8_drawn_0 22 rfl rfl
theorem dX8_drawn_0 : decode cX8_drawn 0 = .ok (.aload_n 0, 1) := dk_42 (dk_at dksX8_drawn_0 0 rfl rfl)
theorem dX8_drawn_1 : decode cX8_drawn 1 = .ok (.getfield 13, 3) := dk_180 0 13 (dk_at dksX8_drawn_0 1 rfl rfl)
theorem dX8_drawn_4 : decode cX8_drawn 4 = .ok (.bipush 8, 2) := dk_16 8 (dk_at dksX8_drawn_0 4 rfl rfl)
theorem dX8_drawn_6 : decode cX8_drawn 6 = .ok (.ldc 98, 2) := dk_18 98 (dk_at dksX8_drawn_0 6 rfl rfl)
theorem dX8_drawn_8 : decode cX8_drawn 8 = .ok (.aload_n 0, 1) := dk_42 (dk_at dksX8_drawn_0 8 rfl rfl)
theorem dX8_drawn_9 : decode cX8_drawn 9 = .ok (.getfield 13, 3) := dk_180 0 13 (dk_at dksX8_drawn_0 9 rfl rfl)
theorem dX8_drawn_12 : decode cX8_drawn 12 = .ok (.bipush 8, 2) := dk_16 8 (dk_at dksX8_drawn_0 12 rfl rfl)
theorem dX8_drawn_14 : decode cX8_drawn 14 = .ok (.iaload, 1) := dk_46 (dk_at dksX8_drawn_0 14 rfl rfl)
theorem dX8_drawn_15 : decode cX8_drawn 15 = .ok (.imul, 1) := dk_104 (dk_at dksX8_drawn_0 15 rfl rfl)
theorem dX8_drawn_16 : decode cX8_drawn 16 = .ok (.sipush 12345, 3) := dk_17 48 57 (dk_at dksX8_drawn_0 16 rfl rfl)
theorem dX8_drawn_19 : decode cX8_drawn 19 = .ok (.iadd, 1) := dk_96 (dk_at dksX8_drawn_0 19 rfl rfl)
theorem dX8_drawn_20 : decode cX8_drawn 20 = .ok (.iastore, 1) := dk_79 (dk_at dksX8_drawn_0 20 rfl rfl)
theorem dX8_drawn_21 : decode cX8_drawn 21 = .ok (.aload_n 0, 1) := dk_42 (dk_at dksX8_drawn_0 21 rfl rfl)
theorem dX8_drawn_22 : decode cX8_drawn 22 = .ok (.getfield 13, 3) := dk_180 0 13 (dk_at dksX8_drawn_1 0 rfl rfl)
theorem dX8_drawn_25 : decode cX8_drawn 25 = .ok (.bipush 8, 2) := dk_16 8 (dk_at dksX8_drawn_1 3 rfl rfl)
theorem dX8_drawn_27 : decode cX8_drawn 27 = .ok (.iaload, 1) := dk_46 (dk_at dksX8_drawn_1 5 rfl rfl)
theorem dX8_drawn_28 : decode cX8_drawn 28 = .ok (.bipush 16, 2) := dk_16 16 (dk_at dksX8_drawn_1 6 rfl rfl)
theorem dX8_drawn_30 : decode cX8_drawn 30 = .ok (.ishr, 1) := dk_122 (dk_at dksX8_drawn_1 8 rfl rfl)
theorem dX8_drawn_31 : decode cX8_drawn 31 = .ok (.sipush 32767, 3) := dk_17 127 255 (dk_at dksX8_drawn_1 9 rfl rfl)
theorem dX8_drawn_34 : decode cX8_drawn 34 = .ok (.iand, 1) := dk_126 (dk_at dksX8_drawn_1 12 rfl rfl)
theorem dX8_drawn_35 : decode cX8_drawn 35 = .ok (.iload_n 1, 1) := dk_27 (dk_at dksX8_drawn_1 13 rfl rfl)
theorem dX8_drawn_36 : decode cX8_drawn 36 = .ok (.irem, 1) := dk_112 (dk_at dksX8_drawn_1 14 rfl rfl)
theorem dX8_drawn_37 : decode cX8_drawn 37 = .ok (.ireturn, 1) := dk_172 (dk_at dksX8_drawn_1 15 rfl rfl)
abbrev cX8_comesTo : ByteArray := prog_18_method_66_code
def yX8_comesTo : MethodName := ⟨RX8, "comesTo", "(III)V"⟩
def dkwX8_comesTo_3 : List UInt8 := [181, 1, 60, 177]
abbrev dktX8_comesTo_3 : List UInt8 := dkwX8_comesTo_3 ++ []
def dkwX8_comesTo_2 : List UInt8 := [180, 1, 66, 4, 27, 120, 128, 181, 1, 66, 42, 89, 180, 1, 60, 42, 180, 0, 45, 28, 46, 29, 96, 96]
abbrev dktX8_comesTo_2 : List UInt8 := dkwX8_comesTo_2 ++ dktX8_comesTo_3
def dkwX8_comesTo_1 : List UInt8 := [27, 184, 0, 137, 153, 0, 7, 3, 167, 0, 12, 42, 27, 42, 180, 1, 60, 182, 1, 54, 79, 42, 89]
abbrev dktX8_comesTo_1 : List UInt8 := dkwX8_comesTo_1 ++ dktX8_comesTo_2
def dkwX8_comesTo_0 : List UInt8 := [42, 180, 0, 48, 27, 42, 27, 42, 180, 1, 60, 182, 1, 51, 79, 42, 180, 0, 45, 28, 42, 180, 1, 63]
abbrev dktX8_comesTo_0 : List UInt8 := dkwX8_comesTo_0 ++ dktX8_comesTo_1
theorem dksX8_comesTo_0 : cX8_comesTo.data.toList.drop 0 = dktX8_comesTo_0 := by decide +kernel
theorem dksX8_comesTo_1 : cX8_comesTo.data.toList.drop 24 = dktX8_comesTo_1 := dk_seg dksX8_comesTo_0 24 rfl rfl
theorem dksX8_comesTo_2 : cX8_comesTo.data.toList.drop 47 = dktX8_comesTo_2 := dk_seg dksX8_comesTo_1 23 rfl rfl
theorem dksX8_comesTo_3 : cX8_comesTo.data.toList.drop 71 = dktX8_comesTo_3 := dk_seg dksX8_comesTo_2 24 rfl rfl
theorem dX8_comesTo_0 : decode cX8_comesTo 0 = .ok (.aload_n 0, 1) := dk_42 (dk_at dksX8_comesTo_0 0 rfl rfl)
theorem dX8_comesTo_1 : decode cX8_comesTo 1 = .ok (.getfield 48, 3) := dk_180 0 48 (dk_at dksX8_comesTo_0 1 rfl rfl)
theorem dX8_comesTo_4 : decode cX8_comesTo 4 = .ok (.iload_n 1, 1) := dk_27 (dk_at dksX8_comesTo_0 4 rfl rfl)
theorem dX8_comesTo_5 : decode cX8_comesTo 5 = .ok (.aload_n 0, 1) := dk_42 (dk_at dksX8_comesTo_0 5 rfl rfl)
theorem dX8_comesTo_6 : decode cX8_comesTo 6 = .ok (.iload_n 1, 1) := dk_27 (dk_at dksX8_comesTo_0 6 rfl rfl)
theorem dX8_comesTo_7 : decode cX8_comesTo 7 = .ok (.aload_n 0, 1) := dk_42 (dk_at dksX8_comesTo_0 7 rfl rfl)
theorem dX8_comesTo_8 : decode cX8_comesTo 8 = .ok (.getfield 316, 3) := dk_180 1 60 (dk_at dksX8_comesTo_0 8 rfl rfl)
theorem dX8_comesTo_11 : decode cX8_comesTo 11 = .ok (.invokevirtual 307, 3) := dk_182 1 51 (dk_at dksX8_comesTo_0 11 rfl rfl)
theorem dX8_comesTo_14 : decode cX8_comesTo 14 = .ok (.iastore, 1) := dk_79 (dk_at dksX8_comesTo_0 14 rfl rfl)
theorem dX8_comesTo_15 : decode cX8_comesTo 15 = .ok (.aload_n 0, 1) := dk_42 (dk_at dksX8_comesTo_0 15 rfl rfl)
theorem dX8_comesTo_16 : decode cX8_comesTo 16 = .ok (.getfield 45, 3) := dk_180 0 45 (dk_at dksX8_comesTo_0 16 rfl rfl)
theorem dX8_comesTo_19 : decode cX8_comesTo 19 = .ok (.iload_n 2, 1) := dk_28 (dk_at dksX8_comesTo_0 19 rfl rfl)
theorem dX8_comesTo_20 : decode cX8_comesTo 20 = .ok (.aload_n 0, 1) := dk_42 (dk_at dksX8_comesTo_0 20 rfl rfl)
theorem dX8_comesTo_21 : decode cX8_comesTo 21 = .ok (.getfield 319, 3) := dk_180 1 63 (dk_at dksX8_comesTo_0 21 rfl rfl)
theorem dX8_comesTo_24 : decode cX8_comesTo 24 = .ok (.iload_n 1, 1) := dk_27 (dk_at dksX8_comesTo_1 0 rfl rfl)
theorem dX8_comesTo_25 : decode cX8_comesTo 25 = .ok (.invokestatic 137, 3) := dk_184 0 137 (dk_at dksX8_comesTo_1 1 rfl rfl)
theorem dX8_comesTo_28 : decode cX8_comesTo 28 = .ok (.ifCond .eq 7, 3) := dk_153 0 7 (dk_at dksX8_comesTo_1 4 rfl rfl)
theorem dX8_comesTo_31 : decode cX8_comesTo 31 = .ok (.iconst 0, 1) := dk_3 (dk_at dksX8_comesTo_1 7 rfl rfl)
theorem dX8_comesTo_32 : decode cX8_comesTo 32 = .ok (.goto 12, 3) := dk_167 0 12 (dk_at dksX8_comesTo_1 8 rfl rfl)
theorem dX8_comesTo_35 : decode cX8_comesTo 35 = .ok (.aload_n 0, 1) := dk_42 (dk_at dksX8_comesTo_1 11 rfl rfl)
theorem dX8_comesTo_36 : decode cX8_comesTo 36 = .ok (.iload_n 1, 1) := dk_27 (dk_at dksX8_comesTo_1 12 rfl rfl)
theorem dX8_comesTo_37 : decode cX8_comesTo 37 = .ok (.aload_n 0, 1) := dk_42 (dk_at dksX8_comesTo_1 13 rfl rfl)
theorem dX8_comesTo_38 : decode cX8_comesTo 38 = .ok (.getfield 316, 3) := dk_180 1 60 (dk_at dksX8_comesTo_1 14 rfl rfl)
theorem dX8_comesTo_41 : decode cX8_comesTo 41 = .ok (.invokevirtual 310, 3) := dk_182 1 54 (dk_at dksX8_comesTo_1 17 rfl rfl)
theorem dX8_comesTo_44 : decode cX8_comesTo 44 = .ok (.iastore, 1) := dk_79 (dk_at dksX8_comesTo_1 20 rfl rfl)
theorem dX8_comesTo_45 : decode cX8_comesTo 45 = .ok (.aload_n 0, 1) := dk_42 (dk_at dksX8_comesTo_1 21 rfl rfl)
theorem dX8_comesTo_46 : decode cX8_comesTo 46 = .ok (.dup, 1) := dk_89 (dk_at dksX8_comesTo_1 22 rfl rfl)
theorem dX8_comesTo_47 : decode cX8_comesTo 47 = .ok (.getfield 322, 3) := dk_180 1 66 (dk_at dksX8_comesTo_2 0 rfl rfl)
theorem dX8_comesTo_50 : decode cX8_comesTo 50 = .ok (.iconst 1, 1) := dk_4 (dk_at dksX8_comesTo_2 3 rfl rfl)
theorem dX8_comesTo_51 : decode cX8_comesTo 51 = .ok (.iload_n 1, 1) := dk_27 (dk_at dksX8_comesTo_2 4 rfl rfl)
theorem dX8_comesTo_52 : decode cX8_comesTo 52 = .ok (.ishl, 1) := dk_120 (dk_at dksX8_comesTo_2 5 rfl rfl)
theorem dX8_comesTo_53 : decode cX8_comesTo 53 = .ok (.ior, 1) := dk_128 (dk_at dksX8_comesTo_2 6 rfl rfl)
theorem dX8_comesTo_54 : decode cX8_comesTo 54 = .ok (.putfield 322, 3) := dk_181 1 66 (dk_at dksX8_comesTo_2 7 rfl rfl)
theorem dX8_comesTo_57 : decode cX8_comesTo 57 = .ok (.aload_n 0, 1) := dk_42 (dk_at dksX8_comesTo_2 10 rfl rfl)
theorem dX8_comesTo_58 : decode cX8_comesTo 58 = .ok (.dup, 1) := dk_89 (dk_at dksX8_comesTo_2 11 rfl rfl)
theorem dX8_comesTo_59 : decode cX8_comesTo 59 = .ok (.getfield 316, 3) := dk_180 1 60 (dk_at dksX8_comesTo_2 12 rfl rfl)
theorem dX8_comesTo_62 : decode cX8_comesTo 62 = .ok (.aload_n 0, 1) := dk_42 (dk_at dksX8_comesTo_2 15 rfl rfl)
theorem dX8_comesTo_63 : decode cX8_comesTo 63 = .ok (.getfield 45, 3) := dk_180 0 45 (dk_at dksX8_comesTo_2 16 rfl rfl)
theorem dX8_comesTo_66 : decode cX8_comesTo 66 = .ok (.iload_n 2, 1) := dk_28 (dk_at dksX8_comesTo_2 19 rfl rfl)
theorem dX8_comesTo_67 : decode cX8_comesTo 67 = .ok (.iaload, 1) := dk_46 (dk_at dksX8_comesTo_2 20 rfl rfl)
theorem dX8_comesTo_68 : decode cX8_comesTo 68 = .ok (.iload_n 3, 1) := dk_29 (dk_at dksX8_comesTo_2 21 rfl rfl)
theorem dX8_comesTo_69 : decode cX8_comesTo 69 = .ok (.iadd, 1) := dk_96 (dk_at dksX8_comesTo_2 22 rfl rfl)
theorem dX8_comesTo_70 : decode cX8_comesTo 70 = .ok (.iadd, 1) := dk_96 (dk_at dksX8_comesTo_2 23 rfl rfl)
theorem dX8_comesTo_71 : decode cX8_comesTo 71 = .ok (.putfield 316, 3) := dk_181 1 60 (dk_at dksX8_comesTo_3 0 rfl rfl)
theorem dX8_comesTo_74 : decode cX8_comesTo 74 = .ok (.return_, 1) := dk_177 (dk_at dksX8_comesTo_3 3 rfl rfl)
abbrev cX8_laysOn : ByteArray := prog_18_method_71_code
def yX8_laysOn : MethodName := ⟨RX8, "laysOn", "(I)V"⟩
def dkwX8_laysOn_3 : List UInt8 := [167, 255, 206, 177]
abbrev dktX8_laysOn_3 : List UInt8 := dkwX8_laysOn_3 ++ []
def dkwX8_laysOn_2 : List UInt8 := [16, 99, 42, 28, 5, 182, 0, 74, 42, 180, 0, 48, 28, 46, 96, 184, 1, 96, 79, 132, 2, 1]
abbrev dktX8_laysOn_2 : List UInt8 := dkwX8_laysOn_2 ++ dktX8_laysOn_3
def dkwX8_laysOn_1 : List UInt8 := [162, 0, 48, 42, 180, 1, 66, 28, 184, 0, 137, 153, 0, 31, 42, 180, 0, 13, 28, 5, 184, 0, 70]
abbrev dktX8_laysOn_1 : List UInt8 := dkwX8_laysOn_1 ++ dktX8_laysOn_2
def dkwX8_laysOn_0 : List UInt8 := [42, 180, 0, 13, 27, 5, 184, 0, 77, 92, 46, 42, 180, 1, 66, 128, 79, 3, 61, 28, 42, 182, 0, 83]
abbrev dktX8_laysOn_0 : List UInt8 := dkwX8_laysOn_0 ++ dktX8_laysOn_1
theorem dksX8_laysOn_0 : cX8_laysOn.data.toList.drop 0 = dktX8_laysOn_0 := by decide +kernel
theorem dksX8_laysOn_1 : cX8_laysOn.data.toList.drop 24 = dktX8_laysOn_1 := dk_seg dksX8_laysOn_0 24 rfl rfl
theorem dksX8_laysOn_2 : cX8_laysOn.data.toList.drop 47 = dktX8_laysOn_2 := dk_seg dksX8_laysOn_1 23 rfl rfl
theorem dksX8_laysOn_3 : cX8_laysOn.data.toList.drop 69 = dktX8_laysOn_3 := dk_seg dksX8_laysOn_2 22 rfl rfl
theorem dX8_laysOn_0 : decode cX8_laysOn 0 = .ok (.aload_n 0, 1) := dk_42 (dk_at dksX8_laysOn_0 0 rfl rfl)
theorem dX8_laysOn_1 : decode cX8_laysOn 1 = .ok (.getfield 13, 3) := dk_180 0 13 (dk_at dksX8_laysOn_0 1 rfl rfl)
theorem dX8_laysOn_4 : decode cX8_laysOn 4 = .ok (.iload_n 1, 1) := dk_27 (dk_at dksX8_laysOn_0 4 rfl rfl)
theorem dX8_laysOn_5 : decode cX8_laysOn 5 = .ok (.iconst 2, 1) := dk_5 (dk_at dksX8_laysOn_0 5 rfl rfl)
theorem dX8_laysOn_6 : decode cX8_laysOn 6 = .ok (.invokestatic 77, 3) := dk_184 0 77 (dk_at dksX8_laysOn_0 6 rfl rfl)
theorem dX8_laysOn_9 : decode cX8_laysOn 9 = .ok (.dup2, 1) := dk_92 (dk_at dksX8_laysOn_0 9 rfl rfl)
theorem dX8_laysOn_10 : decode cX8_laysOn 10 = .ok (.iaload, 1) := dk_46 (dk_at dksX8_laysOn_0 10 rfl rfl)
theorem dX8_laysOn_11 : decode cX8_laysOn 11 = .ok (.aload_n 0, 1) := dk_42 (dk_at dksX8_laysOn_0 11 rfl rfl)
theorem dX8_laysOn_12 : decode cX8_laysOn 12 = .ok (.getfield 322, 3) := dk_180 1 66 (dk_at dksX8_laysOn_0 12 rfl rfl)
theorem dX8_laysOn_15 : decode cX8_laysOn 15 = .ok (.ior, 1) := dk_128 (dk_at dksX8_laysOn_0 15 rfl rfl)
theorem dX8_laysOn_16 : decode cX8_laysOn 16 = .ok (.iastore, 1) := dk_79 (dk_at dksX8_laysOn_0 16 rfl rfl)
theorem dX8_laysOn_17 : decode cX8_laysOn 17 = .ok (.iconst 0, 1) := dk_3 (dk_at dksX8_laysOn_0 17 rfl rfl)
theorem dX8_laysOn_18 : decode cX8_laysOn 18 = .ok (.istore_n 2, 1) := dk_61 (dk_at dksX8_laysOn_0 18 rfl rfl)
theorem dX8_laysOn_19 : decode cX8_laysOn 19 = .ok (.iload_n 2, 1) := dk_28 (dk_at dksX8_laysOn_0 19 rfl rfl)
theorem dX8_laysOn_20 : decode cX8_laysOn 20 = .ok (.aload_n 0, 1) := dk_42 (dk_at dksX8_laysOn_0 20 rfl rfl)
theorem dX8_laysOn_21 : decode cX8_laysOn 21 = .ok (.invokevirtual 83, 3) := dk_182 0 83 (dk_at dksX8_laysOn_0 21 rfl rfl)
theorem dX8_laysOn_24 : decode cX8_laysOn 24 = .ok (.if_icmp .ge 48, 3) := dk_162 0 48 (dk_at dksX8_laysOn_1 0 rfl rfl)
theorem dX8_laysOn_27 : decode cX8_laysOn 27 = .ok (.aload_n 0, 1) := dk_42 (dk_at dksX8_laysOn_1 3 rfl rfl)
theorem dX8_laysOn_28 : decode cX8_laysOn 28 = .ok (.getfield 322, 3) := dk_180 1 66 (dk_at dksX8_laysOn_1 4 rfl rfl)
theorem dX8_laysOn_31 : decode cX8_laysOn 31 = .ok (.iload_n 2, 1) := dk_28 (dk_at dksX8_laysOn_1 7 rfl rfl)
theorem dX8_laysOn_32 : decode cX8_laysOn 32 = .ok (.invokestatic 137, 3) := dk_184 0 137 (dk_at dksX8_laysOn_1 8 rfl rfl)
theorem dX8_laysOn_35 : decode cX8_laysOn 35 = .ok (.ifCond .eq 31, 3) := dk_153 0 31 (dk_at dksX8_laysOn_1 11 rfl rfl)
theorem dX8_laysOn_38 : decode cX8_laysOn 38 = .ok (.aload_n 0, 1) := dk_42 (dk_at dksX8_laysOn_1 14 rfl rfl)
theorem dX8_laysOn_39 : decode cX8_laysOn 39 = .ok (.getfield 13, 3) := dk_180 0 13 (dk_at dksX8_laysOn_1 15 rfl rfl)
theorem dX8_laysOn_42 : decode cX8_laysOn 42 = .ok (.iload_n 2, 1) := dk_28 (dk_at dksX8_laysOn_1 18 rfl rfl)
theorem dX8_laysOn_43 : decode cX8_laysOn 43 = .ok (.iconst 2, 1) := dk_5 (dk_at dksX8_laysOn_1 19 rfl rfl)
theorem dX8_laysOn_44 : decode cX8_laysOn 44 = .ok (.invokestatic 70, 3) := dk_184 0 70 (dk_at dksX8_laysOn_1 20 rfl rfl)
theorem dX8_laysOn_47 : decode cX8_laysOn 47 = .ok (.bipush 99, 2) := dk_16 99 (dk_at dksX8_laysOn_2 0 rfl rfl)
theorem dX8_laysOn_49 : decode cX8_laysOn 49 = .ok (.aload_n 0, 1) := dk_42 (dk_at dksX8_laysOn_2 2 rfl rfl)
theorem dX8_laysOn_50 : decode cX8_laysOn 50 = .ok (.iload_n 2, 1) := dk_28 (dk_at dksX8_laysOn_2 3 rfl rfl)
theorem dX8_laysOn_51 : decode cX8_laysOn 51 = .ok (.iconst 2, 1) := dk_5 (dk_at dksX8_laysOn_2 4 rfl rfl)
theorem dX8_laysOn_52 : decode cX8_laysOn 52 = .ok (.invokevirtual 74, 3) := dk_182 0 74 (dk_at dksX8_laysOn_2 5 rfl rfl)
theorem dX8_laysOn_55 : decode cX8_laysOn 55 = .ok (.aload_n 0, 1) := dk_42 (dk_at dksX8_laysOn_2 8 rfl rfl)
theorem dX8_laysOn_56 : decode cX8_laysOn 56 = .ok (.getfield 48, 3) := dk_180 0 48 (dk_at dksX8_laysOn_2 9 rfl rfl)
theorem dX8_laysOn_59 : decode cX8_laysOn 59 = .ok (.iload_n 2, 1) := dk_28 (dk_at dksX8_laysOn_2 12 rfl rfl)
theorem dX8_laysOn_60 : decode cX8_laysOn 60 = .ok (.iaload, 1) := dk_46 (dk_at dksX8_laysOn_2 13 rfl rfl)
theorem dX8_laysOn_61 : decode cX8_laysOn 61 = .ok (.iadd, 1) := dk_96 (dk_at dksX8_laysOn_2 14 rfl rfl)
theorem dX8_laysOn_62 : decode cX8_laysOn 62 = .ok (.invokestatic 352, 3) := dk_184 1 96 (dk_at dksX8_laysOn_2 15 rfl rfl)
theorem dX8_laysOn_65 : decode cX8_laysOn 65 = .ok (.iastore, 1) := dk_79 (dk_at dksX8_laysOn_2 18 rfl rfl)
theorem dX8_laysOn_66 : decode cX8_laysOn 66 = .ok (.iinc 2 1, 3) := dk_132 2 1 (dk_at dksX8_laysOn_2 19 rfl rfl)
theorem dX8_laysOn_69 : decode cX8_laysOn 69 = .ok (.goto (-50), 3) := dk_167 255 206 (dk_at dksX8_laysOn_3 0 rfl rfl)
theorem dX8_laysOn_72 : decode cX8_laysOn 72 = .ok (.return_, 1) := dk_177 (dk_at dksX8_laysOn_3 3 rfl rfl)
abbrev cX8_nail : ByteArray := prog_18_method_73_code
def yX8_nail : MethodName := ⟨RX8, "nail", "(II)V"⟩
def dkwX8_nail_3 : List UInt8 := [42, 180, 0, 13, 27, 6, 184, 0, 70, 28, 79, 177]
abbrev dktX8_nail_3 : List UInt8 := dkwX8_nail_3 ++ []
def dkwX8_nail_2 : List UInt8 := [182, 0, 160, 2, 159, 0, 7, 4, 167, 0, 4, 3, 5, 182, 1, 6, 153, 0, 4, 177, 42, 182, 1, 102]
abbrev dktX8_nail_2 : List UInt8 := dkwX8_nail_2 ++ dktX8_nail_3
def dkwX8_nail_1 : List UInt8 := [167, 0, 4, 3, 4, 182, 1, 6, 154, 0, 33, 42, 42, 27, 182, 0, 94, 154, 0, 12, 42, 28]
abbrev dktX8_nail_1 : List UInt8 := dkwX8_nail_1 ++ dktX8_nail_2
def dkwX8_nail_0 : List UInt8 := [42, 3, 181, 0, 3, 42, 42, 27, 182, 1, 38, 154, 0, 10, 28, 184, 1, 41, 153, 0, 7, 4]
abbrev dktX8_nail_0 : List UInt8 := dkwX8_nail_0 ++ dktX8_nail_1
theorem dksX8_nail_0 : cX8_nail.data.toList.drop 0 = dktX8_nail_0 := by decide +kernel
theorem dksX8_nail_1 : cX8_nail.data.toList.drop 22 = dktX8_nail_1 := dk_seg dksX8_nail_0 22 rfl rfl
theorem dksX8_nail_2 : cX8_nail.data.toList.drop 44 = dktX8_nail_2 := dk_seg dksX8_nail_1 22 rfl rfl
theorem dksX8_nail_3 : cX8_nail.data.toList.drop 68 = dktX8_nail_3 := dk_seg dksX8_nail_2 24 rfl rfl
theorem dX8_nail_0 : decode cX8_nail 0 = .ok (.aload_n 0, 1) := dk_42 (dk_at dksX8_nail_0 0 rfl rfl)
theorem dX8_nail_1 : decode cX8_nail 1 = .ok (.iconst 0, 1) := dk_3 (dk_at dksX8_nail_0 1 rfl rfl)
theorem dX8_nail_2 : decode cX8_nail 2 = .ok (.putfield 3, 3) := dk_181 0 3 (dk_at dksX8_nail_0 2 rfl rfl)
theorem dX8_nail_5 : decode cX8_nail 5 = .ok (.aload_n 0, 1) := dk_42 (dk_at dksX8_nail_0 5 rfl rfl)
theorem dX8_nail_6 : decode cX8_nail 6 = .ok (.aload_n 0, 1) := dk_42 (dk_at dksX8_nail_0 6 rfl rfl)
theorem dX8_nail_7 : decode cX8_nail 7 = .ok (.iload_n 1, 1) := dk_27 (dk_at dksX8_nail_0 7 rfl rfl)
theorem dX8_nail_8 : decode cX8_nail 8 = .ok (.invokevirtual 294, 3) := dk_182 1 38 (dk_at dksX8_nail_0 8 rfl rfl)
theorem dX8_nail_11 : decode cX8_nail 11 = .ok (.ifCond .ne 10, 3) := dk_154 0 10 (dk_at dksX8_nail_0 11 rfl rfl)
theorem dX8_nail_14 : decode cX8_nail 14 = .ok (.iload_n 2, 1) := dk_28 (dk_at dksX8_nail_0 14 rfl rfl)
theorem dX8_nail_15 : decode cX8_nail 15 = .ok (.invokestatic 297, 3) := dk_184 1 41 (dk_at dksX8_nail_0 15 rfl rfl)
theorem dX8_nail_18 : decode cX8_nail 18 = .ok (.ifCond .eq 7, 3) := dk_153 0 7 (dk_at dksX8_nail_0 18 rfl rfl)
theorem dX8_nail_21 : decode cX8_nail 21 = .ok (.iconst 1, 1) := dk_4 (dk_at dksX8_nail_0 21 rfl rfl)
theorem dX8_nail_22 : decode cX8_nail 22 = .ok (.goto 4, 3) := dk_167 0 4 (dk_at dksX8_nail_1 0 rfl rfl)
theorem dX8_nail_25 : decode cX8_nail 25 = .ok (.iconst 0, 1) := dk_3 (dk_at dksX8_nail_1 3 rfl rfl)
theorem dX8_nail_26 : decode cX8_nail 26 = .ok (.iconst 1, 1) := dk_4 (dk_at dksX8_nail_1 4 rfl rfl)
theorem dX8_nail_27 : decode cX8_nail 27 = .ok (.invokevirtual 262, 3) := dk_182 1 6 (dk_at dksX8_nail_1 5 rfl rfl)
theorem dX8_nail_30 : decode cX8_nail 30 = .ok (.ifCond .ne 33, 3) := dk_154 0 33 (dk_at dksX8_nail_1 8 rfl rfl)
theorem dX8_nail_33 : decode cX8_nail 33 = .ok (.aload_n 0, 1) := dk_42 (dk_at dksX8_nail_1 11 rfl rfl)
theorem dX8_nail_34 : decode cX8_nail 34 = .ok (.aload_n 0, 1) := dk_42 (dk_at dksX8_nail_1 12 rfl rfl)
theorem dX8_nail_35 : decode cX8_nail 35 = .ok (.iload_n 1, 1) := dk_27 (dk_at dksX8_nail_1 13 rfl rfl)
theorem dX8_nail_36 : decode cX8_nail 36 = .ok (.invokevirtual 94, 3) := dk_182 0 94 (dk_at dksX8_nail_1 14 rfl rfl)
theorem dX8_nail_39 : decode cX8_nail 39 = .ok (.ifCond .ne 12, 3) := dk_154 0 12 (dk_at dksX8_nail_1 17 rfl rfl)
theorem dX8_nail_42 : decode cX8_nail 42 = .ok (.aload_n 0, 1) := dk_42 (dk_at dksX8_nail_1 20 rfl rfl)
theorem dX8_nail_43 : decode cX8_nail 43 = .ok (.iload_n 2, 1) := dk_28 (dk_at dksX8_nail_1 21 rfl rfl)
theorem dX8_nail_44 : decode cX8_nail 44 = .ok (.invokevirtual 160, 3) := dk_182 0 160 (dk_at dksX8_nail_2 0 rfl rfl)
theorem dX8_nail_47 : decode cX8_nail 47 = .ok (.iconst (-1), 1) := dk_2 (dk_at dksX8_nail_2 3 rfl rfl)
theorem dX8_nail_48 : decode cX8_nail 48 = .ok (.if_icmp .eq 7, 3) := dk_159 0 7 (dk_at dksX8_nail_2 4 rfl rfl)
theorem dX8_nail_51 : decode cX8_nail 51 = .ok (.iconst 1, 1) := dk_4 (dk_at dksX8_nail_2 7 rfl rfl)
theorem dX8_nail_52 : decode cX8_nail 52 = .ok (.goto 4, 3) := dk_167 0 4 (dk_at dksX8_nail_2 8 rfl rfl)
theorem dX8_nail_55 : decode cX8_nail 55 = .ok (.iconst 0, 1) := dk_3 (dk_at dksX8_nail_2 11 rfl rfl)
theorem dX8_nail_56 : decode cX8_nail 56 = .ok (.iconst 2, 1) := dk_5 (dk_at dksX8_nail_2 12 rfl rfl)
theorem dX8_nail_57 : decode cX8_nail 57 = .ok (.invokevirtual 262, 3) := dk_182 1 6 (dk_at dksX8_nail_2 13 rfl rfl)
theorem dX8_nail_60 : decode cX8_nail 60 = .ok (.ifCond .eq 4, 3) := dk_153 0 4 (dk_at dksX8_nail_2 16 rfl rfl)
theorem dX8_nail_63 : decode cX8_nail 63 = .ok (.return_, 1) := dk_177 (dk_at dksX8_nail_2 19 rfl rfl)
theorem dX8_nail_64 : decode cX8_nail 64 = .ok (.aload_n 0, 1) := dk_42 (dk_at dksX8_nail_2 20 rfl rfl)
theorem dX8_nail_65 : decode cX8_nail 65 = .ok (.invokevirtual 358, 3) := dk_182 1 102 (dk_at dksX8_nail_2 21 rfl rfl)
theorem dX8_nail_68 : decode cX8_nail 68 = .ok (.aload_n 0, 1) := dk_42 (dk_at dksX8_nail_3 0 rfl rfl)
theorem dX8_nail_69 : decode cX8_nail 69 = .ok (.getfield 13, 3) := dk_180 0 13 (dk_at dksX8_nail_3 1 rfl rfl)
theorem dX8_nail_72 : decode cX8_nail 72 = .ok (.iload_n 1, 1) := dk_27 (dk_at dksX8_nail_3 4 rfl rfl)
theorem dX8_nail_73 : decode cX8_nail 73 = .ok (.iconst 3, 1) := dk_6 (dk_at dksX8_nail_3 5 rfl rfl)
theorem dX8_nail_74 : decode cX8_nail 74 = .ok (.invokestatic 70, 3) := dk_184 0 70 (dk_at dksX8_nail_3 6 rfl rfl)
theorem dX8_nail_77 : decode cX8_nail 77 = .ok (.iload_n 2, 1) := dk_28 (dk_at dksX8_nail_3 9 rfl rfl)
theorem dX8_nail_78 : decode cX8_nail 78 = .ok (.iastore, 1) := dk_79 (dk_at dksX8_nail_3 10 rfl rfl)
theorem dX8_nail_79 : decode cX8_nail 79 = .ok (.return_, 1) := dk_177 (dk_at dksX8_nail_3 11 rfl rfl)
abbrev cX8_isNailed : ByteArray := prog_18_method_14_code
def yX8_isNailed : MethodName := ⟨RX8, "isNailed", "(I)Z"⟩
def dkwX8_isNailed_0 : List UInt8 := [42, 27, 6, 182, 0, 74, 2, 159, 0, 7, 4, 167, 0, 4, 3, 172]
abbrev dktX8_isNailed_0 : List UInt8 := dkwX8_isNailed_0 ++ []
theorem dksX8_isNailed_0 : cX8_isNailed.data.toList.drop 0 = dktX8_isNailed_0 := by decide +kernel
theorem dX8_isNailed_0 : decode cX8_isNailed 0 = .ok (.aload_n 0, 1) := dk_42 (dk_at dksX8_isNailed_0 0 rfl rfl)
theorem dX8_isNailed_1 : decode cX8_isNailed 1 = .ok (.iload_n 1, 1) := dk_27 (dk_at dksX8_isNailed_0 1 rfl rfl)
theorem dX8_isNailed_2 : decode cX8_isNailed 2 = .ok (.iconst 3, 1) := dk_6 (dk_at dksX8_isNailed_0 2 rfl rfl)
theorem dX8_isNailed_3 : decode cX8_isNailed 3 = .ok (.invokevirtual 74, 3) := dk_182 0 74 (dk_at dksX8_isNailed_0 3 rfl rfl)
theorem dX8_isNailed_6 : decode cX8_isNailed 6 = .ok (.iconst (-1), 1) := dk_2 (dk_at dksX8_isNailed_0 6 rfl rfl)
theorem dX8_isNailed_7 : decode cX8_isNailed 7 = .ok (.if_icmp .eq 7, 3) := dk_159 0 7 (dk_at dksX8_isNailed_0 7 rfl rfl)
theorem dX8_isNailed_10 : decode cX8_isNailed 10 = .ok (.iconst 1, 1) := dk_4 (dk_at dksX8_isNailed_0 10 rfl rfl)
theorem dX8_isNailed_11 : decode cX8_isNailed 11 = .ok (.goto 4, 3) := dk_167 0 4 (dk_at dksX8_isNailed_0 11 rfl rfl)
theorem dX8_isNailed_14 : decode cX8_isNailed 14 = .ok (.iconst 0, 1) := dk_3 (dk_at dksX8_isNailed_0 14 rfl rfl)
theorem dX8_isNailed_15 : decode cX8_isNailed 15 = .ok (.ireturn, 1) := dk_172 (dk_at dksX8_isNailed_0 15 rfl rfl)
abbrev cX8_down : ByteArray := prog_18_method_74_code
def yX8_down : MethodName := ⟨RX8, "down", "(I)I"⟩
def dkwX8_down_2 : List UInt8 := [182, 0, 160, 61, 42, 180, 0, 13, 28, 6, 184, 0, 70, 2, 79, 28, 172]
abbrev dktX8_down_2 : List UInt8 := dkwX8_down_2 ++ []
def dkwX8_down_1 : List UInt8 := [160, 0, 7, 4, 167, 0, 4, 3, 5, 182, 1, 6, 153, 0, 5, 3, 172, 42, 182, 1, 102, 42, 27]
abbrev dktX8_down_1 : List UInt8 := dkwX8_down_1 ++ dktX8_down_2
def dkwX8_down_0 : List UInt8 := [42, 3, 181, 0, 3, 42, 27, 184, 1, 41, 4, 182, 1, 6, 154, 0, 25, 42, 42, 27, 182, 0, 160, 2]
abbrev dktX8_down_0 : List UInt8 := dkwX8_down_0 ++ dktX8_down_1
theorem dksX8_down_0 : cX8_down.data.toList.drop 0 = dktX8_down_0 := by decide +kernel
theorem dksX8_down_1 : cX8_down.data.toList.drop 24 = dktX8_down_1 := dk_seg dksX8_down_0 24 rfl rfl
theorem dksX8_down_2 : cX8_down.data.toList.drop 47 = dktX8_down_2 := dk_seg dksX8_down_1 23 rfl rfl
theorem dX8_down_0 : decode cX8_down 0 = .ok (.aload_n 0, 1) := dk_42 (dk_at dksX8_down_0 0 rfl rfl)
theorem dX8_down_1 : decode cX8_down 1 = .ok (.iconst 0, 1) := dk_3 (dk_at dksX8_down_0 1 rfl rfl)
theorem dX8_down_2 : decode cX8_down 2 = .ok (.putfield 3, 3) := dk_181 0 3 (dk_at dksX8_down_0 2 rfl rfl)
theorem dX8_down_5 : decode cX8_down 5 = .ok (.aload_n 0, 1) := dk_42 (dk_at dksX8_down_0 5 rfl rfl)
theorem dX8_down_6 : decode cX8_down 6 = .ok (.iload_n 1, 1) := dk_27 (dk_at dksX8_down_0 6 rfl rfl)
theorem dX8_down_7 : decode cX8_down 7 = .ok (.invokestatic 297, 3) := dk_184 1 41 (dk_at dksX8_down_0 7 rfl rfl)
theorem dX8_down_10 : decode cX8_down 10 = .ok (.iconst 1, 1) := dk_4 (dk_at dksX8_down_0 10 rfl rfl)
theorem dX8_down_11 : decode cX8_down 11 = .ok (.invokevirtual 262, 3) := dk_182 1 6 (dk_at dksX8_down_0 11 rfl rfl)
theorem dX8_down_14 : decode cX8_down 14 = .ok (.ifCond .ne 25, 3) := dk_154 0 25 (dk_at dksX8_down_0 14 rfl rfl)
theorem dX8_down_17 : decode cX8_down 17 = .ok (.aload_n 0, 1) := dk_42 (dk_at dksX8_down_0 17 rfl rfl)
theorem dX8_down_18 : decode cX8_down 18 = .ok (.aload_n 0, 1) := dk_42 (dk_at dksX8_down_0 18 rfl rfl)
theorem dX8_down_19 : decode cX8_down 19 = .ok (.iload_n 1, 1) := dk_27 (dk_at dksX8_down_0 19 rfl rfl)
theorem dX8_down_20 : decode cX8_down 20 = .ok (.invokevirtual 160, 3) := dk_182 0 160 (dk_at dksX8_down_0 20 rfl rfl)
theorem dX8_down_23 : decode cX8_down 23 = .ok (.iconst (-1), 1) := dk_2 (dk_at dksX8_down_0 23 rfl rfl)
theorem dX8_down_24 : decode cX8_down 24 = .ok (.if_icmp .ne 7, 3) := dk_160 0 7 (dk_at dksX8_down_1 0 rfl rfl)
theorem dX8_down_27 : decode cX8_down 27 = .ok (.iconst 1, 1) := dk_4 (dk_at dksX8_down_1 3 rfl rfl)
theorem dX8_down_28 : decode cX8_down 28 = .ok (.goto 4, 3) := dk_167 0 4 (dk_at dksX8_down_1 4 rfl rfl)
theorem dX8_down_31 : decode cX8_down 31 = .ok (.iconst 0, 1) := dk_3 (dk_at dksX8_down_1 7 rfl rfl)
theorem dX8_down_32 : decode cX8_down 32 = .ok (.iconst 2, 1) := dk_5 (dk_at dksX8_down_1 8 rfl rfl)
theorem dX8_down_33 : decode cX8_down 33 = .ok (.invokevirtual 262, 3) := dk_182 1 6 (dk_at dksX8_down_1 9 rfl rfl)
theorem dX8_down_36 : decode cX8_down 36 = .ok (.ifCond .eq 5, 3) := dk_153 0 5 (dk_at dksX8_down_1 12 rfl rfl)
theorem dX8_down_39 : decode cX8_down 39 = .ok (.iconst 0, 1) := dk_3 (dk_at dksX8_down_1 15 rfl rfl)
theorem dX8_down_40 : decode cX8_down 40 = .ok (.ireturn, 1) := dk_172 (dk_at dksX8_down_1 16 rfl rfl)
theorem dX8_down_41 : decode cX8_down 41 = .ok (.aload_n 0, 1) := dk_42 (dk_at dksX8_down_1 17 rfl rfl)
theorem dX8_down_42 : decode cX8_down 42 = .ok (.invokevirtual 358, 3) := dk_182 1 102 (dk_at dksX8_down_1 18 rfl rfl)
theorem dX8_down_45 : decode cX8_down 45 = .ok (.aload_n 0, 1) := dk_42 (dk_at dksX8_down_1 21 rfl rfl)
theorem dX8_down_46 : decode cX8_down 46 = .ok (.iload_n 1, 1) := dk_27 (dk_at dksX8_down_1 22 rfl rfl)
theorem dX8_down_47 : decode cX8_down 47 = .ok (.invokevirtual 160, 3) := dk_182 0 160 (dk_at dksX8_down_2 0 rfl rfl)
theorem dX8_down_50 : decode cX8_down 50 = .ok (.istore_n 2, 1) := dk_61 (dk_at dksX8_down_2 3 rfl rfl)
theorem dX8_down_51 : decode cX8_down 51 = .ok (.aload_n 0, 1) := dk_42 (dk_at dksX8_down_2 4 rfl rfl)
theorem dX8_down_52 : decode cX8_down 52 = .ok (.getfield 13, 3) := dk_180 0 13 (dk_at dksX8_down_2 5 rfl rfl)
theorem dX8_down_55 : decode cX8_down 55 = .ok (.iload_n 2, 1) := dk_28 (dk_at dksX8_down_2 8 rfl rfl)
theorem dX8_down_56 : decode cX8_down 56 = .ok (.iconst 3, 1) := dk_6 (dk_at dksX8_down_2 9 rfl rfl)
theorem dX8_down_57 : decode cX8_down 57 = .ok (.invokestatic 70, 3) := dk_184 0 70 (dk_at dksX8_down_2 10 rfl rfl)
theorem dX8_down_60 : decode cX8_down 60 = .ok (.iconst (-1), 1) := dk_2 (dk_at dksX8_down_2 13 rfl rfl)
theorem dX8_down_61 : decode cX8_down 61 = .ok (.iastore, 1) := dk_79 (dk_at dksX8_down_2 14 rfl rfl)
theorem dX8_down_62 : decode cX8_down 62 = .ok (.iload_n 2, 1) := dk_28 (dk_at dksX8_down_2 15 rfl rfl)
theorem dX8_down_63 : decode cX8_down 63 = .ok (.ireturn, 1) := dk_172 (dk_at dksX8_down_2 16 rfl rfl)
abbrev cX8_mend : ByteArray := prog_18_method_75_code
def yX8_mend : MethodName := ⟨RX8, "mend", "(I)I"⟩
def dkwX8_mend_1 : List UInt8 := [42, 27, 5, 182, 0, 74, 61, 42, 180, 0, 13, 27, 5, 184, 0, 70, 3, 79, 28, 172]
abbrev dktX8_mend_1 : List UInt8 := dkwX8_mend_1 ++ []
def dkwX8_mend_0 : List UInt8 := [42, 3, 181, 0, 3, 42, 42, 27, 182, 1, 38, 4, 182, 1, 6, 153, 0, 5, 3, 172, 42, 182, 1, 102]
abbrev dktX8_mend_0 : List UInt8 := dkwX8_mend_0 ++ dktX8_mend_1
theorem dksX8_mend_0 : cX8_mend.data.toList.drop 0 = dktX8_mend_0 := by decide +kernel
theorem dksX8_mend_1 : cX8_mend.data.toList.drop 24 = dktX8_mend_1 := dk_seg dksX8_mend_0 24 rfl rfl
theorem dX8_mend_0 : decode cX8_mend 0 = .ok (.aload_n 0, 1) := dk_42 (dk_at dksX8_mend_0 0 rfl rfl)
theorem dX8_mend_1 : decode cX8_mend 1 = .ok (.iconst 0, 1) := dk_3 (dk_at dksX8_mend_0 1 rfl rfl)
theorem dX8_mend_2 : decode cX8_mend 2 = .ok (.putfield 3, 3) := dk_181 0 3 (dk_at dksX8_mend_0 2 rfl rfl)
theorem dX8_mend_5 : decode cX8_mend 5 = .ok (.aload_n 0, 1) := dk_42 (dk_at dksX8_mend_0 5 rfl rfl)
theorem dX8_mend_6 : decode cX8_mend 6 = .ok (.aload_n 0, 1) := dk_42 (dk_at dksX8_mend_0 6 rfl rfl)
theorem dX8_mend_7 : decode cX8_mend 7 = .ok (.iload_n 1, 1) := dk_27 (dk_at dksX8_mend_0 7 rfl rfl)
theorem dX8_mend_8 : decode cX8_mend 8 = .ok (.invokevirtual 294, 3) := dk_182 1 38 (dk_at dksX8_mend_0 8 rfl rfl)
theorem dX8_mend_11 : decode cX8_mend 11 = .ok (.iconst 1, 1) := dk_4 (dk_at dksX8_mend_0 11 rfl rfl)
theorem dX8_mend_12 : decode cX8_mend 12 = .ok (.invokevirtual 262, 3) := dk_182 1 6 (dk_at dksX8_mend_0 12 rfl rfl)
theorem dX8_mend_15 : decode cX8_mend 15 = .ok (.ifCond .eq 5, 3) := dk_153 0 5 (dk_at dksX8_mend_0 15 rfl rfl)
theorem dX8_mend_18 : decode cX8_mend 18 = .ok (.iconst 0, 1) := dk_3 (dk_at dksX8_mend_0 18 rfl rfl)
theorem dX8_mend_19 : decode cX8_mend 19 = .ok (.ireturn, 1) := dk_172 (dk_at dksX8_mend_0 19 rfl rfl)
theorem dX8_mend_20 : decode cX8_mend 20 = .ok (.aload_n 0, 1) := dk_42 (dk_at dksX8_mend_0 20 rfl rfl)
theorem dX8_mend_21 : decode cX8_mend 21 = .ok (.invokevirtual 358, 3) := dk_182 1 102 (dk_at dksX8_mend_0 21 rfl rfl)
theorem dX8_mend_24 : decode cX8_mend 24 = .ok (.aload_n 0, 1) := dk_42 (dk_at dksX8_mend_1 0 rfl rfl)
theorem dX8_mend_25 : decode cX8_mend 25 = .ok (.iload_n 1, 1) := dk_27 (dk_at dksX8_mend_1 1 rfl rfl)
theorem dX8_mend_26 : decode cX8_mend 26 = .ok (.iconst 2, 1) := dk_5 (dk_at dksX8_mend_1 2 rfl rfl)
theorem dX8_mend_27 : decode cX8_mend 27 = .ok (.invokevirtual 74, 3) := dk_182 0 74 (dk_at dksX8_mend_1 3 rfl rfl)
theorem dX8_mend_30 : decode cX8_mend 30 = .ok (.istore_n 2, 1) := dk_61 (dk_at dksX8_mend_1 6 rfl rfl)
theorem dX8_mend_31 : decode cX8_mend 31 = .ok (.aload_n 0, 1) := dk_42 (dk_at dksX8_mend_1 7 rfl rfl)
theorem dX8_mend_32 : decode cX8_mend 32 = .ok (.getfield 13, 3) := dk_180 0 13 (dk_at dksX8_mend_1 8 rfl rfl)
theorem dX8_mend_35 : decode cX8_mend 35 = .ok (.iload_n 1, 1) := dk_27 (dk_at dksX8_mend_1 11 rfl rfl)
theorem dX8_mend_36 : decode cX8_mend 36 = .ok (.iconst 2, 1) := dk_5 (dk_at dksX8_mend_1 12 rfl rfl)
theorem dX8_mend_37 : decode cX8_mend 37 = .ok (.invokestatic 70, 3) := dk_184 0 70 (dk_at dksX8_mend_1 13 rfl rfl)
theorem dX8_mend_40 : decode cX8_mend 40 = .ok (.iconst 0, 1) := dk_3 (dk_at dksX8_mend_1 16 rfl rfl)
theorem dX8_mend_41 : decode cX8_mend 41 = .ok (.iastore, 1) := dk_79 (dk_at dksX8_mend_1 17 rfl rfl)
theorem dX8_mend_42 : decode cX8_mend 42 = .ok (.iload_n 2, 1) := dk_28 (dk_at dksX8_mend_1 18 rfl rfl)
theorem dX8_mend_43 : decode cX8_mend 43 = .ok (.ireturn, 1) := dk_172 (dk_at dksX8_mend_1 19 rfl rfl)
abbrev cX8_recall : ByteArray := prog_18_method_76_code
def yX8_recall : MethodName := ⟨RX8, "recall", "(I)V"⟩
def dkwX8_recall_2 : List UInt8 := [42, 180, 0, 13, 27, 6, 184, 0, 77, 3, 79, 177]
abbrev dktX8_recall_2 : List UInt8 := dkwX8_recall_2 ++ []
def dkwX8_recall_1 : List UInt8 := [182, 0, 80, 5, 159, 0, 7, 4, 167, 0, 4, 3, 5, 182, 1, 6, 153, 0, 4, 177, 42, 182, 1, 102]
abbrev dktX8_recall_1 : List UInt8 := dkwX8_recall_1 ++ dktX8_recall_2
def dkwX8_recall_0 : List UInt8 := [42, 3, 181, 0, 3, 42, 42, 27, 182, 1, 44, 4, 182, 1, 6, 154, 0, 26, 42, 42, 27, 6]
abbrev dktX8_recall_0 : List UInt8 := dkwX8_recall_0 ++ dktX8_recall_1
theorem dksX8_recall_0 : cX8_recall.data.toList.drop 0 = dktX8_recall_0 := by decide +kernel
theorem dksX8_recall_1 : cX8_recall.data.toList.drop 22 = dktX8_recall_1 := dk_seg dksX8_recall_0 22 rfl rfl
theorem dksX8_recall_2 : cX8_recall.data.toList.drop 46 = dktX8_recall_2 := dk_seg dksX8_recall_1 24 rfl rfl
theorem dX8_recall_0 : decode cX8_recall 0 = .ok (.aload_n 0, 1) := dk_42 (dk_at dksX8_recall_0 0 rfl rfl)
theorem dX8_recall_1 : decode cX8_recall 1 = .ok (.iconst 0, 1) := dk_3 (dk_at dksX8_recall_0 1 rfl rfl)
theorem dX8_recall_2 : decode cX8_recall 2 = .ok (.putfield 3, 3) := dk_181 0 3 (dk_at dksX8_recall_0 2 rfl rfl)
theorem dX8_recall_5 : decode cX8_recall 5 = .ok (.aload_n 0, 1) := dk_42 (dk_at dksX8_recall_0 5 rfl rfl)
theorem dX8_recall_6 : decode cX8_recall 6 = .ok (.aload_n 0, 1) := dk_42 (dk_at dksX8_recall_0 6 rfl rfl)
theorem dX8_recall_7 : decode cX8_recall 7 = .ok (.iload_n 1, 1) := dk_27 (dk_at dksX8_recall_0 7 rfl rfl)
theorem dX8_recall_8 : decode cX8_recall 8 = .ok (.invokevirtual 300, 3) := dk_182 1 44 (dk_at dksX8_recall_0 8 rfl rfl)
theorem dX8_recall_11 : decode cX8_recall 11 = .ok (.iconst 1, 1) := dk_4 (dk_at dksX8_recall_0 11 rfl rfl)
theorem dX8_recall_12 : decode cX8_recall 12 = .ok (.invokevirtual 262, 3) := dk_182 1 6 (dk_at dksX8_recall_0 12 rfl rfl)
theorem dX8_recall_15 : decode cX8_recall 15 = .ok (.ifCond .ne 26, 3) := dk_154 0 26 (dk_at dksX8_recall_0 15 rfl rfl)
theorem dX8_recall_18 : decode cX8_recall 18 = .ok (.aload_n 0, 1) := dk_42 (dk_at dksX8_recall_0 18 rfl rfl)
theorem dX8_recall_19 : decode cX8_recall 19 = .ok (.aload_n 0, 1) := dk_42 (dk_at dksX8_recall_0 19 rfl rfl)
theorem dX8_recall_20 : decode cX8_recall 20 = .ok (.iload_n 1, 1) := dk_27 (dk_at dksX8_recall_0 20 rfl rfl)
theorem dX8_recall_21 : decode cX8_recall 21 = .ok (.iconst 3, 1) := dk_6 (dk_at dksX8_recall_0 21 rfl rfl)
theorem dX8_recall_22 : decode cX8_recall 22 = .ok (.invokevirtual 80, 3) := dk_182 0 80 (dk_at dksX8_recall_1 0 rfl rfl)
theorem dX8_recall_25 : decode cX8_recall 25 = .ok (.iconst 2, 1) := dk_5 (dk_at dksX8_recall_1 3 rfl rfl)
theorem dX8_recall_26 : decode cX8_recall 26 = .ok (.if_icmp .eq 7, 3) := dk_159 0 7 (dk_at dksX8_recall_1 4 rfl rfl)
theorem dX8_recall_29 : decode cX8_recall 29 = .ok (.iconst 1, 1) := dk_4 (dk_at dksX8_recall_1 7 rfl rfl)
theorem dX8_recall_30 : decode cX8_recall 30 = .ok (.goto 4, 3) := dk_167 0 4 (dk_at dksX8_recall_1 8 rfl rfl)
theorem dX8_recall_33 : decode cX8_recall 33 = .ok (.iconst 0, 1) := dk_3 (dk_at dksX8_recall_1 11 rfl rfl)
theorem dX8_recall_34 : decode cX8_recall 34 = .ok (.iconst 2, 1) := dk_5 (dk_at dksX8_recall_1 12 rfl rfl)
theorem dX8_recall_35 : decode cX8_recall 35 = .ok (.invokevirtual 262, 3) := dk_182 1 6 (dk_at dksX8_recall_1 13 rfl rfl)
theorem dX8_recall_38 : decode cX8_recall 38 = .ok (.ifCond .eq 4, 3) := dk_153 0 4 (dk_at dksX8_recall_1 16 rfl rfl)
theorem dX8_recall_41 : decode cX8_recall 41 = .ok (.return_, 1) := dk_177 (dk_at dksX8_recall_1 19 rfl rfl)
theorem dX8_recall_42 : decode cX8_recall 42 = .ok (.aload_n 0, 1) := dk_42 (dk_at dksX8_recall_1 20 rfl rfl)
theorem dX8_recall_43 : decode cX8_recall 43 = .ok (.invokevirtual 358, 3) := dk_182 1 102 (dk_at dksX8_recall_1 21 rfl rfl)
theorem dX8_recall_46 : decode cX8_recall 46 = .ok (.aload_n 0, 1) := dk_42 (dk_at dksX8_recall_2 0 rfl rfl)
theorem dX8_recall_47 : decode cX8_recall 47 = .ok (.getfield 13, 3) := dk_180 0 13 (dk_at dksX8_recall_2 1 rfl rfl)
theorem dX8_recall_50 : decode cX8_recall 50 = .ok (.iload_n 1, 1) := dk_27 (dk_at dksX8_recall_2 4 rfl rfl)
theorem dX8_recall_51 : decode cX8_recall 51 = .ok (.iconst 3, 1) := dk_6 (dk_at dksX8_recall_2 5 rfl rfl)
theorem dX8_recall_52 : decode cX8_recall 52 = .ok (.invokestatic 77, 3) := dk_184 0 77 (dk_at dksX8_recall_2 6 rfl rfl)
theorem dX8_recall_55 : decode cX8_recall 55 = .ok (.iconst 0, 1) := dk_3 (dk_at dksX8_recall_2 9 rfl rfl)
theorem dX8_recall_56 : decode cX8_recall 56 = .ok (.iastore, 1) := dk_79 (dk_at dksX8_recall_2 10 rfl rfl)
theorem dX8_recall_57 : decode cX8_recall 57 = .ok (.return_, 1) := dk_177 (dk_at dksX8_recall_2 11 rfl rfl)
abbrev cX8_inside : ByteArray := prog_18_method_78_code
def yX8_inside : MethodName := ⟨RX8, "inside", "(I)I"⟩
def dkwX8_inside_2 : List UInt8 := [180, 0, 13, 27, 6, 184, 0, 77, 6, 79, 42, 6, 182, 1, 108, 184, 0, 143, 172]
abbrev dktX8_inside_2 : List UInt8 := dkwX8_inside_2 ++ []
def dkwX8_inside_1 : List UInt8 := [154, 0, 7, 4, 167, 0, 4, 3, 5, 182, 1, 6, 153, 0, 5, 3, 172, 42, 182, 1, 102, 42]
abbrev dktX8_inside_1 : List UInt8 := dkwX8_inside_1 ++ dktX8_inside_2
def dkwX8_inside_0 : List UInt8 := [42, 3, 181, 0, 3, 42, 42, 27, 182, 1, 44, 4, 182, 1, 6, 154, 0, 24, 42, 42, 27, 182, 1, 99]
abbrev dktX8_inside_0 : List UInt8 := dkwX8_inside_0 ++ dktX8_inside_1
theorem dksX8_inside_0 : cX8_inside.data.toList.drop 0 = dktX8_inside_0 := by decide +kernel
theorem dksX8_inside_1 : cX8_inside.data.toList.drop 24 = dktX8_inside_1 := dk_seg dksX8_inside_0 24 rfl rfl
theorem dksX8_inside_2 : cX8_inside.data.toList.drop 46 = dktX8_inside_2 := dk_seg dksX8_inside_1 22 rfl rfl
theorem dX8_inside_0 : decode cX8_inside 0 = .ok (.aload_n 0, 1) := dk_42 (dk_at dksX8_inside_0 0 rfl rfl)
theorem dX8_inside_1 : decode cX8_inside 1 = .ok (.iconst 0, 1) := dk_3 (dk_at dksX8_inside_0 1 rfl rfl)
theorem dX8_inside_2 : decode cX8_inside 2 = .ok (.putfield 3, 3) := dk_181 0 3 (dk_at dksX8_inside_0 2 rfl rfl)
theorem dX8_inside_5 : decode cX8_inside 5 = .ok (.aload_n 0, 1) := dk_42 (dk_at dksX8_inside_0 5 rfl rfl)
theorem dX8_inside_6 : decode cX8_inside 6 = .ok (.aload_n 0, 1) := dk_42 (dk_at dksX8_inside_0 6 rfl rfl)
theorem dX8_inside_7 : decode cX8_inside 7 = .ok (.iload_n 1, 1) := dk_27 (dk_at dksX8_inside_0 7 rfl rfl)
theorem dX8_inside_8 : decode cX8_inside 8 = .ok (.invokevirtual 300, 3) := dk_182 1 44 (dk_at dksX8_inside_0 8 rfl rfl)
theorem dX8_inside_11 : decode cX8_inside 11 = .ok (.iconst 1, 1) := dk_4 (dk_at dksX8_inside_0 11 rfl rfl)
theorem dX8_inside_12 : decode cX8_inside 12 = .ok (.invokevirtual 262, 3) := dk_182 1 6 (dk_at dksX8_inside_0 12 rfl rfl)
theorem dX8_inside_15 : decode cX8_inside 15 = .ok (.ifCond .ne 24, 3) := dk_154 0 24 (dk_at dksX8_inside_0 15 rfl rfl)
theorem dX8_inside_18 : decode cX8_inside 18 = .ok (.aload_n 0, 1) := dk_42 (dk_at dksX8_inside_0 18 rfl rfl)
theorem dX8_inside_19 : decode cX8_inside 19 = .ok (.aload_n 0, 1) := dk_42 (dk_at dksX8_inside_0 19 rfl rfl)
theorem dX8_inside_20 : decode cX8_inside 20 = .ok (.iload_n 1, 1) := dk_27 (dk_at dksX8_inside_0 20 rfl rfl)
theorem dX8_inside_21 : decode cX8_inside 21 = .ok (.invokevirtual 355, 3) := dk_182 1 99 (dk_at dksX8_inside_0 21 rfl rfl)
theorem dX8_inside_24 : decode cX8_inside 24 = .ok (.ifCond .ne 7, 3) := dk_154 0 7 (dk_at dksX8_inside_1 0 rfl rfl)
theorem dX8_inside_27 : decode cX8_inside 27 = .ok (.iconst 1, 1) := dk_4 (dk_at dksX8_inside_1 3 rfl rfl)
theorem dX8_inside_28 : decode cX8_inside 28 = .ok (.goto 4, 3) := dk_167 0 4 (dk_at dksX8_inside_1 4 rfl rfl)
theorem dX8_inside_31 : decode cX8_inside 31 = .ok (.iconst 0, 1) := dk_3 (dk_at dksX8_inside_1 7 rfl rfl)
theorem dX8_inside_32 : decode cX8_inside 32 = .ok (.iconst 2, 1) := dk_5 (dk_at dksX8_inside_1 8 rfl rfl)
theorem dX8_inside_33 : decode cX8_inside 33 = .ok (.invokevirtual 262, 3) := dk_182 1 6 (dk_at dksX8_inside_1 9 rfl rfl)
theorem dX8_inside_36 : decode cX8_inside 36 = .ok (.ifCond .eq 5, 3) := dk_153 0 5 (dk_at dksX8_inside_1 12 rfl rfl)
theorem dX8_inside_39 : decode cX8_inside 39 = .ok (.iconst 0, 1) := dk_3 (dk_at dksX8_inside_1 15 rfl rfl)
theorem dX8_inside_40 : decode cX8_inside 40 = .ok (.ireturn, 1) := dk_172 (dk_at dksX8_inside_1 16 rfl rfl)
theorem dX8_inside_41 : decode cX8_inside 41 = .ok (.aload_n 0, 1) := dk_42 (dk_at dksX8_inside_1 17 rfl rfl)
theorem dX8_inside_42 : decode cX8_inside 42 = .ok (.invokevirtual 358, 3) := dk_182 1 102 (dk_at dksX8_inside_1 18 rfl rfl)
theorem dX8_inside_45 : decode cX8_inside 45 = .ok (.aload_n 0, 1) := dk_42 (dk_at dksX8_inside_1 21 rfl rfl)
theorem dX8_inside_46 : decode cX8_inside 46 = .ok (.getfield 13, 3) := dk_180 0 13 (dk_at dksX8_inside_2 0 rfl rfl)
theorem dX8_inside_49 : decode cX8_inside 49 = .ok (.iload_n 1, 1) := dk_27 (dk_at dksX8_inside_2 3 rfl rfl)
theorem dX8_inside_50 : decode cX8_inside 50 = .ok (.iconst 3, 1) := dk_6 (dk_at dksX8_inside_2 4 rfl rfl)
theorem dX8_inside_51 : decode cX8_inside 51 = .ok (.invokestatic 77, 3) := dk_184 0 77 (dk_at dksX8_inside_2 5 rfl rfl)
theorem dX8_inside_54 : decode cX8_inside 54 = .ok (.iconst 3, 1) := dk_6 (dk_at dksX8_inside_2 8 rfl rfl)
theorem dX8_inside_55 : decode cX8_inside 55 = .ok (.iastore, 1) := dk_79 (dk_at dksX8_inside_2 9 rfl rfl)
theorem dX8_inside_56 : decode cX8_inside 56 = .ok (.aload_n 0, 1) := dk_42 (dk_at dksX8_inside_2 10 rfl rfl)
theorem dX8_inside_57 : decode cX8_inside 57 = .ok (.iconst 3, 1) := dk_6 (dk_at dksX8_inside_2 11 rfl rfl)
theorem dX8_inside_58 : decode cX8_inside 58 = .ok (.invokevirtual 364, 3) := dk_182 1 108 (dk_at dksX8_inside_2 12 rfl rfl)
theorem dX8_inside_61 : decode cX8_inside 61 = .ok (.invokestatic 143, 3) := dk_184 0 143 (dk_at dksX8_inside_2 15 rfl rfl)
theorem dX8_inside_64 : decode cX8_inside 64 = .ok (.ireturn, 1) := dk_172 (dk_at dksX8_inside_2 18 rfl rfl)
abbrev cX8_ofState : ByteArray := prog_18_method_77_code
def yX8_ofState : MethodName := ⟨RX8, "ofState", "(I)I"⟩
def dkwX8_ofState_1 : List UInt8 := [29, 120, 167, 0, 4, 3, 128, 61, 132, 3, 1, 167, 255, 225, 28, 172]
abbrev dktX8_ofState_1 : List UInt8 := dkwX8_ofState_1 ++ []
def dkwX8_ofState_0 : List UInt8 := [3, 61, 3, 62, 29, 42, 182, 0, 91, 162, 0, 29, 28, 42, 29, 6, 182, 0, 80, 27, 160, 0, 9, 4]
abbrev dktX8_ofState_0 : List UInt8 := dkwX8_ofState_0 ++ dktX8_ofState_1
theorem dksX8_ofState_0 : cX8_ofState.data.toList.drop 0 = dktX8_ofState_0 := by decide +kernel
theorem dksX8_ofState_1 : cX8_ofState.data.toList.drop 24 = dktX8_ofState_1 := dk_seg dksX8_ofState_0 24 rfl rfl
theorem dX8_ofState_0 : decode cX8_ofState 0 = .ok (.iconst 0, 1) := dk_3 (dk_at dksX8_ofState_0 0 rfl rfl)
theorem dX8_ofState_1 : decode cX8_ofState 1 = .ok (.istore_n 2, 1) := dk_61 (dk_at dksX8_ofState_0 1 rfl rfl)
theorem dX8_ofState_2 : decode cX8_ofState 2 = .ok (.iconst 0, 1) := dk_3 (dk_at dksX8_ofState_0 2 rfl rfl)
theorem dX8_ofState_3 : decode cX8_ofState 3 = .ok (.istore_n 3, 1) := dk_62 (dk_at dksX8_ofState_0 3 rfl rfl)
theorem dX8_ofState_4 : decode cX8_ofState 4 = .ok (.iload_n 3, 1) := dk_29 (dk_at dksX8_ofState_0 4 rfl rfl)
theorem dX8_ofState_5 : decode cX8_ofState 5 = .ok (.aload_n 0, 1) := dk_42 (dk_at dksX8_ofState_0 5 rfl rfl)
theorem dX8_ofState_6 : decode cX8_ofState 6 = .ok (.invokevirtual 91, 3) := dk_182 0 91 (dk_at dksX8_ofState_0 6 rfl rfl)
theorem dX8_ofState_9 : decode cX8_ofState 9 = .ok (.if_icmp .ge 29, 3) := dk_162 0 29 (dk_at dksX8_ofState_0 9 rfl rfl)
theorem dX8_ofState_12 : decode cX8_ofState 12 = .ok (.iload_n 2, 1) := dk_28 (dk_at dksX8_ofState_0 12 rfl rfl)
theorem dX8_ofState_13 : decode cX8_ofState 13 = .ok (.aload_n 0, 1) := dk_42 (dk_at dksX8_ofState_0 13 rfl rfl)
theorem dX8_ofState_14 : decode cX8_ofState 14 = .ok (.iload_n 3, 1) := dk_29 (dk_at dksX8_ofState_0 14 rfl rfl)
theorem dX8_ofState_15 : decode cX8_ofState 15 = .ok (.iconst 3, 1) := dk_6 (dk_at dksX8_ofState_0 15 rfl rfl)
theorem dX8_ofState_16 : decode cX8_ofState 16 = .ok (.invokevirtual 80, 3) := dk_182 0 80 (dk_at dksX8_ofState_0 16 rfl rfl)
theorem dX8_ofState_19 : decode cX8_ofState 19 = .ok (.iload_n 1, 1) := dk_27 (dk_at dksX8_ofState_0 19 rfl rfl)
theorem dX8_ofState_20 : decode cX8_ofState 20 = .ok (.if_icmp .ne 9, 3) := dk_160 0 9 (dk_at dksX8_ofState_0 20 rfl rfl)
theorem dX8_ofState_23 : decode cX8_ofState 23 = .ok (.iconst 1, 1) := dk_4 (dk_at dksX8_ofState_0 23 rfl rfl)
theorem dX8_ofState_24 : decode cX8_ofState 24 = .ok (.iload_n 3, 1) := dk_29 (dk_at dksX8_ofState_1 0 rfl rfl)
theorem dX8_ofState_25 : decode cX8_ofState 25 = .ok (.ishl, 1) := dk_120 (dk_at dksX8_ofState_1 1 rfl rfl)
theorem dX8_ofState_26 : decode cX8_ofState 26 = .ok (.goto 4, 3) := dk_167 0 4 (dk_at dksX8_ofState_1 2 rfl rfl)
theorem dX8_ofState_29 : decode cX8_ofState 29 = .ok (.iconst 0, 1) := dk_3 (dk_at dksX8_ofState_1 5 rfl rfl)
theorem dX8_ofState_30 : decode cX8_ofState 30 = .ok (.ior, 1) := dk_128 (dk_at dksX8_ofState_1 6 rfl rfl)
theorem dX8_ofState_31 : decode cX8_ofState 31 = .ok (.istore_n 2, 1) := dk_61 (dk_at dksX8_ofState_1 7 rfl rfl)
theorem dX8_ofState_32 : decode cX8_ofState 32 = .ok (.iinc 3 1, 3) := dk_132 3 1 (dk_at dksX8_ofState_1 8 rfl rfl)
theorem dX8_ofState_35 : decode cX8_ofState 35 = .ok (.goto (-31), 3) := dk_167 255 225 (dk_at dksX8_ofState_1 11 rfl rfl)
theorem dX8_ofState_38 : decode cX8_ofState 38 = .ok (.iload_n 2, 1) := dk_28 (dk_at dksX8_ofState_1 14 rfl rfl)
theorem dX8_ofState_39 : decode cX8_ofState 39 = .ok (.ireturn, 1) := dk_172 (dk_at dksX8_ofState_1 15 rfl rfl)
abbrev cX8_calm : ByteArray := prog_18_method_79_code
def yX8_calm : MethodName := ⟨RX8, "calm", "(I)I"⟩
def dkwX8_calm_2 : List UInt8 := [27, 79, 28, 172]
abbrev dktX8_calm_2 : List UInt8 := dkwX8_calm_2 ++ []
def dkwX8_calm_1 : List UInt8 := [182, 1, 6, 153, 0, 5, 3, 172, 42, 182, 1, 102, 42, 180, 0, 13, 8, 46, 61, 42, 180, 0, 13, 8]
abbrev dktX8_calm_1 : List UInt8 := dkwX8_calm_1 ++ dktX8_calm_2
def dkwX8_calm_0 : List UInt8 := [42, 3, 181, 0, 3, 42, 27, 3, 16, 9, 184, 0, 87, 154, 0, 7, 4, 167, 0, 4, 3, 4]
abbrev dktX8_calm_0 : List UInt8 := dkwX8_calm_0 ++ dktX8_calm_1
theorem dksX8_calm_0 : cX8_calm.data.toList.drop 0 = dktX8_calm_0 := by decide +kernel
theorem dksX8_calm_1 : cX8_calm.data.toList.drop 22 = dktX8_calm_1 := dk_seg dksX8_calm_0 22 rfl rfl
theorem dksX8_calm_2 : cX8_calm.data.toList.drop 46 = dktX8_calm_2 := dk_seg dksX8_calm_1 24 rfl rfl
theorem dX8_calm_0 : decode cX8_calm 0 = .ok (.aload_n 0, 1) := dk_42 (dk_at dksX8_calm_0 0 rfl rfl)
theorem dX8_calm_1 : decode cX8_calm 1 = .ok (.iconst 0, 1) := dk_3 (dk_at dksX8_calm_0 1 rfl rfl)
theorem dX8_calm_2 : decode cX8_calm 2 = .ok (.putfield 3, 3) := dk_181 0 3 (dk_at dksX8_calm_0 2 rfl rfl)
theorem dX8_calm_5 : decode cX8_calm 5 = .ok (.aload_n 0, 1) := dk_42 (dk_at dksX8_calm_0 5 rfl rfl)
theorem dX8_calm_6 : decode cX8_calm 6 = .ok (.iload_n 1, 1) := dk_27 (dk_at dksX8_calm_0 6 rfl rfl)
theorem dX8_calm_7 : decode cX8_calm 7 = .ok (.iconst 0, 1) := dk_3 (dk_at dksX8_calm_0 7 rfl rfl)
theorem dX8_calm_8 : decode cX8_calm 8 = .ok (.bipush 9, 2) := dk_16 9 (dk_at dksX8_calm_0 8 rfl rfl)
theorem dX8_calm_10 : decode cX8_calm 10 = .ok (.invokestatic 87, 3) := dk_184 0 87 (dk_at dksX8_calm_0 10 rfl rfl)
theorem dX8_calm_13 : decode cX8_calm 13 = .ok (.ifCond .ne 7, 3) := dk_154 0 7 (dk_at dksX8_calm_0 13 rfl rfl)
theorem dX8_calm_16 : decode cX8_calm 16 = .ok (.iconst 1, 1) := dk_4 (dk_at dksX8_calm_0 16 rfl rfl)
theorem dX8_calm_17 : decode cX8_calm 17 = .ok (.goto 4, 3) := dk_167 0 4 (dk_at dksX8_calm_0 17 rfl rfl)
theorem dX8_calm_20 : decode cX8_calm 20 = .ok (.iconst 0, 1) := dk_3 (dk_at dksX8_calm_0 20 rfl rfl)
theorem dX8_calm_21 : decode cX8_calm 21 = .ok (.iconst 1, 1) := dk_4 (dk_at dksX8_calm_0 21 rfl rfl)
theorem dX8_calm_22 : decode cX8_calm 22 = .ok (.invokevirtual 262, 3) := dk_182 1 6 (dk_at dksX8_calm_1 0 rfl rfl)
theorem dX8_calm_25 : decode cX8_calm 25 = .ok (.ifCond .eq 5, 3) := dk_153 0 5 (dk_at dksX8_calm_1 3 rfl rfl)
theorem dX8_calm_28 : decode cX8_calm 28 = .ok (.iconst 0, 1) := dk_3 (dk_at dksX8_calm_1 6 rfl rfl)
theorem dX8_calm_29 : decode cX8_calm 29 = .ok (.ireturn, 1) := dk_172 (dk_at dksX8_calm_1 7 rfl rfl)
theorem dX8_calm_30 : decode cX8_calm 30 = .ok (.aload_n 0, 1) := dk_42 (dk_at dksX8_calm_1 8 rfl rfl)
theorem dX8_calm_31 : decode cX8_calm 31 = .ok (.invokevirtual 358, 3) := dk_182 1 102 (dk_at dksX8_calm_1 9 rfl rfl)
theorem dX8_calm_34 : decode cX8_calm 34 = .ok (.aload_n 0, 1) := dk_42 (dk_at dksX8_calm_1 12 rfl rfl)
theorem dX8_calm_35 : decode cX8_calm 35 = .ok (.getfield 13, 3) := dk_180 0 13 (dk_at dksX8_calm_1 13 rfl rfl)
theorem dX8_calm_38 : decode cX8_calm 38 = .ok (.iconst 5, 1) := dk_8 (dk_at dksX8_calm_1 16 rfl rfl)
theorem dX8_calm_39 : decode cX8_calm 39 = .ok (.iaload, 1) := dk_46 (dk_at dksX8_calm_1 17 rfl rfl)
theorem dX8_calm_40 : decode cX8_calm 40 = .ok (.istore_n 2, 1) := dk_61 (dk_at dksX8_calm_1 18 rfl rfl)
theorem dX8_calm_41 : decode cX8_calm 41 = .ok (.aload_n 0, 1) := dk_42 (dk_at dksX8_calm_1 19 rfl rfl)
theorem dX8_calm_42 : decode cX8_calm 42 = .ok (.getfield 13, 3) := dk_180 0 13 (dk_at dksX8_calm_1 20 rfl rfl)
theorem dX8_calm_45 : decode cX8_calm 45 = .ok (.iconst 5, 1) := dk_8 (dk_at dksX8_calm_1 23 rfl rfl)
theorem dX8_calm_46 : decode cX8_calm 46 = .ok (.iload_n 1, 1) := dk_27 (dk_at dksX8_calm_2 0 rfl rfl)
theorem dX8_calm_47 : decode cX8_calm 47 = .ok (.iastore, 1) := dk_79 (dk_at dksX8_calm_2 1 rfl rfl)
theorem dX8_calm_48 : decode cX8_calm 48 = .ok (.iload_n 2, 1) := dk_28 (dk_at dksX8_calm_2 2 rfl rfl)
theorem dX8_calm_49 : decode cX8_calm 49 = .ok (.ireturn, 1) := dk_172 (dk_at dksX8_calm_2 3 rfl rfl)
abbrev cX8_mornings : ByteArray := prog_18_method_80_code
def yX8_mornings : MethodName := ⟨RX8, "mornings", "(I)I"⟩
def dkwX8_mornings_4 : List UInt8 := [42, 180, 0, 13, 7, 17, 39, 15, 42, 180, 0, 13, 7, 46, 27, 96, 184, 1, 96, 79, 28, 172]
abbrev dktX8_mornings_4 : List UInt8 := dkwX8_mornings_4 ++ []
def dkwX8_mornings_3 : List UInt8 := [182, 0, 74, 27, 100, 184, 1, 33, 79, 28, 42, 29, 5, 182, 0, 74, 96, 61, 132, 3, 1, 167, 255, 203]
abbrev dktX8_mornings_3 : List UInt8 := dkwX8_mornings_3 ++ dktX8_mornings_4
def dkwX8_mornings_2 : List UInt8 := [42, 29, 182, 0, 94, 154, 0, 6, 167, 0, 34, 42, 180, 0, 13, 29, 5, 184, 0, 70, 3, 42, 29, 5]
abbrev dktX8_mornings_2 : List UInt8 := dkwX8_mornings_2 ++ dktX8_mornings_3
def dkwX8_mornings_1 : List UInt8 := [182, 1, 6, 153, 0, 5, 3, 172, 42, 182, 1, 102, 3, 61, 3, 62, 29, 42, 182, 0, 83, 162, 0, 51]
abbrev dktX8_mornings_1 : List UInt8 := dkwX8_mornings_1 ++ dktX8_mornings_2
def dkwX8_mornings_0 : List UInt8 := [42, 3, 181, 0, 3, 42, 27, 4, 16, 60, 184, 0, 87, 154, 0, 7, 4, 167, 0, 4, 3, 4]
abbrev dktX8_mornings_0 : List UInt8 := dkwX8_mornings_0 ++ dktX8_mornings_1
theorem dksX8_mornings_0 : cX8_mornings.data.toList.drop 0 = dktX8_mornings_0 := by decide +kernel
theorem dksX8_mornings_1 : cX8_mornings.data.toList.drop 22 = dktX8_mornings_1 := dk_seg dksX8_mornings_0 22 rfl rfl
theorem dksX8_mornings_2 : cX8_mornings.data.toList.drop 46 = dktX8_mornings_2 := dk_seg dksX8_mornings_1 24 rfl rfl
theorem dksX8_mornings_3 : cX8_mornings.data.toList.drop 70 = dktX8_mornings_3 := dk_seg dksX8_mornings_2 24 rfl rfl
theorem dksX8_mornings_4 : cX8_mornings.data.toList.drop 94 = dktX8_mornings_4 := dk_seg dksX8_mornings_3 24 rfl rfl
theorem dX8_mornings_0 : decode cX8_mornings 0 = .ok (.aload_n 0, 1) := dk_42 (dk_at dksX8_mornings_0 0 rfl rfl)
theorem dX8_mornings_1 : decode cX8_mornings 1 = .ok (.iconst 0, 1) := dk_3 (dk_at dksX8_mornings_0 1 rfl rfl)
theorem dX8_mornings_2 : decode cX8_mornings 2 = .ok (.putfield 3, 3) := dk_181 0 3 (dk_at dksX8_mornings_0 2 rfl rfl)
theorem dX8_mornings_5 : decode cX8_mornings 5 = .ok (.aload_n 0, 1) := dk_42 (dk_at dksX8_mornings_0 5 rfl rfl)
theorem dX8_mornings_6 : decode cX8_mornings 6 = .ok (.iload_n 1, 1) := dk_27 (dk_at dksX8_mornings_0 6 rfl rfl)
theorem dX8_mornings_7 : decode cX8_mornings 7 = .ok (.iconst 1, 1) := dk_4 (dk_at dksX8_mornings_0 7 rfl rfl)
theorem dX8_mornings_8 : decode cX8_mornings 8 = .ok (.bipush 60, 2) := dk_16 60 (dk_at dksX8_mornings_0 8 rfl rfl)
theorem dX8_mornings_10 : decode cX8_mornings 10 = .ok (.invokestatic 87, 3) := dk_184 0 87 (dk_at dksX8_mornings_0 10 rfl rfl)
theorem dX8_mornings_13 : decode cX8_mornings 13 = .ok (.ifCond .ne 7, 3) := dk_154 0 7 (dk_at dksX8_mornings_0 13 rfl rfl)
theorem dX8_mornings_16 : decode cX8_mornings 16 = .ok (.iconst 1, 1) := dk_4 (dk_at dksX8_mornings_0 16 rfl rfl)
theorem dX8_mornings_17 : decode cX8_mornings 17 = .ok (.goto 4, 3) := dk_167 0 4 (dk_at dksX8_mornings_0 17 rfl rfl)
theorem dX8_mornings_20 : decode cX8_mornings 20 = .ok (.iconst 0, 1) := dk_3 (dk_at dksX8_mornings_0 20 rfl rfl)
theorem dX8_mornings_21 : decode cX8_mornings 21 = .ok (.iconst 1, 1) := dk_4 (dk_at dksX8_mornings_0 21 rfl rfl)
theorem dX8_mornings_22 : decode cX8_mornings 22 = .ok (.invokevirtual 262, 3) := dk_182 1 6 (dk_at dksX8_mornings_1 0 rfl rfl)
theorem dX8_mornings_25 : decode cX8_mornings 25 = .ok (.ifCond .eq 5, 3) := dk_153 0 5 (dk_at dksX8_mornings_1 3 rfl rfl)
theorem dX8_mornings_28 : decode cX8_mornings 28 = .ok (.iconst 0, 1) := dk_3 (dk_at dksX8_mornings_1 6 rfl rfl)
theorem dX8_mornings_29 : decode cX8_mornings 29 = .ok (.ireturn, 1) := dk_172 (dk_at dksX8_mornings_1 7 rfl rfl)
theorem dX8_mornings_30 : decode cX8_mornings 30 = .ok (.aload_n 0, 1) := dk_42 (dk_at dksX8_mornings_1 8 rfl rfl)
theorem dX8_mornings_31 : decode cX8_mornings 31 = .ok (.invokevirtual 358, 3) := dk_182 1 102 (dk_at dksX8_mornings_1 9 rfl rfl)
theorem dX8_mornings_34 : decode cX8_mornings 34 = .ok (.iconst 0, 1) := dk_3 (dk_at dksX8_mornings_1 12 rfl rfl)
theorem dX8_mornings_35 : decode cX8_mornings 35 = .ok (.istore_n 2, 1) := dk_61 (dk_at dksX8_mornings_1 13 rfl rfl)
theorem dX8_mornings_36 : decode cX8_mornings 36 = .ok (.iconst 0, 1) := dk_3 (dk_at dksX8_mornings_1 14 rfl rfl)
theorem dX8_mornings_37 : decode cX8_mornings 37 = .ok (.istore_n 3, 1) := dk_62 (dk_at dksX8_mornings_1 15 rfl rfl)
theorem dX8_mornings_38 : decode cX8_mornings 38 = .ok (.iload_n 3, 1) := dk_29 (dk_at dksX8_mornings_1 16 rfl rfl)
theorem dX8_mornings_39 : decode cX8_mornings 39 = .ok (.aload_n 0, 1) := dk_42 (dk_at dksX8_mornings_1 17 rfl rfl)
theorem dX8_mornings_40 : decode cX8_mornings 40 = .ok (.invokevirtual 83, 3) := dk_182 0 83 (dk_at dksX8_mornings_1 18 rfl rfl)
theorem dX8_mornings_43 : decode cX8_mornings 43 = .ok (.if_icmp .ge 51, 3) := dk_162 0 51 (dk_at dksX8_mornings_1 21 rfl rfl)
theorem dX8_mornings_46 : decode cX8_mornings 46 = .ok (.aload_n 0, 1) := dk_42 (dk_at dksX8_mornings_2 0 rfl rfl)
theorem dX8_mornings_47 : decode cX8_mornings 47 = .ok (.iload_n 3, 1) := dk_29 (dk_at dksX8_mornings_2 1 rfl rfl)
theorem dX8_mornings_48 : decode cX8_mornings 48 = .ok (.invokevirtual 94, 3) := dk_182 0 94 (dk_at dksX8_mornings_2 2 rfl rfl)
theorem dX8_mornings_51 : decode cX8_mornings 51 = .ok (.ifCond .ne 6, 3) := dk_154 0 6 (dk_at dksX8_mornings_2 5 rfl rfl)
theorem dX8_mornings_54 : decode cX8_mornings 54 = .ok (.goto 34, 3) := dk_167 0 34 (dk_at dksX8_mornings_2 8 rfl rfl)
theorem dX8_mornings_57 : decode cX8_mornings 57 = .ok (.aload_n 0, 1) := dk_42 (dk_at dksX8_mornings_2 11 rfl rfl)
theorem dX8_mornings_58 : decode cX8_mornings 58 = .ok (.getfield 13, 3) := dk_180 0 13 (dk_at dksX8_mornings_2 12 rfl rfl)
theorem dX8_mornings_61 : decode cX8_mornings 61 = .ok (.iload_n 3, 1) := dk_29 (dk_at dksX8_mornings_2 15 rfl rfl)
theorem dX8_mornings_62 : decode cX8_mornings 62 = .ok (.iconst 2, 1) := dk_5 (dk_at dksX8_mornings_2 16 rfl rfl)
theorem dX8_mornings_63 : decode cX8_mornings 63 = .ok (.invokestatic 70, 3) := dk_184 0 70 (dk_at dksX8_mornings_2 17 rfl rfl)
theorem dX8_mornings_66 : decode cX8_mornings 66 = .ok (.iconst 0, 1) := dk_3 (dk_at dksX8_mornings_2 20 rfl rfl)
theorem dX8_mornings_67 : decode cX8_mornings 67 = .ok (.aload_n 0, 1) := dk_42 (dk_at dksX8_mornings_2 21 rfl rfl)
theorem dX8_mornings_68 : decode cX8_mornings 68 = .ok (.iload_n 3, 1) := dk_29 (dk_at dksX8_mornings_2 22 rfl rfl)
theorem dX8_mornings_69 : decode cX8_mornings 69 = .ok (.iconst 2, 1) := dk_5 (dk_at dksX8_mornings_2 23 rfl rfl)
theorem dX8_mornings_70 : decode cX8_mornings 70 = .ok (.invokevirtual 74, 3) := dk_182 0 74 (dk_at dksX8_mornings_3 0 rfl rfl)
theorem dX8_mornings_73 : decode cX8_mornings 73 = .ok (.iload_n 1, 1) := dk_27 (dk_at dksX8_mornings_3 3 rfl rfl)
theorem dX8_mornings_74 : decode cX8_mornings 74 = .ok (.isub, 1) := dk_100 (dk_at dksX8_mornings_3 4 rfl rfl)
theorem dX8_mornings_75 : decode cX8_mornings 75 = .ok (.invokestatic 289, 3) := dk_184 1 33 (dk_at dksX8_mornings_3 5 rfl rfl)
theorem dX8_mornings_78 : decode cX8_mornings 78 = .ok (.iastore, 1) := dk_79 (dk_at dksX8_mornings_3 8 rfl rfl)
theorem dX8_mornings_79 : decode cX8_mornings 79 = .ok (.iload_n 2, 1) := dk_28 (dk_at dksX8_mornings_3 9 rfl rfl)
theorem dX8_mornings_80 : decode cX8_mornings 80 = .ok (.aload_n 0, 1) := dk_42 (dk_at dksX8_mornings_3 10 rfl rfl)
theorem dX8_mornings_81 : decode cX8_mornings 81 = .ok (.iload_n 3, 1) := dk_29 (dk_at dksX8_mornings_3 11 rfl rfl)
theorem dX8_mornings_82 : decode cX8_mornings 82 = .ok (.iconst 2, 1) := dk_5 (dk_at dksX8_mornings_3 12 rfl rfl)
theorem dX8_mornings_83 : decode cX8_mornings 83 = .ok (.invokevirtual 74, 3) := dk_182 0 74 (dk_at dksX8_mornings_3 13 rfl rfl)
theorem dX8_mornings_86 : decode cX8_mornings 86 = .ok (.iadd, 1) := dk_96 (dk_at dksX8_mornings_3 16 rfl rfl)
theorem dX8_mornings_87 : decode cX8_mornings 87 = .ok (.istore_n 2, 1) := dk_61 (dk_at dksX8_mornings_3 17 rfl rfl)
theorem dX8_mornings_88 : decode cX8_mornings 88 = .ok (.iinc 3 1, 3) := dk_132 3 1 (dk_at dksX8_mornings_3 18 rfl rfl)
theorem dX8_mornings_91 : decode cX8_mornings 91 = .ok (.goto (-53), 3) := dk_167 255 203 (dk_at dksX8_mornings_3 21 rfl rfl)
theorem dX8_mornings_94 : decode cX8_mornings 94 = .ok (.aload_n 0, 1) := dk_42 (dk_at dksX8_mornings_4 0 rfl rfl)
theorem dX8_mornings_95 : decode cX8_mornings 95 = .ok (.getfield 13, 3) := dk_180 0 13 (dk_at dksX8_mornings_4 1 rfl rfl)
theorem dX8_mornings_98 : decode cX8_mornings 98 = .ok (.iconst 4, 1) := dk_7 (dk_at dksX8_mornings_4 4 rfl rfl)
theorem dX8_mornings_99 : decode cX8_mornings 99 = .ok (.sipush 9999, 3) := dk_17 39 15 (dk_at dksX8_mornings_4 5 rfl rfl)
theorem dX8_mornings_102 : decode cX8_mornings 102 = .ok (.aload_n 0, 1) := dk_42 (dk_at dksX8_mornings_4 8 rfl rfl)
theorem dX8_mornings_103 : decode cX8_mornings 103 = .ok (.getfield 13, 3) := dk_180 0 13 (dk_at dksX8_mornings_4 9 rfl rfl)
theorem dX8_mornings_106 : decode cX8_mornings 106 = .ok (.iconst 4, 1) := dk_7 (dk_at dksX8_mornings_4 12 rfl rfl)
theorem dX8_mornings_107 : decode cX8_mornings 107 = .ok (.iaload, 1) := dk_46 (dk_at dksX8_mornings_4 13 rfl rfl)
theorem dX8_mornings_108 : decode cX8_mornings 108 = .ok (.iload_n 1, 1) := dk_27 (dk_at dksX8_mornings_4 14 rfl rfl)
theorem dX8_mornings_109 : decode cX8_mornings 109 = .ok (.iadd, 1) := dk_96 (dk_at dksX8_mornings_4 15 rfl rfl)
theorem dX8_mornings_110 : decode cX8_mornings 110 = .ok (.invokestatic 352, 3) := dk_184 1 96 (dk_at dksX8_mornings_4 16 rfl rfl)
theorem dX8_mornings_113 : decode cX8_mornings 113 = .ok (.iastore, 1) := dk_79 (dk_at dksX8_mornings_4 19 rfl rfl)
theorem dX8_mornings_114 : decode cX8_mornings 114 = .ok (.iload_n 2, 1) := dk_28 (dk_at dksX8_mornings_4 20 rfl rfl)
theorem dX8_mornings_115 : decode cX8_mornings 115 = .ok (.ireturn, 1) := dk_172 (dk_at dksX8_mornings_4 21 rfl rfl)
abbrev cX8_straight : ByteArray := prog_18_method_81_code
def yX8_straight : MethodName := ⟨RX8, "straight", "(I)I"⟩
def dkwX8_straight_1 : List UInt8 := [182, 1, 111, 172]
abbrev dktX8_straight_1 : List UInt8 := dkwX8_straight_1 ++ []
def dkwX8_straight_0 : List UInt8 := [42, 3, 181, 0, 3, 42, 42, 27, 182, 1, 44, 4, 182, 1, 6, 153, 0, 7, 3, 167, 0, 8, 42, 27]
abbrev dktX8_straight_0 : List UInt8 := dkwX8_straight_0 ++ dktX8_straight_1
theorem dksX8_straight_0 : cX8_straight.data.toList.drop 0 = dktX8_straight_0 := by decide +kernel
theorem dksX8_straight_1 : cX8_straight.data.toList.drop 24 = dktX8_straight_1 := dk_seg dksX8_straight_0 24 rfl rfl
theorem dX8_straight_0 : decode cX8_straight 0 = .ok (.aload_n 0, 1) := dk_42 (dk_at dksX8_straight_0 0 rfl rfl)
theorem dX8_straight_1 : decode cX8_straight 1 = .ok (.iconst 0, 1) := dk_3 (dk_at dksX8_straight_0 1 rfl rfl)
theorem dX8_straight_2 : decode cX8_straight 2 = .ok (.putfield 3, 3) := dk_181 0 3 (dk_at dksX8_straight_0 2 rfl rfl)
theorem dX8_straight_5 : decode cX8_straight 5 = .ok (.aload_n 0, 1) := dk_42 (dk_at dksX8_straight_0 5 rfl rfl)
theorem dX8_straight_6 : decode cX8_straight 6 = .ok (.aload_n 0, 1) := dk_42 (dk_at dksX8_straight_0 6 rfl rfl)
theorem dX8_straight_7 : decode cX8_straight 7 = .ok (.iload_n 1, 1) := dk_27 (dk_at dksX8_straight_0 7 rfl rfl)
theorem dX8_straight_8 : decode cX8_straight 8 = .ok (.invokevirtual 300, 3) := dk_182 1 44 (dk_at dksX8_straight_0 8 rfl rfl)
theorem dX8_straight_11 : decode cX8_straight 11 = .ok (.iconst 1, 1) := dk_4 (dk_at dksX8_straight_0 11 rfl rfl)
theorem dX8_straight_12 : decode cX8_straight 12 = .ok (.invokevirtual 262, 3) := dk_182 1 6 (dk_at dksX8_straight_0 12 rfl rfl)
theorem dX8_straight_15 : decode cX8_straight 15 = .ok (.ifCond .eq 7, 3) := dk_153 0 7 (dk_at dksX8_straight_0 15 rfl rfl)
theorem dX8_straight_18 : decode cX8_straight 18 = .ok (.iconst 0, 1) := dk_3 (dk_at dksX8_straight_0 18 rfl rfl)
theorem dX8_straight_19 : decode cX8_straight 19 = .ok (.goto 8, 3) := dk_167 0 8 (dk_at dksX8_straight_0 19 rfl rfl)
theorem dX8_straight_22 : decode cX8_straight 22 = .ok (.aload_n 0, 1) := dk_42 (dk_at dksX8_straight_0 22 rfl rfl)
theorem dX8_straight_23 : decode cX8_straight 23 = .ok (.iload_n 1, 1) := dk_27 (dk_at dksX8_straight_0 23 rfl rfl)
theorem dX8_straight_24 : decode cX8_straight 24 = .ok (.invokevirtual 367, 3) := dk_182 1 111 (dk_at dksX8_straight_1 0 rfl rfl)
theorem dX8_straight_27 : decode cX8_straight 27 = .ok (.ireturn, 1) := dk_172 (dk_at dksX8_straight_1 3 rfl rfl)
abbrev cX8_ridesStraight : ByteArray := prog_18_method_70_code
def yX8_ridesStraight : MethodName := ⟨RX8, "ridesStraight", "(I)I"⟩
def dkwX8_ridesStraight_0 : List UInt8 := [42, 27, 182, 1, 47, 42, 3, 3, 182, 1, 92, 172]
abbrev dktX8_ridesStraight_0 : List UInt8 := dkwX8_ridesStraight_0 ++ []
theorem dksX8_ridesStraight_0 : cX8_ridesStraight.data.toList.drop 0 = dktX8_ridesStraight_0 := by decide +kernel
theorem dX8_ridesStraight_0 : decode cX8_ridesStraight 0 = .ok (.aload_n 0, 1) := dk_42 (dk_at dksX8_ridesStraight_0 0 rfl rfl)
theorem dX8_ridesStraight_1 : decode cX8_ridesStraight 1 = .ok (.iload_n 1, 1) := dk_27 (dk_at dksX8_ridesStraight_0 1 rfl rfl)
theorem dX8_ridesStraight_2 : decode cX8_ridesStraight 2 = .ok (.invokevirtual 303, 3) := dk_182 1 47 (dk_at dksX8_ridesStraight_0 2 rfl rfl)
theorem dX8_ridesStraight_5 : decode cX8_ridesStraight 5 = .ok (.aload_n 0, 1) := dk_42 (dk_at dksX8_ridesStraight_0 5 rfl rfl)
theorem dX8_ridesStraight_6 : decode cX8_ridesStraight 6 = .ok (.iconst 0, 1) := dk_3 (dk_at dksX8_ridesStraight_0 6 rfl rfl)
theorem dX8_ridesStraight_7 : decode cX8_ridesStraight 7 = .ok (.iconst 0, 1) := dk_3 (dk_at dksX8_ridesStraight_0 7 rfl rfl)
theorem dX8_ridesStraight_8 : decode cX8_ridesStraight 8 = .ok (.invokevirtual 348, 3) := dk_182 1 92 (dk_at dksX8_ridesStraight_0 8 rfl rfl)
theorem dX8_ridesStraight_11 : decode cX8_ridesStraight 11 = .ok (.ireturn, 1) := dk_172 (dk_at dksX8_ridesStraight_0 11 rfl rfl)
abbrev cX8_tense : ByteArray := prog_18_method_82_code
def yX8_tense : MethodName := ⟨RX8, "tense", "(II)I"⟩
def dkwX8_tense_2 : List UInt8 := [46, 172]
abbrev dktX8_tense_2 : List UInt8 := dkwX8_tense_2 ++ []
def dkwX8_tense_1 : List UInt8 := [167, 0, 4, 3, 4, 182, 1, 6, 153, 0, 5, 3, 172, 42, 27, 182, 1, 111, 87, 42, 180, 0, 42, 28]
abbrev dktX8_tense_1 : List UInt8 := dkwX8_tense_1 ++ dktX8_tense_2
def dkwX8_tense_0 : List UInt8 := [42, 3, 181, 0, 3, 42, 42, 27, 182, 1, 44, 154, 0, 10, 28, 184, 1, 41, 153, 0, 7, 4]
abbrev dktX8_tense_0 : List UInt8 := dkwX8_tense_0 ++ dktX8_tense_1
theorem dksX8_tense_0 : cX8_tense.data.toList.drop 0 = dktX8_tense_0 := by decide +kernel
theorem dksX8_tense_1 : cX8_tense.data.toList.drop 22 = dktX8_tense_1 := dk_seg dksX8_tense_0 22 rfl rfl
theorem dksX8_tense_2 : cX8_tense.data.toList.drop 46 = dktX8_tense_2 := dk_seg dksX8_tense_1 24 rfl rfl
theorem dX8_tense_0 : decode cX8_tense 0 = .ok (.aload_n 0, 1) := dk_42 (dk_at dksX8_tense_0 0 rfl rfl)
theorem dX8_tense_1 : decode cX8_tense 1 = .ok (.iconst 0, 1) := dk_3 (dk_at dksX8_tense_0 1 rfl rfl)
theorem dX8_tense_2 : decode cX8_tense 2 = .ok (.putfield 3, 3) := dk_181 0 3 (dk_at dksX8_tense_0 2 rfl rfl)
theorem dX8_tense_5 : decode cX8_tense 5 = .ok (.aload_n 0, 1) := dk_42 (dk_at dksX8_tense_0 5 rfl rfl)
theorem dX8_tense_6 : decode cX8_tense 6 = .ok (.aload_n 0, 1) := dk_42 (dk_at dksX8_tense_0 6 rfl rfl)
theorem dX8_tense_7 : decode cX8_tense 7 = .ok (.iload_n 1, 1) := dk_27 (dk_at dksX8_tense_0 7 rfl rfl)
theorem dX8_tense_8 : decode cX8_tense 8 = .ok (.invokevirtual 300, 3) := dk_182 1 44 (dk_at dksX8_tense_0 8 rfl rfl)
theorem dX8_tense_11 : decode cX8_tense 11 = .ok (.ifCond .ne 10, 3) := dk_154 0 10 (dk_at dksX8_tense_0 11 rfl rfl)
theorem dX8_tense_14 : decode cX8_tense 14 = .ok (.iload_n 2, 1) := dk_28 (dk_at dksX8_tense_0 14 rfl rfl)
theorem dX8_tense_15 : decode cX8_tense 15 = .ok (.invokestatic 297, 3) := dk_184 1 41 (dk_at dksX8_tense_0 15 rfl rfl)
theorem dX8_tense_18 : decode cX8_tense 18 = .ok (.ifCond .eq 7, 3) := dk_153 0 7 (dk_at dksX8_tense_0 18 rfl rfl)
theorem dX8_tense_21 : decode cX8_tense 21 = .ok (.iconst 1, 1) := dk_4 (dk_at dksX8_tense_0 21 rfl rfl)
theorem dX8_tense_22 : decode cX8_tense 22 = .ok (.goto 4, 3) := dk_167 0 4 (dk_at dksX8_tense_1 0 rfl rfl)
theorem dX8_tense_25 : decode cX8_tense 25 = .ok (.iconst 0, 1) := dk_3 (dk_at dksX8_tense_1 3 rfl rfl)
theorem dX8_tense_26 : decode cX8_tense 26 = .ok (.iconst 1, 1) := dk_4 (dk_at dksX8_tense_1 4 rfl rfl)
theorem dX8_tense_27 : decode cX8_tense 27 = .ok (.invokevirtual 262, 3) := dk_182 1 6 (dk_at dksX8_tense_1 5 rfl rfl)
theorem dX8_tense_30 : decode cX8_tense 30 = .ok (.ifCond .eq 5, 3) := dk_153 0 5 (dk_at dksX8_tense_1 8 rfl rfl)
theorem dX8_tense_33 : decode cX8_tense 33 = .ok (.iconst 0, 1) := dk_3 (dk_at dksX8_tense_1 11 rfl rfl)
theorem dX8_tense_34 : decode cX8_tense 34 = .ok (.ireturn, 1) := dk_172 (dk_at dksX8_tense_1 12 rfl rfl)
theorem dX8_tense_35 : decode cX8_tense 35 = .ok (.aload_n 0, 1) := dk_42 (dk_at dksX8_tense_1 13 rfl rfl)
theorem dX8_tense_36 : decode cX8_tense 36 = .ok (.iload_n 1, 1) := dk_27 (dk_at dksX8_tense_1 14 rfl rfl)
theorem dX8_tense_37 : decode cX8_tense 37 = .ok (.invokevirtual 367, 3) := dk_182 1 111 (dk_at dksX8_tense_1 15 rfl rfl)
theorem dX8_tense_40 : decode cX8_tense 40 = .ok (.pop, 1) := dk_87 (dk_at dksX8_tense_1 18 rfl rfl)
theorem dX8_tense_41 : decode cX8_tense 41 = .ok (.aload_n 0, 1) := dk_42 (dk_at dksX8_tense_1 19 rfl rfl)
theorem dX8_tense_42 : decode cX8_tense 42 = .ok (.getfield 42, 3) := dk_180 0 42 (dk_at dksX8_tense_1 20 rfl rfl)
theorem dX8_tense_45 : decode cX8_tense 45 = .ok (.iload_n 2, 1) := dk_28 (dk_at dksX8_tense_1 23 rfl rfl)
theorem dX8_tense_46 : decode cX8_tense 46 = .ok (.iaload, 1) := dk_46 (dk_at dksX8_tense_2 0 rfl rfl)
theorem dX8_tense_47 : decode cX8_tense 47 = .ok (.ireturn, 1) := dk_172 (dk_at dksX8_tense_2 1 rfl rfl)
abbrev cX8_corners : ByteArray := prog_18_method_83_code
def yX8_corners : MethodName := ⟨RX8, "corners", "(I)I"⟩
def dkwX8_corners_3 : List UInt8 := [161, 0, 9, 4, 29, 120, 167, 0, 4, 3, 128, 61, 132, 3, 1, 167, 255, 203, 28, 172]
abbrev dktX8_corners_3 : List UInt8 := dkwX8_corners_3 ++ []
def dkwX8_corners_2 : List UInt8 := [42, 180, 0, 42, 29, 46, 2, 159, 0, 24, 42, 180, 0, 42, 29, 46, 42, 180, 1, 12, 5, 108]
abbrev dktX8_corners_2 : List UInt8 := dkwX8_corners_2 ++ dktX8_corners_3
def dkwX8_corners_1 : List UInt8 := [182, 1, 111, 87, 3, 61, 3, 62, 29, 16, 10, 162, 0, 53, 28, 42, 29, 182, 0, 160, 2, 160, 0, 34]
abbrev dktX8_corners_1 : List UInt8 := dkwX8_corners_1 ++ dktX8_corners_2
def dkwX8_corners_0 : List UInt8 := [42, 3, 181, 0, 3, 42, 42, 27, 182, 1, 44, 4, 182, 1, 6, 153, 0, 5, 3, 172, 42, 27]
abbrev dktX8_corners_0 : List UInt8 := dkwX8_corners_0 ++ dktX8_corners_1
theorem dksX8_corners_0 : cX8_corners.data.toList.drop 0 = dktX8_corners_0 := by decide +kernel
theorem dksX8_corners_1 : cX8_corners.data.toList.drop 22 = dktX8_corners_1 := dk_seg dksX8_corners_0 22 rfl rfl
theorem dksX8_corners_2 : cX8_corners.data.toList.drop 46 = dktX8_corners_2 := dk_seg dksX8_corners_1 24 rfl rfl
theorem dksX8_corners_3 : cX8_corners.data.toList.drop 68 = dktX8_corners_3 := dk_seg dksX8_corners_2 22 rfl rfl
theorem dX8_corners_0 : decode cX8_corners 0 = .ok (.aload_n 0, 1) := dk_42 (dk_at dksX8_corners_0 0 rfl rfl)
theorem dX8_corners_1 : decode cX8_corners 1 = .ok (.iconst 0, 1) := dk_3 (dk_at dksX8_corners_0 1 rfl rfl)
theorem dX8_corners_2 : decode cX8_corners 2 = .ok (.putfield 3, 3) := dk_181 0 3 (dk_at dksX8_corners_0 2 rfl rfl)
theorem dX8_corners_5 : decode cX8_corners 5 = .ok (.aload_n 0, 1) := dk_42 (dk_at dksX8_corners_0 5 rfl rfl)
theorem dX8_corners_6 : decode cX8_corners 6 = .ok (.aload_n 0, 1) := dk_42 (dk_at dksX8_corners_0 6 rfl rfl)
theorem dX8_corners_7 : decode cX8_corners 7 = .ok (.iload_n 1, 1) := dk_27 (dk_at dksX8_corners_0 7 rfl rfl)
theorem dX8_corners_8 : decode cX8_corners 8 = .ok (.invokevirtual 300, 3) := dk_182 1 44 (dk_at dksX8_corners_0 8 rfl rfl)
theorem dX8_corners_11 : decode cX8_corners 11 = .ok (.iconst 1, 1) := dk_4 (dk_at dksX8_corners_0 11 rfl rfl)
theorem dX8_corners_12 : decode cX8_corners 12 = .ok (.invokevirtual 262, 3) := dk_182 1 6 (dk_at dksX8_corners_0 12 rfl rfl)
theorem dX8_corners_15 : decode cX8_corners 15 = .ok (.ifCond .eq 5, 3) := dk_153 0 5 (dk_at dksX8_corners_0 15 rfl rfl)
theorem dX8_corners_18 : decode cX8_corners 18 = .ok (.iconst 0, 1) := dk_3 (dk_at dksX8_corners_0 18 rfl rfl)
theorem dX8_corners_19 : decode cX8_corners 19 = .ok (.ireturn, 1) := dk_172 (dk_at dksX8_corners_0 19 rfl rfl)
theorem dX8_corners_20 : decode cX8_corners 20 = .ok (.aload_n 0, 1) := dk_42 (dk_at dksX8_corners_0 20 rfl rfl)
theorem dX8_corners_21 : decode cX8_corners 21 = .ok (.iload_n 1, 1) := dk_27 (dk_at dksX8_corners_0 21 rfl rfl)
theorem dX8_corners_22 : decode cX8_corners 22 = .ok (.invokevirtual 367, 3) := dk_182 1 111 (dk_at dksX8_corners_1 0 rfl rfl)
theorem dX8_corners_25 : decode cX8_corners 25 = .ok (.pop, 1) := dk_87 (dk_at dksX8_corners_1 3 rfl rfl)
theorem dX8_corners_26 : decode cX8_corners 26 = .ok (.iconst 0, 1) := dk_3 (dk_at dksX8_corners_1 4 rfl rfl)
theorem dX8_corners_27 : decode cX8_corners 27 = .ok (.istore_n 2, 1) := dk_61 (dk_at dksX8_corners_1 5 rfl rfl)
theorem dX8_corners_28 : decode cX8_corners 28 = .ok (.iconst 0, 1) := dk_3 (dk_at dksX8_corners_1 6 rfl rfl)
theorem dX8_corners_29 : decode cX8_corners 29 = .ok (.istore_n 3, 1) := dk_62 (dk_at dksX8_corners_1 7 rfl rfl)
theorem dX8_corners_30 : decode cX8_corners 30 = .ok (.iload_n 3, 1) := dk_29 (dk_at dksX8_corners_1 8 rfl rfl)
theorem dX8_corners_31 : decode cX8_corners 31 = .ok (.bipush 10, 2) := dk_16 10 (dk_at dksX8_corners_1 9 rfl rfl)
theorem dX8_corners_33 : decode cX8_corners 33 = .ok (.if_icmp .ge 53, 3) := dk_162 0 53 (dk_at dksX8_corners_1 11 rfl rfl)
theorem dX8_corners_36 : decode cX8_corners 36 = .ok (.iload_n 2, 1) := dk_28 (dk_at dksX8_corners_1 14 rfl rfl)
theorem dX8_corners_37 : decode cX8_corners 37 = .ok (.aload_n 0, 1) := dk_42 (dk_at dksX8_corners_1 15 rfl rfl)
theorem dX8_corners_38 : decode cX8_corners 38 = .ok (.iload_n 3, 1) := dk_29 (dk_at dksX8_corners_1 16 rfl rfl)
theorem dX8_corners_39 : decode cX8_corners 39 = .ok (.invokevirtual 160, 3) := dk_182 0 160 (dk_at dksX8_corners_1 17 rfl rfl)
theorem dX8_corners_42 : decode cX8_corners 42 = .ok (.iconst (-1), 1) := dk_2 (dk_at dksX8_corners_1 20 rfl rfl)
theorem dX8_corners_43 : decode cX8_corners 43 = .ok (.if_icmp .ne 34, 3) := dk_160 0 34 (dk_at dksX8_corners_1 21 rfl rfl)
theorem dX8_corners_46 : decode cX8_corners 46 = .ok (.aload_n 0, 1) := dk_42 (dk_at dksX8_corners_2 0 rfl rfl)
theorem dX8_corners_47 : decode cX8_corners 47 = .ok (.getfield 42, 3) := dk_180 0 42 (dk_at dksX8_corners_2 1 rfl rfl)
theorem dX8_corners_50 : decode cX8_corners 50 = .ok (.iload_n 3, 1) := dk_29 (dk_at dksX8_corners_2 4 rfl rfl)
theorem dX8_corners_51 : decode cX8_corners 51 = .ok (.iaload, 1) := dk_46 (dk_at dksX8_corners_2 5 rfl rfl)
theorem dX8_corners_52 : decode cX8_corners 52 = .ok (.iconst (-1), 1) := dk_2 (dk_at dksX8_corners_2 6 rfl rfl)
theorem dX8_corners_53 : decode cX8_corners 53 = .ok (.if_icmp .eq 24, 3) := dk_159 0 24 (dk_at dksX8_corners_2 7 rfl rfl)
theorem dX8_corners_56 : decode cX8_corners 56 = .ok (.aload_n 0, 1) := dk_42 (dk_at dksX8_corners_2 10 rfl rfl)
theorem dX8_corners_57 : decode cX8_corners 57 = .ok (.getfield 42, 3) := dk_180 0 42 (dk_at dksX8_corners_2 11 rfl rfl)
theorem dX8_corners_60 : decode cX8_corners 60 = .ok (.iload_n 3, 1) := dk_29 (dk_at dksX8_corners_2 14 rfl rfl)
theorem dX8_corners_61 : decode cX8_corners 61 = .ok (.iaload, 1) := dk_46 (dk_at dksX8_corners_2 15 rfl rfl)
theorem dX8_corners_62 : decode cX8_corners 62 = .ok (.aload_n 0, 1) := dk_42 (dk_at dksX8_corners_2 16 rfl rfl)
theorem dX8_corners_63 : decode cX8_corners 63 = .ok (.getfield 268, 3) := dk_180 1 12 (dk_at dksX8_corners_2 17 rfl rfl)
theorem dX8_corners_66 : decode cX8_corners 66 = .ok (.iconst 2, 1) := dk_5 (dk_at dksX8_corners_2 20 rfl rfl)
theorem dX8_corners_67 : decode cX8_corners 67 = .ok (.idiv, 1) := dk_108 (dk_at dksX8_corners_2 21 rfl rfl)
theorem dX8_corners_68 : decode cX8_corners 68 = .ok (.if_icmp .lt 9, 3) := dk_161 0 9 (dk_at dksX8_corners_3 0 rfl rfl)
theorem dX8_corners_71 : decode cX8_corners 71 = .ok (.iconst 1, 1) := dk_4 (dk_at dksX8_corners_3 3 rfl rfl)
theorem dX8_corners_72 : decode cX8_corners 72 = .ok (.iload_n 3, 1) := dk_29 (dk_at dksX8_corners_3 4 rfl rfl)
theorem dX8_corners_73 : decode cX8_corners 73 = .ok (.ishl, 1) := dk_120 (dk_at dksX8_corners_3 5 rfl rfl)
theorem dX8_corners_74 : decode cX8_corners 74 = .ok (.goto 4, 3) := dk_167 0 4 (dk_at dksX8_corners_3 6 rfl rfl)
theorem dX8_corners_77 : decode cX8_corners 77 = .ok (.iconst 0, 1) := dk_3 (dk_at dksX8_corners_3 9 rfl rfl)
theorem dX8_corners_78 : decode cX8_corners 78 = .ok (.ior, 1) := dk_128 (dk_at dksX8_corners_3 10 rfl rfl)
theorem dX8_corners_79 : decode cX8_corners 79 = .ok (.istore_n 2, 1) := dk_61 (dk_at dksX8_corners_3 11 rfl rfl)
theorem dX8_corners_80 : decode cX8_corners 80 = .ok (.iinc 3 1, 3) := dk_132 3 1 (dk_at dksX8_corners_3 12 rfl rfl)
theorem dX8_corners_83 : decode cX8_corners 83 = .ok (.goto (-53), 3) := dk_167 255 203 (dk_at dksX8_corners_3 15 rfl rfl)
theorem dX8_corners_86 : decode cX8_corners 86 = .ok (.iload_n 2, 1) := dk_28 (dk_at dksX8_corners_3 18 rfl rfl)
theorem dX8_corners_87 : decode cX8_corners 87 = .ok (.ireturn, 1) := dk_172 (dk_at dksX8_corners_3 19 rfl rfl)
abbrev cX8_share : ByteArray := prog_18_method_84_code
def yX8_share : MethodName := ⟨RX8, "share", "(II)I"⟩
def dkwX8_share_4 : List UInt8 := [182, 0, 74, 46, 104, 29, 108, 172]
abbrev dktX8_share_4 : List UInt8 := dkwX8_share_4 ++ []
def dkwX8_share_3 : List UInt8 := [153, 0, 11, 42, 27, 182, 0, 94, 154, 0, 7, 3, 167, 0, 19, 16, 100, 42, 180, 0, 45, 42, 27, 6]
abbrev dktX8_share_3 : List UInt8 := dkwX8_share_3 ++ dktX8_share_4
def dkwX8_share_2 : List UInt8 := [21, 4, 16, 10, 162, 0, 19, 29, 42, 180, 0, 45, 21, 4, 46, 96, 62, 132, 4, 1, 167, 255, 236, 29]
abbrev dktX8_share_2 : List UInt8 := dkwX8_share_2 ++ dktX8_share_3
def dkwX8_share_1 : List UInt8 := [167, 0, 4, 3, 4, 182, 1, 6, 153, 0, 5, 3, 172, 42, 28, 182, 1, 111, 87, 3, 62, 3, 54, 4]
abbrev dktX8_share_1 : List UInt8 := dkwX8_share_1 ++ dktX8_share_2
def dkwX8_share_0 : List UInt8 := [42, 3, 181, 0, 3, 42, 42, 27, 182, 1, 38, 154, 0, 11, 42, 28, 182, 1, 44, 153, 0, 7, 4]
abbrev dktX8_share_0 : List UInt8 := dkwX8_share_0 ++ dktX8_share_1
theorem dksX8_share_0 : cX8_share.data.toList.drop 0 = dktX8_share_0 := by decide +kernel
theorem dksX8_share_1 : cX8_share.data.toList.drop 23 = dktX8_share_1 := dk_seg dksX8_share_0 23 rfl rfl
theorem dksX8_share_2 : cX8_share.data.toList.drop 47 = dktX8_share_2 := dk_seg dksX8_share_1 24 rfl rfl
theorem dksX8_share_3 : cX8_share.data.toList.drop 71 = dktX8_share_3 := dk_seg dksX8_share_2 24 rfl rfl
theorem dksX8_share_4 : cX8_share.data.toList.drop 95 = dktX8_share_4 := dk_seg dksX8_share_3 24 rfl rfl
theorem dX8_share_0 : decode cX8_share 0 = .ok (.aload_n 0, 1) := dk_42 (dk_at dksX8_share_0 0 rfl rfl)
theorem dX8_share_1 : decode cX8_share 1 = .ok (.iconst 0, 1) := dk_3 (dk_at dksX8_share_0 1 rfl rfl)
theorem dX8_share_2 : decode cX8_share 2 = .ok (.putfield 3, 3) := dk_181 0 3 (dk_at dksX8_share_0 2 rfl rfl)
theorem dX8_share_5 : decode cX8_share 5 = .ok (.aload_n 0, 1) := dk_42 (dk_at dksX8_share_0 5 rfl rfl)
theorem dX8_share_6 : decode cX8_share 6 = .ok (.aload_n 0, 1) := dk_42 (dk_at dksX8_share_0 6 rfl rfl)
theorem dX8_share_7 : decode cX8_share 7 = .ok (.iload_n 1, 1) := dk_27 (dk_at dksX8_share_0 7 rfl rfl)
theorem dX8_share_8 : decode cX8_share 8 = .ok (.invokevirtual 294, 3) := dk_182 1 38 (dk_at dksX8_share_0 8 rfl rfl)
theorem dX8_share_11 : decode cX8_share 11 = .ok (.ifCond .ne 11, 3) := dk_154 0 11 (dk_at dksX8_share_0 11 rfl rfl)
theorem dX8_share_14 : decode cX8_share 14 = .ok (.aload_n 0, 1) := dk_42 (dk_at dksX8_share_0 14 rfl rfl)
theorem dX8_share_15 : decode cX8_share 15 = .ok (.iload_n 2, 1) := dk_28 (dk_at dksX8_share_0 15 rfl rfl)
theorem dX8_share_16 : decode cX8_share 16 = .ok (.invokevirtual 300, 3) := dk_182 1 44 (dk_at dksX8_share_0 16 rfl rfl)
theorem dX8_share_19 : decode cX8_share 19 = .ok (.ifCond .eq 7, 3) := dk_153 0 7 (dk_at dksX8_share_0 19 rfl rfl)
theorem dX8_share_22 : decode cX8_share 22 = .ok (.iconst 1, 1) := dk_4 (dk_at dksX8_share_0 22 rfl rfl)
theorem dX8_share_23 : decode cX8_share 23 = .ok (.goto 4, 3) := dk_167 0 4 (dk_at dksX8_share_1 0 rfl rfl)
theorem dX8_share_26 : decode cX8_share 26 = .ok (.iconst 0, 1) := dk_3 (dk_at dksX8_share_1 3 rfl rfl)
theorem dX8_share_27 : decode cX8_share 27 = .ok (.iconst 1, 1) := dk_4 (dk_at dksX8_share_1 4 rfl rfl)
theorem dX8_share_28 : decode cX8_share 28 = .ok (.invokevirtual 262, 3) := dk_182 1 6 (dk_at dksX8_share_1 5 rfl rfl)
theorem dX8_share_31 : decode cX8_share 31 = .ok (.ifCond .eq 5, 3) := dk_153 0 5 (dk_at dksX8_share_1 8 rfl rfl)
theorem dX8_share_34 : decode cX8_share 34 = .ok (.iconst 0, 1) := dk_3 (dk_at dksX8_share_1 11 rfl rfl)
theorem dX8_share_35 : decode cX8_share 35 = .ok (.ireturn, 1) := dk_172 (dk_at dksX8_share_1 12 rfl rfl)
theorem dX8_share_36 : decode cX8_share 36 = .ok (.aload_n 0, 1) := dk_42 (dk_at dksX8_share_1 13 rfl rfl)
theorem dX8_share_37 : decode cX8_share 37 = .ok (.iload_n 2, 1) := dk_28 (dk_at dksX8_share_1 14 rfl rfl)
theorem dX8_share_38 : decode cX8_share 38 = .ok (.invokevirtual 367, 3) := dk_182 1 111 (dk_at dksX8_share_1 15 rfl rfl)
theorem dX8_share_41 : decode cX8_share 41 = .ok (.pop, 1) := dk_87 (dk_at dksX8_share_1 18 rfl rfl)
theorem dX8_share_42 : decode cX8_share 42 = .ok (.iconst 0, 1) := dk_3 (dk_at dksX8_share_1 19 rfl rfl)
theorem dX8_share_43 : decode cX8_share 43 = .ok (.istore_n 3, 1) := dk_62 (dk_at dksX8_share_1 20 rfl rfl)
theorem dX8_share_44 : decode cX8_share 44 = .ok (.iconst 0, 1) := dk_3 (dk_at dksX8_share_1 21 rfl rfl)
theorem dX8_share_45 : decode cX8_share 45 = .ok (.istore 4, 2) := dk_54 4 (dk_at dksX8_share_1 22 rfl rfl)
theorem dX8_share_47 : decode cX8_share 47 = .ok (.iload 4, 2) := dk_21 4 (dk_at dksX8_share_2 0 rfl rfl)
theorem dX8_share_49 : decode cX8_share 49 = .ok (.bipush 10, 2) := dk_16 10 (dk_at dksX8_share_2 2 rfl rfl)
theorem dX8_share_51 : decode cX8_share 51 = .ok (.if_icmp .ge 19, 3) := dk_162 0 19 (dk_at dksX8_share_2 4 rfl rfl)
theorem dX8_share_54 : decode cX8_share 54 = .ok (.iload_n 3, 1) := dk_29 (dk_at dksX8_share_2 7 rfl rfl)
theorem dX8_share_55 : decode cX8_share 55 = .ok (.aload_n 0, 1) := dk_42 (dk_at dksX8_share_2 8 rfl rfl)
theorem dX8_share_56 : decode cX8_share 56 = .ok (.getfield 45, 3) := dk_180 0 45 (dk_at dksX8_share_2 9 rfl rfl)
theorem dX8_share_59 : decode cX8_share 59 = .ok (.iload 4, 2) := dk_21 4 (dk_at dksX8_share_2 12 rfl rfl)
theorem dX8_share_61 : decode cX8_share 61 = .ok (.iaload, 1) := dk_46 (dk_at dksX8_share_2 14 rfl rfl)
theorem dX8_share_62 : decode cX8_share 62 = .ok (.iadd, 1) := dk_96 (dk_at dksX8_share_2 15 rfl rfl)
theorem dX8_share_63 : decode cX8_share 63 = .ok (.istore_n 3, 1) := dk_62 (dk_at dksX8_share_2 16 rfl rfl)
theorem dX8_share_64 : decode cX8_share 64 = .ok (.iinc 4 1, 3) := dk_132 4 1 (dk_at dksX8_share_2 17 rfl rfl)
theorem dX8_share_67 : decode cX8_share 67 = .ok (.goto (-20), 3) := dk_167 255 236 (dk_at dksX8_share_2 20 rfl rfl)
theorem dX8_share_70 : decode cX8_share 70 = .ok (.iload_n 3, 1) := dk_29 (dk_at dksX8_share_2 23 rfl rfl)
theorem dX8_share_71 : decode cX8_share 71 = .ok (.ifCond .eq 11, 3) := dk_153 0 11 (dk_at dksX8_share_3 0 rfl rfl)
theorem dX8_share_74 : decode cX8_share 74 = .ok (.aload_n 0, 1) := dk_42 (dk_at dksX8_share_3 3 rfl rfl)
theorem dX8_share_75 : decode cX8_share 75 = .ok (.iload_n 1, 1) := dk_27 (dk_at dksX8_share_3 4 rfl rfl)
theorem dX8_share_76 : decode cX8_share 76 = .ok (.invokevirtual 94, 3) := dk_182 0 94 (dk_at dksX8_share_3 5 rfl rfl)
theorem dX8_share_79 : decode cX8_share 79 = .ok (.ifCond .ne 7, 3) := dk_154 0 7 (dk_at dksX8_share_3 8 rfl rfl)
theorem dX8_share_82 : decode cX8_share 82 = .ok (.iconst 0, 1) := dk_3 (dk_at dksX8_share_3 11 rfl rfl)
theorem dX8_share_83 : decode cX8_share 83 = .ok (.goto 19, 3) := dk_167 0 19 (dk_at dksX8_share_3 12 rfl rfl)
theorem dX8_share_86 : decode cX8_share 86 = .ok (.bipush 100, 2) := dk_16 100 (dk_at dksX8_share_3 15 rfl rfl)
theorem dX8_share_88 : decode cX8_share 88 = .ok (.aload_n 0, 1) := dk_42 (dk_at dksX8_share_3 17 rfl rfl)
theorem dX8_share_89 : decode cX8_share 89 = .ok (.getfield 45, 3) := dk_180 0 45 (dk_at dksX8_share_3 18 rfl rfl)
theorem dX8_share_92 : decode cX8_share 92 = .ok (.aload_n 0, 1) := dk_42 (dk_at dksX8_share_3 21 rfl rfl)
theorem dX8_share_93 : decode cX8_share 93 = .ok (.iload_n 1, 1) := dk_27 (dk_at dksX8_share_3 22 rfl rfl)
theorem dX8_share_94 : decode cX8_share 94 = .ok (.iconst 3, 1) := dk_6 (dk_at dksX8_share_3 23 rfl rfl)
theorem dX8_share_95 : decode cX8_share 95 = .ok (.invokevirtual 74, 3) := dk_182 0 74 (dk_at dksX8_share_4 0 rfl rfl)
theorem dX8_share_98 : decode cX8_share 98 = .ok (.iaload, 1) := dk_46 (dk_at dksX8_share_4 3 rfl rfl)
theorem dX8_share_99 : decode cX8_share 99 = .ok (.imul, 1) := dk_104 (dk_at dksX8_share_4 4 rfl rfl)
theorem dX8_share_100 : decode cX8_share 100 = .ok (.iload_n 3, 1) := dk_29 (dk_at dksX8_share_4 5 rfl rfl)
theorem dX8_share_101 : decode cX8_share 101 = .ok (.idiv, 1) := dk_108 (dk_at dksX8_share_4 6 rfl rfl)
theorem dX8_share_102 : decode cX8_share 102 = .ok (.ireturn, 1) := dk_172 (dk_at dksX8_share_4 7 rfl rfl)
abbrev cX8_all : ByteArray := prog_18_method_88_code
def yX8_all : MethodName := ⟨RX8, "all", "(Z)I"⟩
def dkwX8_all_0 : List UInt8 := [42, 3, 181, 0, 3, 42, 27, 182, 1, 120, 172]
abbrev dktX8_all_0 : List UInt8 := dkwX8_all_0 ++ []
theorem dksX8_all_0 : cX8_all.data.toList.drop 0 = dktX8_all_0 := by decide +kernel
theorem dX8_all_0 : decode cX8_all 0 = .ok (.aload_n 0, 1) := dk_42 (dk_at dksX8_all_0 0 rfl rfl)
theorem dX8_all_1 : decode cX8_all 1 = .ok (.iconst 0, 1) := dk_3 (dk_at dksX8_all_0 1 rfl rfl)
theorem dX8_all_2 : decode cX8_all 2 = .ok (.putfield 3, 3) := dk_181 0 3 (dk_at dksX8_all_0 2 rfl rfl)
theorem dX8_all_5 : decode cX8_all 5 = .ok (.aload_n 0, 1) := dk_42 (dk_at dksX8_all_0 5 rfl rfl)
theorem dX8_all_6 : decode cX8_all 6 = .ok (.iload_n 1, 1) := dk_27 (dk_at dksX8_all_0 6 rfl rfl)
theorem dX8_all_7 : decode cX8_all 7 = .ok (.invokevirtual 376, 3) := dk_182 1 120 (dk_at dksX8_all_0 7 rfl rfl)
theorem dX8_all_10 : decode cX8_all 10 = .ok (.ireturn, 1) := dk_172 (dk_at dksX8_all_0 10 rfl rfl)
abbrev cX8_screamers : ByteArray := prog_18_method_87_code
def yX8_screamers : MethodName := ⟨RX8, "screamers", "(Z)I"⟩
def dkwX8_screamers_2 : List UInt8 := [153, 0, 8, 42, 29, 182, 1, 105, 132, 3, 1, 167, 255, 206, 42, 182, 1, 117, 28, 172]
abbrev dktX8_screamers_2 : List UInt8 := dkwX8_screamers_2 ++ []
def dkwX8_screamers_1 : List UInt8 := [167, 0, 31, 28, 42, 29, 182, 1, 111, 2, 159, 0, 9, 4, 29, 120, 167, 0, 4, 3, 128, 61, 27]
abbrev dktX8_screamers_1 : List UInt8 := dkwX8_screamers_1 ++ dktX8_screamers_2
def dkwX8_screamers_0 : List UInt8 := [3, 61, 42, 182, 1, 114, 3, 62, 29, 42, 182, 0, 91, 162, 0, 48, 42, 29, 182, 1, 99, 154, 0, 6]
abbrev dktX8_screamers_0 : List UInt8 := dkwX8_screamers_0 ++ dktX8_screamers_1
theorem dksX8_screamers_0 : cX8_screamers.data.toList.drop 0 = dktX8_screamers_0 := by decide +kernel
theorem dksX8_screamers_1 : cX8_screamers.data.toList.drop 24 = dktX8_screamers_1 := dk_seg dksX8_screamers_0 24 rfl rfl
theorem dksX8_screamers_2 : cX8_screamers.data.toList.drop 47 = dktX8_screamers_2 := dk_seg dksX8_screamers_1 23 rfl rfl
theorem dX8_screamers_0 : decode cX8_screamers 0 = .ok (.iconst 0, 1) := dk_3 (dk_at dksX8_screamers_0 0 rfl rfl)
theorem dX8_screamers_1 : decode cX8_screamers 1 = .ok (.istore_n 2, 1) := dk_61 (dk_at dksX8_screamers_0 1 rfl rfl)
theorem dX8_screamers_2 : decode cX8_screamers 2 = .ok (.aload_n 0, 1) := dk_42 (dk_at dksX8_screamers_0 2 rfl rfl)
theorem dX8_screamers_3 : decode cX8_screamers 3 = .ok (.invokevirtual 370, 3) := dk_182 1 114 (dk_at dksX8_screamers_0 3 rfl rfl)
theorem dX8_screamers_6 : decode cX8_screamers 6 = .ok (.iconst 0, 1) := dk_3 (dk_at dksX8_screamers_0 6 rfl rfl)
theorem dX8_screamers_7 : decode cX8_screamers 7 = .ok (.istore_n 3, 1) := dk_62 (dk_at dksX8_screamers_0 7 rfl rfl)
theorem dX8_screamers_8 : decode cX8_screamers 8 = .ok (.iload_n 3, 1) := dk_29 (dk_at dksX8_screamers_0 8 rfl rfl)
theorem dX8_screamers_9 : decode cX8_screamers 9 = .ok (.aload_n 0, 1) := dk_42 (dk_at dksX8_screamers_0 9 rfl rfl)
theorem dX8_screamers_10 : decode cX8_screamers 10 = .ok (.invokevirtual 91, 3) := dk_182 0 91 (dk_at dksX8_screamers_0 10 rfl rfl)
theorem dX8_screamers_13 : decode cX8_screamers 13 = .ok (.if_icmp .ge 48, 3) := dk_162 0 48 (dk_at dksX8_screamers_0 13 rfl rfl)
theorem dX8_screamers_16 : decode cX8_screamers 16 = .ok (.aload_n 0, 1) := dk_42 (dk_at dksX8_screamers_0 16 rfl rfl)
theorem dX8_screamers_17 : decode cX8_screamers 17 = .ok (.iload_n 3, 1) := dk_29 (dk_at dksX8_screamers_0 17 rfl rfl)
theorem dX8_screamers_18 : decode cX8_screamers 18 = .ok (.invokevirtual 355, 3) := dk_182 1 99 (dk_at dksX8_screamers_0 18 rfl rfl)
theorem dX8_screamers_21 : decode cX8_screamers 21 = .ok (.ifCond .ne 6, 3) := dk_154 0 6 (dk_at dksX8_screamers_0 21 rfl rfl)
theorem dX8_screamers_24 : decode cX8_screamers 24 = .ok (.goto 31, 3) := dk_167 0 31 (dk_at dksX8_screamers_1 0 rfl rfl)
theorem dX8_screamers_27 : decode cX8_screamers 27 = .ok (.iload_n 2, 1) := dk_28 (dk_at dksX8_screamers_1 3 rfl rfl)
theorem dX8_screamers_28 : decode cX8_screamers 28 = .ok (.aload_n 0, 1) := dk_42 (dk_at dksX8_screamers_1 4 rfl rfl)
theorem dX8_screamers_29 : decode cX8_screamers 29 = .ok (.iload_n 3, 1) := dk_29 (dk_at dksX8_screamers_1 5 rfl rfl)
theorem dX8_screamers_30 : decode cX8_screamers 30 = .ok (.invokevirtual 367, 3) := dk_182 1 111 (dk_at dksX8_screamers_1 6 rfl rfl)
theorem dX8_screamers_33 : decode cX8_screamers 33 = .ok (.iconst (-1), 1) := dk_2 (dk_at dksX8_screamers_1 9 rfl rfl)
theorem dX8_screamers_34 : decode cX8_screamers 34 = .ok (.if_icmp .eq 9, 3) := dk_159 0 9 (dk_at dksX8_screamers_1 10 rfl rfl)
theorem dX8_screamers_37 : decode cX8_screamers 37 = .ok (.iconst 1, 1) := dk_4 (dk_at dksX8_screamers_1 13 rfl rfl)
theorem dX8_screamers_38 : decode cX8_screamers 38 = .ok (.iload_n 3, 1) := dk_29 (dk_at dksX8_screamers_1 14 rfl rfl)
theorem dX8_screamers_39 : decode cX8_screamers 39 = .ok (.ishl, 1) := dk_120 (dk_at dksX8_screamers_1 15 rfl rfl)
theorem dX8_screamers_40 : decode cX8_screamers 40 = .ok (.goto 4, 3) := dk_167 0 4 (dk_at dksX8_screamers_1 16 rfl rfl)
theorem dX8_screamers_43 : decode cX8_screamers 43 = .ok (.iconst 0, 1) := dk_3 (dk_at dksX8_screamers_1 19 rfl rfl)
theorem dX8_screamers_44 : decode cX8_screamers 44 = .ok (.ior, 1) := dk_128 (dk_at dksX8_screamers_1 20 rfl rfl)
theorem dX8_screamers_45 : decode cX8_screamers 45 = .ok (.istore_n 2, 1) := dk_61 (dk_at dksX8_screamers_1 21 rfl rfl)
theorem dX8_screamers_46 : decode cX8_screamers 46 = .ok (.iload_n 1, 1) := dk_27 (dk_at dksX8_screamers_1 22 rfl rfl)
theorem dX8_screamers_47 : decode cX8_screamers 47 = .ok (.ifCond .eq 8, 3) := dk_153 0 8 (dk_at dksX8_screamers_2 0 rfl rfl)
theorem dX8_screamers_50 : decode cX8_screamers 50 = .ok (.aload_n 0, 1) := dk_42 (dk_at dksX8_screamers_2 3 rfl rfl)
theorem dX8_screamers_51 : decode cX8_screamers 51 = .ok (.iload_n 3, 1) := dk_29 (dk_at dksX8_screamers_2 4 rfl rfl)
theorem dX8_screamers_52 : decode cX8_screamers 52 = .ok (.invokevirtual 361, 3) := dk_182 1 105 (dk_at dksX8_screamers_2 5 rfl rfl)
theorem dX8_screamers_55 : decode cX8_screamers 55 = .ok (.iinc 3 1, 3) := dk_132 3 1 (dk_at dksX8_screamers_2 8 rfl rfl)
theorem dX8_screamers_58 : decode cX8_screamers 58 = .ok (.goto (-50), 3) := dk_167 255 206 (dk_at dksX8_screamers_2 11 rfl rfl)
theorem dX8_screamers_61 : decode cX8_screamers 61 = .ok (.aload_n 0, 1) := dk_42 (dk_at dksX8_screamers_2 14 rfl rfl)
theorem dX8_screamers_62 : decode cX8_screamers 62 = .ok (.invokevirtual 373, 3) := dk_182 1 117 (dk_at dksX8_screamers_2 15 rfl rfl)
theorem dX8_screamers_65 : decode cX8_screamers 65 = .ok (.iload_n 2, 1) := dk_28 (dk_at dksX8_screamers_2 18 rfl rfl)
theorem dX8_screamers_66 : decode cX8_screamers 66 = .ok (.ireturn, 1) := dk_172 (dk_at dksX8_screamers_2 19 rfl rfl)
abbrev cX8_keepsAll : ByteArray := prog_18_method_85_code
def yX8_keepsAll : MethodName := ⟨RX8, "keepsAll", "()V"⟩
def dkwX8_keepsAll_1 : List UInt8 := [167, 255, 234, 177]
abbrev dktX8_keepsAll_1 : List UInt8 := dkwX8_keepsAll_1 ++ []
def dkwX8_keepsAll_0 : List UInt8 := [3, 60, 27, 17, 1, 49, 162, 0, 21, 42, 180, 0, 23, 27, 42, 180, 0, 13, 27, 46, 79, 132, 1, 1]
abbrev dktX8_keepsAll_0 : List UInt8 := dkwX8_keepsAll_0 ++ dktX8_keepsAll_1
theorem dksX8_keepsAll_0 : cX8_keepsAll.data.toList.drop 0 = dktX8_keepsAll_0 := by decide +kernel
theorem dksX8_keepsAll_1 : cX8_keepsAll.data.toList.drop 24 = dktX8_keepsAll_1 := dk_seg dksX8_keepsAll_0 24 rfl rfl
theorem dX8_keepsAll_0 : decode cX8_keepsAll 0 = .ok (.iconst 0, 1) := dk_3 (dk_at dksX8_keepsAll_0 0 rfl rfl)
theorem dX8_keepsAll_1 : decode cX8_keepsAll 1 = .ok (.istore_n 1, 1) := dk_60 (dk_at dksX8_keepsAll_0 1 rfl rfl)
theorem dX8_keepsAll_2 : decode cX8_keepsAll 2 = .ok (.iload_n 1, 1) := dk_27 (dk_at dksX8_keepsAll_0 2 rfl rfl)
theorem dX8_keepsAll_3 : decode cX8_keepsAll 3 = .ok (.sipush 305, 3) := dk_17 1 49 (dk_at dksX8_keepsAll_0 3 rfl rfl)
theorem dX8_keepsAll_6 : decode cX8_keepsAll 6 = .ok (.if_icmp .ge 21, 3) := dk_162 0 21 (dk_at dksX8_keepsAll_0 6 rfl rfl)
theorem dX8_keepsAll_9 : decode cX8_keepsAll 9 = .ok (.aload_n 0, 1) := dk_42 (dk_at dksX8_keepsAll_0 9 rfl rfl)
theorem dX8_keepsAll_10 : decode cX8_keepsAll 10 = .ok (.getfield 23, 3) := dk_180 0 23 (dk_at dksX8_keepsAll_0 10 rfl rfl)
theorem dX8_keepsAll_13 : decode cX8_keepsAll 13 = .ok (.iload_n 1, 1) := dk_27 (dk_at dksX8_keepsAll_0 13 rfl rfl)
theorem dX8_keepsAll_14 : decode cX8_keepsAll 14 = .ok (.aload_n 0, 1) := dk_42 (dk_at dksX8_keepsAll_0 14 rfl rfl)
theorem dX8_keepsAll_15 : decode cX8_keepsAll 15 = .ok (.getfield 13, 3) := dk_180 0 13 (dk_at dksX8_keepsAll_0 15 rfl rfl)
theorem dX8_keepsAll_18 : decode cX8_keepsAll 18 = .ok (.iload_n 1, 1) := dk_27 (dk_at dksX8_keepsAll_0 18 rfl rfl)
theorem dX8_keepsAll_19 : decode cX8_keepsAll 19 = .ok (.iaload, 1) := dk_46 (dk_at dksX8_keepsAll_0 19 rfl rfl)
theorem dX8_keepsAll_20 : decode cX8_keepsAll 20 = .ok (.iastore, 1) := dk_79 (dk_at dksX8_keepsAll_0 20 rfl rfl)
theorem dX8_keepsAll_21 : decode cX8_keepsAll 21 = .ok (.iinc 1 1, 3) := dk_132 1 1 (dk_at dksX8_keepsAll_0 21 rfl rfl)
theorem dX8_keepsAll_24 : decode cX8_keepsAll 24 = .ok (.goto (-22), 3) := dk_167 255 234 (dk_at dksX8_keepsAll_1 0 rfl rfl)
theorem dX8_keepsAll_27 : decode cX8_keepsAll 27 = .ok (.return_, 1) := dk_177 (dk_at dksX8_keepsAll_1 3 rfl rfl)
abbrev cX8_bringsBack : ByteArray := prog_18_method_86_code
def yX8_bringsBack : MethodName := ⟨RX8, "bringsBack", "()V"⟩
def dkwX8_bringsBack_1 : List UInt8 := [167, 255, 234, 177]
abbrev dktX8_bringsBack_1 : List UInt8 := dkwX8_bringsBack_1 ++ []
def dkwX8_bringsBack_0 : List UInt8 := [3, 60, 27, 17, 1, 49, 162, 0, 21, 42, 180, 0, 13, 27, 42, 180, 0, 23, 27, 46, 79, 132, 1, 1]
abbrev dktX8_bringsBack_0 : List UInt8 := dkwX8_bringsBack_0 ++ dktX8_bringsBack_1
theorem dksX8_bringsBack_0 : cX8_bringsBack.data.toList.drop 0 = dktX8_bringsBack_0 := by decide +kernel
theorem dksX8_bringsBack_1 : cX8_bringsBack.data.toList.drop 24 = dktX8_bringsBack_1 := dk_seg dksX8_bringsBack_0 24 rfl rfl
theorem dX8_bringsBack_0 : decode cX8_bringsBack 0 = .ok (.iconst 0, 1) := dk_3 (dk_at dksX8_bringsBack_0 0 rfl rfl)
theorem dX8_bringsBack_1 : decode cX8_bringsBack 1 = .ok (.istore_n 1, 1) := dk_60 (dk_at dksX8_bringsBack_0 1 rfl rfl)
theorem dX8_bringsBack_2 : decode cX8_bringsBack 2 = .ok (.iload_n 1, 1) := dk_27 (dk_at dksX8_bringsBack_0 2 rfl rfl)
theorem dX8_bringsBack_3 : decode cX8_bringsBack 3 = .ok (.sipush 305, 3) := dk_17 1 49 (dk_at dksX8_bringsBack_0 3 rfl rfl)
theorem dX8_bringsBack_6 : decode cX8_bringsBack 6 = .ok (.if_icmp .ge 21, 3) := dk_162 0 21 (dk_at dksX8_bringsBack_0 6 rfl rfl)
theorem dX8_bringsBack_9 : decode cX8_bringsBack 9 = .ok (.aload_n 0, 1) := dk_42 (dk_at dksX8_bringsBack_0 9 rfl rfl)
theorem dX8_bringsBack_10 : decode cX8_bringsBack 10 = .ok (.getfield 13, 3) := dk_180 0 13 (dk_at dksX8_bringsBack_0 10 rfl rfl)
theorem dX8_bringsBack_13 : decode cX8_bringsBack 13 = .ok (.iload_n 1, 1) := dk_27 (dk_at dksX8_bringsBack_0 13 rfl rfl)
theorem dX8_bringsBack_14 : decode cX8_bringsBack 14 = .ok (.aload_n 0, 1) := dk_42 (dk_at dksX8_bringsBack_0 14 rfl rfl)
theorem dX8_bringsBack_15 : decode cX8_bringsBack 15 = .ok (.getfield 23, 3) := dk_180 0 23 (dk_at dksX8_bringsBack_0 15 rfl rfl)
theorem dX8_bringsBack_18 : decode cX8_bringsBack 18 = .ok (.iload_n 1, 1) := dk_27 (dk_at dksX8_bringsBack_0 18 rfl rfl)
theorem dX8_bringsBack_19 : decode cX8_bringsBack 19 = .ok (.iaload, 1) := dk_46 (dk_at dksX8_bringsBack_0 19 rfl rfl)
theorem dX8_bringsBack_20 : decode cX8_bringsBack 20 = .ok (.iastore, 1) := dk_79 (dk_at dksX8_bringsBack_0 20 rfl rfl)
theorem dX8_bringsBack_21 : decode cX8_bringsBack 21 = .ok (.iinc 1 1, 3) := dk_132 1 1 (dk_at dksX8_bringsBack_0 21 rfl rfl)
theorem dX8_bringsBack_24 : decode cX8_bringsBack 24 = .ok (.goto (-22), 3) := dk_167 255 234 (dk_at dksX8_bringsBack_1 0 rfl rfl)
theorem dX8_bringsBack_27 : decode cX8_bringsBack 27 = .ok (.return_, 1) := dk_177 (dk_at dksX8_bringsBack_1 3 rfl rfl)
abbrev cX8_lasts : ByteArray := prog_18_method_89_code
def yX8_lasts : MethodName := ⟨RX8, "lasts", "(II)I"⟩
def dkwX8_lasts_4 : List UInt8 := [182, 1, 117, 29, 172]
abbrev dktX8_lasts_4 : List UInt8 := dkwX8_lasts_4 ++ []
def dkwX8_lasts_3 : List UInt8 := [167, 0, 4, 2, 62, 42, 28, 182, 1, 111, 87, 42, 28, 182, 1, 105, 132, 4, 1, 167, 255, 212, 42]
abbrev dktX8_lasts_3 : List UInt8 := dkwX8_lasts_3 ++ dktX8_lasts_4
def dkwX8_lasts_2 : List UInt8 := [16, 60, 163, 0, 43, 29, 2, 160, 0, 38, 42, 27, 5, 182, 0, 74, 16, 50, 161, 0, 8, 21, 4]
abbrev dktX8_lasts_2 : List UInt8 := dkwX8_lasts_2 ++ dktX8_lasts_3
def dkwX8_lasts_1 : List UInt8 := [167, 0, 4, 3, 4, 182, 1, 6, 153, 0, 5, 3, 172, 2, 62, 42, 182, 1, 114, 3, 54, 4, 21, 4]
abbrev dktX8_lasts_1 : List UInt8 := dkwX8_lasts_1 ++ dktX8_lasts_2
def dkwX8_lasts_0 : List UInt8 := [42, 3, 181, 0, 3, 42, 42, 27, 182, 1, 38, 154, 0, 11, 42, 28, 182, 1, 44, 153, 0, 7, 4]
abbrev dktX8_lasts_0 : List UInt8 := dkwX8_lasts_0 ++ dktX8_lasts_1
theorem dksX8_lasts_0 : cX8_lasts.data.toList.drop 0 = dktX8_lasts_0 := by decide +kernel
theorem dksX8_lasts_1 : cX8_lasts.data.toList.drop 23 = dktX8_lasts_1 := dk_seg dksX8_lasts_0 23 rfl rfl
theorem dksX8_lasts_2 : cX8_lasts.data.toList.drop 47 = dktX8_lasts_2 := dk_seg dksX8_lasts_1 24 rfl rfl
theorem dksX8_lasts_3 : cX8_lasts.data.toList.drop 70 = dktX8_lasts_3 := dk_seg dksX8_lasts_2 23 rfl rfl
theorem dksX8_lasts_4 : cX8_lasts.data.toList.drop 93 = dktX8_lasts_4 := dk_seg dksX8_lasts_3 23 rfl rfl
theorem dX8_lasts_0 : decode cX8_lasts 0 = .ok (.aload_n 0, 1) := dk_42 (dk_at dksX8_lasts_0 0 rfl rfl)
theorem dX8_lasts_1 : decode cX8_lasts 1 = .ok (.iconst 0, 1) := dk_3 (dk_at dksX8_lasts_0 1 rfl rfl)
theorem dX8_lasts_2 : decode cX8_lasts 2 = .ok (.putfield 3, 3) := dk_181 0 3 (dk_at dksX8_lasts_0 2 rfl rfl)
theorem dX8_lasts_5 : decode cX8_lasts 5 = .ok (.aload_n 0, 1) := dk_42 (dk_at dksX8_lasts_0 5 rfl rfl)
theorem dX8_lasts_6 : decode cX8_lasts 6 = .ok (.aload_n 0, 1) := dk_42 (dk_at dksX8_lasts_0 6 rfl rfl)
theorem dX8_lasts_7 : decode cX8_lasts 7 = .ok (.iload_n 1, 1) := dk_27 (dk_at dksX8_lasts_0 7 rfl rfl)
theorem dX8_lasts_8 : decode cX8_lasts 8 = .ok (.invokevirtual 294, 3) := dk_182 1 38 (dk_at dksX8_lasts_0 8 rfl rfl)
theorem dX8_lasts_11 : decode cX8_lasts 11 = .ok (.ifCond .ne 11, 3) := dk_154 0 11 (dk_at dksX8_lasts_0 11 rfl rfl)
theorem dX8_lasts_14 : decode cX8_lasts 14 = .ok (.aload_n 0, 1) := dk_42 (dk_at dksX8_lasts_0 14 rfl rfl)
theorem dX8_lasts_15 : decode cX8_lasts 15 = .ok (.iload_n 2, 1) := dk_28 (dk_at dksX8_lasts_0 15 rfl rfl)
theorem dX8_lasts_16 : decode cX8_lasts 16 = .ok (.invokevirtual 300, 3) := dk_182 1 44 (dk_at dksX8_lasts_0 16 rfl rfl)
theorem dX8_lasts_19 : decode cX8_lasts 19 = .ok (.ifCond .eq 7, 3) := dk_153 0 7 (dk_at dksX8_lasts_0 19 rfl rfl)
theorem dX8_lasts_22 : decode cX8_lasts 22 = .ok (.iconst 1, 1) := dk_4 (dk_at dksX8_lasts_0 22 rfl rfl)
theorem dX8_lasts_23 : decode cX8_lasts 23 = .ok (.goto 4, 3) := dk_167 0 4 (dk_at dksX8_lasts_1 0 rfl rfl)
theorem dX8_lasts_26 : decode cX8_lasts 26 = .ok (.iconst 0, 1) := dk_3 (dk_at dksX8_lasts_1 3 rfl rfl)
theorem dX8_lasts_27 : decode cX8_lasts 27 = .ok (.iconst 1, 1) := dk_4 (dk_at dksX8_lasts_1 4 rfl rfl)
theorem dX8_lasts_28 : decode cX8_lasts 28 = .ok (.invokevirtual 262, 3) := dk_182 1 6 (dk_at dksX8_lasts_1 5 rfl rfl)
theorem dX8_lasts_31 : decode cX8_lasts 31 = .ok (.ifCond .eq 5, 3) := dk_153 0 5 (dk_at dksX8_lasts_1 8 rfl rfl)
theorem dX8_lasts_34 : decode cX8_lasts 34 = .ok (.iconst 0, 1) := dk_3 (dk_at dksX8_lasts_1 11 rfl rfl)
theorem dX8_lasts_35 : decode cX8_lasts 35 = .ok (.ireturn, 1) := dk_172 (dk_at dksX8_lasts_1 12 rfl rfl)
theorem dX8_lasts_36 : decode cX8_lasts 36 = .ok (.iconst (-1), 1) := dk_2 (dk_at dksX8_lasts_1 13 rfl rfl)
theorem dX8_lasts_37 : decode cX8_lasts 37 = .ok (.istore_n 3, 1) := dk_62 (dk_at dksX8_lasts_1 14 rfl rfl)
theorem dX8_lasts_38 : decode cX8_lasts 38 = .ok (.aload_n 0, 1) := dk_42 (dk_at dksX8_lasts_1 15 rfl rfl)
theorem dX8_lasts_39 : decode cX8_lasts 39 = .ok (.invokevirtual 370, 3) := dk_182 1 114 (dk_at dksX8_lasts_1 16 rfl rfl)
theorem dX8_lasts_42 : decode cX8_lasts 42 = .ok (.iconst 0, 1) := dk_3 (dk_at dksX8_lasts_1 19 rfl rfl)
theorem dX8_lasts_43 : decode cX8_lasts 43 = .ok (.istore 4, 2) := dk_54 4 (dk_at dksX8_lasts_1 20 rfl rfl)
theorem dX8_lasts_45 : decode cX8_lasts 45 = .ok (.iload 4, 2) := dk_21 4 (dk_at dksX8_lasts_1 22 rfl rfl)
theorem dX8_lasts_47 : decode cX8_lasts 47 = .ok (.bipush 60, 2) := dk_16 60 (dk_at dksX8_lasts_2 0 rfl rfl)
theorem dX8_lasts_49 : decode cX8_lasts 49 = .ok (.if_icmp .gt 43, 3) := dk_163 0 43 (dk_at dksX8_lasts_2 2 rfl rfl)
theorem dX8_lasts_52 : decode cX8_lasts 52 = .ok (.iload_n 3, 1) := dk_29 (dk_at dksX8_lasts_2 5 rfl rfl)
theorem dX8_lasts_53 : decode cX8_lasts 53 = .ok (.iconst (-1), 1) := dk_2 (dk_at dksX8_lasts_2 6 rfl rfl)
theorem dX8_lasts_54 : decode cX8_lasts 54 = .ok (.if_icmp .ne 38, 3) := dk_160 0 38 (dk_at dksX8_lasts_2 7 rfl rfl)
theorem dX8_lasts_57 : decode cX8_lasts 57 = .ok (.aload_n 0, 1) := dk_42 (dk_at dksX8_lasts_2 10 rfl rfl)
theorem dX8_lasts_58 : decode cX8_lasts 58 = .ok (.iload_n 1, 1) := dk_27 (dk_at dksX8_lasts_2 11 rfl rfl)
theorem dX8_lasts_59 : decode cX8_lasts 59 = .ok (.iconst 2, 1) := dk_5 (dk_at dksX8_lasts_2 12 rfl rfl)
theorem dX8_lasts_60 : decode cX8_lasts 60 = .ok (.invokevirtual 74, 3) := dk_182 0 74 (dk_at dksX8_lasts_2 13 rfl rfl)
theorem dX8_lasts_63 : decode cX8_lasts 63 = .ok (.bipush 50, 2) := dk_16 50 (dk_at dksX8_lasts_2 16 rfl rfl)
theorem dX8_lasts_65 : decode cX8_lasts 65 = .ok (.if_icmp .lt 8, 3) := dk_161 0 8 (dk_at dksX8_lasts_2 18 rfl rfl)
theorem dX8_lasts_68 : decode cX8_lasts 68 = .ok (.iload 4, 2) := dk_21 4 (dk_at dksX8_lasts_2 21 rfl rfl)
theorem dX8_lasts_70 : decode cX8_lasts 70 = .ok (.goto 4, 3) := dk_167 0 4 (dk_at dksX8_lasts_3 0 rfl rfl)
theorem dX8_lasts_73 : decode cX8_lasts 73 = .ok (.iconst (-1), 1) := dk_2 (dk_at dksX8_lasts_3 3 rfl rfl)
theorem dX8_lasts_74 : decode cX8_lasts 74 = .ok (.istore_n 3, 1) := dk_62 (dk_at dksX8_lasts_3 4 rfl rfl)
theorem dX8_lasts_75 : decode cX8_lasts 75 = .ok (.aload_n 0, 1) := dk_42 (dk_at dksX8_lasts_3 5 rfl rfl)
theorem dX8_lasts_76 : decode cX8_lasts 76 = .ok (.iload_n 2, 1) := dk_28 (dk_at dksX8_lasts_3 6 rfl rfl)
theorem dX8_lasts_77 : decode cX8_lasts 77 = .ok (.invokevirtual 367, 3) := dk_182 1 111 (dk_at dksX8_lasts_3 7 rfl rfl)
theorem dX8_lasts_80 : decode cX8_lasts 80 = .ok (.pop, 1) := dk_87 (dk_at dksX8_lasts_3 10 rfl rfl)
theorem dX8_lasts_81 : decode cX8_lasts 81 = .ok (.aload_n 0, 1) := dk_42 (dk_at dksX8_lasts_3 11 rfl rfl)
theorem dX8_lasts_82 : decode cX8_lasts 82 = .ok (.iload_n 2, 1) := dk_28 (dk_at dksX8_lasts_3 12 rfl rfl)
theorem dX8_lasts_83 : decode cX8_lasts 83 = .ok (.invokevirtual 361, 3) := dk_182 1 105 (dk_at dksX8_lasts_3 13 rfl rfl)
theorem dX8_lasts_86 : decode cX8_lasts 86 = .ok (.iinc 4 1, 3) := dk_132 4 1 (dk_at dksX8_lasts_3 16 rfl rfl)
theorem dX8_lasts_89 : decode cX8_lasts 89 = .ok (.goto (-44), 3) := dk_167 255 212 (dk_at dksX8_lasts_3 19 rfl rfl)
theorem dX8_lasts_92 : decode cX8_lasts 92 = .ok (.aload_n 0, 1) := dk_42 (dk_at dksX8_lasts_3 22 rfl rfl)
theorem dX8_lasts_93 : decode cX8_lasts 93 = .ok (.invokevirtual 373, 3) := dk_182 1 117 (dk_at dksX8_lasts_4 0 rfl rfl)
theorem dX8_lasts_96 : decode cX8_lasts 96 = .ok (.iload_n 3, 1) := dk_29 (dk_at dksX8_lasts_4 3 rfl rfl)
theorem dX8_lasts_97 : decode cX8_lasts 97 = .ok (.ireturn, 1) := dk_172 (dk_at dksX8_lasts_4 4 rfl rfl)
abbrev cX8_car : ByteArray := prog_18_method_92_code
def yX8_car : MethodName := ⟨RX8, "car", "(II)I"⟩
def dkwX8_car_12 : List UInt8 := [167, 255, 44, 29, 172]
abbrev dktX8_car_12 : List UInt8 := dkwX8_car_12 ++ []
def dkwX8_car_11 : List UInt8 := [28, 42, 180, 1, 126, 182, 1, 133, 153, 0, 7, 5, 167, 0, 4, 3, 128, 128, 62, 132, 4, 1]
abbrev dktX8_car_11 : List UInt8 := dkwX8_car_11 ++ dktX8_car_12
def dkwX8_car_10 : List UInt8 := [46, 96, 181, 1, 123, 29, 42, 27, 42, 180, 1, 123, 182, 1, 133, 153, 0, 7, 4, 167, 0, 4, 3, 42]
abbrev dktX8_car_10 : List UInt8 := dkwX8_car_10 ++ dktX8_car_11
def dkwX8_car_9 : List UInt8 := [180, 0, 13, 16, 6, 46, 96, 181, 1, 126, 167, 0, 19, 42, 89, 180, 1, 123, 42, 180, 0, 13, 16, 6]
abbrev dktX8_car_9 : List UInt8 := dkwX8_car_9 ++ dktX8_car_10
def dkwX8_car_8 : List UInt8 := [29, 153, 0, 89, 29, 6, 160, 0, 6, 167, 0, 81, 29, 4, 160, 0, 22, 42, 89, 180, 1, 126, 42]
abbrev dktX8_car_8 : List UInt8 := dkwX8_car_8 ++ dktX8_car_9
def dkwX8_car_7 : List UInt8 := [28, 42, 180, 1, 126, 182, 1, 133, 153, 0, 7, 5, 167, 0, 4, 3, 128, 128, 62, 21, 5, 154, 0, 93]
abbrev dktX8_car_7 : List UInt8 := dkwX8_car_7 ++ dktX8_car_8
def dkwX8_car_6 : List UInt8 := [180, 1, 123, 182, 1, 133, 153, 0, 7, 4, 167, 0, 4, 3, 21, 5, 4, 184, 0, 137, 154, 0, 19, 42]
abbrev dktX8_car_6 : List UInt8 := dkwX8_car_6 ++ dktX8_car_7
def dkwX8_car_5 : List UInt8 := [42, 180, 1, 126, 182, 1, 129, 181, 1, 126, 29, 21, 5, 3, 184, 0, 137, 154, 0, 19, 42, 27, 42]
abbrev dktX8_car_5 : List UInt8 := dkwX8_car_5 ++ dktX8_car_6
def dkwX8_car_4 : List UInt8 := [42, 180, 1, 123, 182, 1, 129, 181, 1, 123, 21, 5, 4, 184, 0, 137, 154, 0, 18, 42, 42, 28, 21, 4]
abbrev dktX8_car_4 : List UInt8 := dkwX8_car_4 ++ dktX8_car_5
def dkwX8_car_3 : List UInt8 := [21, 4, 16, 10, 162, 0, 211, 29, 54, 5, 21, 5, 3, 184, 0, 137, 154, 0, 18, 42, 42, 27, 21, 4]
abbrev dktX8_car_3 : List UInt8 := dkwX8_car_3 ++ dktX8_car_4
def dkwX8_car_2 : List UInt8 := [182, 1, 6, 153, 0, 5, 3, 172, 3, 62, 42, 3, 181, 1, 123, 42, 3, 181, 1, 126, 3, 54, 4]
abbrev dktX8_car_2 : List UInt8 := dkwX8_car_2 ++ dktX8_car_3
def dkwX8_car_1 : List UInt8 := [167, 0, 4, 3, 4, 182, 1, 6, 154, 0, 21, 42, 27, 28, 160, 0, 7, 4, 167, 0, 4, 3, 5]
abbrev dktX8_car_1 : List UInt8 := dkwX8_car_1 ++ dktX8_car_2
def dkwX8_car_0 : List UInt8 := [42, 3, 181, 0, 3, 42, 42, 27, 182, 1, 44, 154, 0, 11, 42, 28, 182, 1, 44, 153, 0, 7, 4]
abbrev dktX8_car_0 : List UInt8 := dkwX8_car_0 ++ dktX8_car_1
theorem dksX8_car_0 : cX8_car.data.toList.drop 0 = dktX8_car_0 := by decide +kernel
theorem dksX8_car_1 : cX8_car.data.toList.drop 23 = dktX8_car_1 := dk_seg dksX8_car_0 23 rfl rfl
theorem dksX8_car_2 : cX8_car.data.toList.drop 46 = dktX8_car_2 := dk_seg dksX8_car_1 23 rfl rfl
theorem dksX8_car_3 : cX8_car.data.toList.drop 69 = dktX8_car_3 := dk_seg dksX8_car_2 23 rfl rfl
theorem dksX8_car_4 : cX8_car.data.toList.drop 93 = dktX8_car_4 := dk_seg dksX8_car_3 24 rfl rfl
theorem dksX8_car_5 : cX8_car.data.toList.drop 117 = dktX8_car_5 := dk_seg dksX8_car_4 24 rfl rfl
theorem dksX8_car_6 : cX8_car.data.toList.drop 140 = dktX8_car_6 := dk_seg dksX8_car_5 23 rfl rfl
theorem dksX8_car_7 : cX8_car.data.toList.drop 164 = dktX8_car_7 := dk_seg dksX8_car_6 24 rfl rfl
theorem dksX8_car_8 : cX8_car.data.toList.drop 188 = dktX8_car_8 := dk_seg dksX8_car_7 24 rfl rfl
theorem dksX8_car_9 : cX8_car.data.toList.drop 211 = dktX8_car_9 := dk_seg dksX8_car_8 23 rfl rfl
theorem dksX8_car_10 : cX8_car.data.toList.drop 235 = dktX8_car_10 := dk_seg dksX8_car_9 24 rfl rfl
theorem dksX8_car_11 : cX8_car.data.toList.drop 259 = dktX8_car_11 := dk_seg dksX8_car_10 24 rfl rfl
theorem dksX8_car_12 : cX8_car.data.toList.drop 281 = dktX8_car_12 := dk_seg dksX8_car_11 22 rfl rfl
theorem dX8_car_0 : decode cX8_car 0 = .ok (.aload_n 0, 1) := dk_42 (dk_at dksX8_car_0 0 rfl rfl)
theorem dX8_car_1 : decode cX8_car 1 = .ok (.iconst 0, 1) := dk_3 (dk_at dksX8_car_0 1 rfl rfl)
theorem dX8_car_2 : decode cX8_car 2 = .ok (.putfield 3, 3) := dk_181 0 3 (dk_at dksX8_car_0 2 rfl rfl)
theorem dX8_car_5 : decode cX8_car 5 = .ok (.aload_n 0, 1) := dk_42 (dk_at dksX8_car_0 5 rfl rfl)
theorem dX8_car_6 : decode cX8_car 6 = .ok (.aload_n 0, 1) := dk_42 (dk_at dksX8_car_0 6 rfl rfl)
theorem dX8_car_7 : decode cX8_car 7 = .ok (.iload_n 1, 1) := dk_27 (dk_at dksX8_car_0 7 rfl rfl)
theorem dX8_car_8 : decode cX8_car 8 = .ok (.invokevirtual 300, 3) := dk_182 1 44 (dk_at dksX8_car_0 8 rfl rfl)
theorem dX8_car_11 : decode cX8_car 11 = .ok (.ifCond .ne 11, 3) := dk_154 0 11 (dk_at dksX8_car_0 11 rfl rfl)
theorem dX8_car_14 : decode cX8_car 14 = .ok (.aload_n 0, 1) := dk_42 (dk_at dksX8_car_0 14 rfl rfl)
theorem dX8_car_15 : decode cX8_car 15 = .ok (.iload_n 2, 1) := dk_28 (dk_at dksX8_car_0 15 rfl rfl)
theorem dX8_car_16 : decode cX8_car 16 = .ok (.invokevirtual 300, 3) := dk_182 1 44 (dk_at dksX8_car_0 16 rfl rfl)
theorem dX8_car_19 : decode cX8_car 19 = .ok (.ifCond .eq 7, 3) := dk_153 0 7 (dk_at dksX8_car_0 19 rfl rfl)
theorem dX8_car_22 : decode cX8_car 22 = .ok (.iconst 1, 1) := dk_4 (dk_at dksX8_car_0 22 rfl rfl)
theorem dX8_car_23 : decode cX8_car 23 = .ok (.goto 4, 3) := dk_167 0 4 (dk_at dksX8_car_1 0 rfl rfl)
theorem dX8_car_26 : decode cX8_car 26 = .ok (.iconst 0, 1) := dk_3 (dk_at dksX8_car_1 3 rfl rfl)
theorem dX8_car_27 : decode cX8_car 27 = .ok (.iconst 1, 1) := dk_4 (dk_at dksX8_car_1 4 rfl rfl)
theorem dX8_car_28 : decode cX8_car 28 = .ok (.invokevirtual 262, 3) := dk_182 1 6 (dk_at dksX8_car_1 5 rfl rfl)
theorem dX8_car_31 : decode cX8_car 31 = .ok (.ifCond .ne 21, 3) := dk_154 0 21 (dk_at dksX8_car_1 8 rfl rfl)
theorem dX8_car_34 : decode cX8_car 34 = .ok (.aload_n 0, 1) := dk_42 (dk_at dksX8_car_1 11 rfl rfl)
theorem dX8_car_35 : decode cX8_car 35 = .ok (.iload_n 1, 1) := dk_27 (dk_at dksX8_car_1 12 rfl rfl)
theorem dX8_car_36 : decode cX8_car 36 = .ok (.iload_n 2, 1) := dk_28 (dk_at dksX8_car_1 13 rfl rfl)
theorem dX8_car_37 : decode cX8_car 37 = .ok (.if_icmp .ne 7, 3) := dk_160 0 7 (dk_at dksX8_car_1 14 rfl rfl)
theorem dX8_car_40 : decode cX8_car 40 = .ok (.iconst 1, 1) := dk_4 (dk_at dksX8_car_1 17 rfl rfl)
theorem dX8_car_41 : decode cX8_car 41 = .ok (.goto 4, 3) := dk_167 0 4 (dk_at dksX8_car_1 18 rfl rfl)
theorem dX8_car_44 : decode cX8_car 44 = .ok (.iconst 0, 1) := dk_3 (dk_at dksX8_car_1 21 rfl rfl)
theorem dX8_car_45 : decode cX8_car 45 = .ok (.iconst 2, 1) := dk_5 (dk_at dksX8_car_1 22 rfl rfl)
theorem dX8_car_46 : decode cX8_car 46 = .ok (.invokevirtual 262, 3) := dk_182 1 6 (dk_at dksX8_car_2 0 rfl rfl)
theorem dX8_car_49 : decode cX8_car 49 = .ok (.ifCond .eq 5, 3) := dk_153 0 5 (dk_at dksX8_car_2 3 rfl rfl)
theorem dX8_car_52 : decode cX8_car 52 = .ok (.iconst 0, 1) := dk_3 (dk_at dksX8_car_2 6 rfl rfl)
theorem dX8_car_53 : decode cX8_car 53 = .ok (.ireturn, 1) := dk_172 (dk_at dksX8_car_2 7 rfl rfl)
theorem dX8_car_54 : decode cX8_car 54 = .ok (.iconst 0, 1) := dk_3 (dk_at dksX8_car_2 8 rfl rfl)
theorem dX8_car_55 : decode cX8_car 55 = .ok (.istore_n 3, 1) := dk_62 (dk_at dksX8_car_2 9 rfl rfl)
theorem dX8_car_56 : decode cX8_car 56 = .ok (.aload_n 0, 1) := dk_42 (dk_at dksX8_car_2 10 rfl rfl)
theorem dX8_car_57 : decode cX8_car 57 = .ok (.iconst 0, 1) := dk_3 (dk_at dksX8_car_2 11 rfl rfl)
theorem dX8_car_58 : decode cX8_car 58 = .ok (.putfield 379, 3) := dk_181 1 123 (dk_at dksX8_car_2 12 rfl rfl)
theorem dX8_car_61 : decode cX8_car 61 = .ok (.aload_n 0, 1) := dk_42 (dk_at dksX8_car_2 15 rfl rfl)
theorem dX8_car_62 : decode cX8_car 62 = .ok (.iconst 0, 1) := dk_3 (dk_at dksX8_car_2 16 rfl rfl)
theorem dX8_car_63 : decode cX8_car 63 = .ok (.putfield 382, 3) := dk_181 1 126 (dk_at dksX8_car_2 17 rfl rfl)
theorem dX8_car_66 : decode cX8_car 66 = .ok (.iconst 0, 1) := dk_3 (dk_at dksX8_car_2 20 rfl rfl)
theorem dX8_car_67 : decode cX8_car 67 = .ok (.istore 4, 2) := dk_54 4 (dk_at dksX8_car_2 21 rfl rfl)
theorem dX8_car_69 : decode cX8_car 69 = .ok (.iload 4, 2) := dk_21 4 (dk_at dksX8_car_3 0 rfl rfl)
theorem dX8_car_71 : decode cX8_car 71 = .ok (.bipush 10, 2) := dk_16 10 (dk_at dksX8_car_3 2 rfl rfl)
theorem dX8_car_73 : decode cX8_car 73 = .ok (.if_icmp .ge 211, 3) := dk_162 0 211 (dk_at dksX8_car_3 4 rfl rfl)
theorem dX8_car_76 : decode cX8_car 76 = .ok (.iload_n 3, 1) := dk_29 (dk_at dksX8_car_3 7 rfl rfl)
theorem dX8_car_77 : decode cX8_car 77 = .ok (.istore 5, 2) := dk_54 5 (dk_at dksX8_car_3 8 rfl rfl)
theorem dX8_car_79 : decode cX8_car 79 = .ok (.iload 5, 2) := dk_21 5 (dk_at dksX8_car_3 10 rfl rfl)
theorem dX8_car_81 : decode cX8_car 81 = .ok (.iconst 0, 1) := dk_3 (dk_at dksX8_car_3 12 rfl rfl)
theorem dX8_car_82 : decode cX8_car 82 = .ok (.invokestatic 137, 3) := dk_184 0 137 (dk_at dksX8_car_3 13 rfl rfl)
theorem dX8_car_85 : decode cX8_car 85 = .ok (.ifCond .ne 18, 3) := dk_154 0 18 (dk_at dksX8_car_3 16 rfl rfl)
theorem dX8_car_88 : decode cX8_car 88 = .ok (.aload_n 0, 1) := dk_42 (dk_at dksX8_car_3 19 rfl rfl)
theorem dX8_car_89 : decode cX8_car 89 = .ok (.aload_n 0, 1) := dk_42 (dk_at dksX8_car_3 20 rfl rfl)
theorem dX8_car_90 : decode cX8_car 90 = .ok (.iload_n 1, 1) := dk_27 (dk_at dksX8_car_3 21 rfl rfl)
theorem dX8_car_91 : decode cX8_car 91 = .ok (.iload 4, 2) := dk_21 4 (dk_at dksX8_car_3 22 rfl rfl)
theorem dX8_car_93 : decode cX8_car 93 = .ok (.aload_n 0, 1) := dk_42 (dk_at dksX8_car_4 0 rfl rfl)
theorem dX8_car_94 : decode cX8_car 94 = .ok (.getfield 379, 3) := dk_180 1 123 (dk_at dksX8_car_4 1 rfl rfl)
theorem dX8_car_97 : decode cX8_car 97 = .ok (.invokevirtual 385, 3) := dk_182 1 129 (dk_at dksX8_car_4 4 rfl rfl)
theorem dX8_car_100 : decode cX8_car 100 = .ok (.putfield 379, 3) := dk_181 1 123 (dk_at dksX8_car_4 7 rfl rfl)
theorem dX8_car_103 : decode cX8_car 103 = .ok (.iload 5, 2) := dk_21 5 (dk_at dksX8_car_4 10 rfl rfl)
theorem dX8_car_105 : decode cX8_car 105 = .ok (.iconst 1, 1) := dk_4 (dk_at dksX8_car_4 12 rfl rfl)
theorem dX8_car_106 : decode cX8_car 106 = .ok (.invokestatic 137, 3) := dk_184 0 137 (dk_at dksX8_car_4 13 rfl rfl)
theorem dX8_car_109 : decode cX8_car 109 = .ok (.ifCond .ne 18, 3) := dk_154 0 18 (dk_at dksX8_car_4 16 rfl rfl)
theorem dX8_car_112 : decode cX8_car 112 = .ok (.aload_n 0, 1) := dk_42 (dk_at dksX8_car_4 19 rfl rfl)
theorem dX8_car_113 : decode cX8_car 113 = .ok (.aload_n 0, 1) := dk_42 (dk_at dksX8_car_4 20 rfl rfl)
theorem dX8_car_114 : decode cX8_car 114 = .ok (.iload_n 2, 1) := dk_28 (dk_at dksX8_car_4 21 rfl rfl)
theorem dX8_car_115 : decode cX8_car 115 = .ok (.iload 4, 2) := dk_21 4 (dk_at dksX8_car_4 22 rfl rfl)
theorem dX8_car_117 : decode cX8_car 117 = .ok (.aload_n 0, 1) := dk_42 (dk_at dksX8_car_5 0 rfl rfl)
theorem dX8_car_118 : decode cX8_car 118 = .ok (.getfield 382, 3) := dk_180 1 126 (dk_at dksX8_car_5 1 rfl rfl)
theorem dX8_car_121 : decode cX8_car 121 = .ok (.invokevirtual 385, 3) := dk_182 1 129 (dk_at dksX8_car_5 4 rfl rfl)
theorem dX8_car_124 : decode cX8_car 124 = .ok (.putfield 382, 3) := dk_181 1 126 (dk_at dksX8_car_5 7 rfl rfl)
theorem dX8_car_127 : decode cX8_car 127 = .ok (.iload_n 3, 1) := dk_29 (dk_at dksX8_car_5 10 rfl rfl)
theorem dX8_car_128 : decode cX8_car 128 = .ok (.iload 5, 2) := dk_21 5 (dk_at dksX8_car_5 11 rfl rfl)
theorem dX8_car_130 : decode cX8_car 130 = .ok (.iconst 0, 1) := dk_3 (dk_at dksX8_car_5 13 rfl rfl)
theorem dX8_car_131 : decode cX8_car 131 = .ok (.invokestatic 137, 3) := dk_184 0 137 (dk_at dksX8_car_5 14 rfl rfl)
theorem dX8_car_134 : decode cX8_car 134 = .ok (.ifCond .ne 19, 3) := dk_154 0 19 (dk_at dksX8_car_5 17 rfl rfl)
theorem dX8_car_137 : decode cX8_car 137 = .ok (.aload_n 0, 1) := dk_42 (dk_at dksX8_car_5 20 rfl rfl)
theorem dX8_car_138 : decode cX8_car 138 = .ok (.iload_n 1, 1) := dk_27 (dk_at dksX8_car_5 21 rfl rfl)
theorem dX8_car_139 : decode cX8_car 139 = .ok (.aload_n 0, 1) := dk_42 (dk_at dksX8_car_5 22 rfl rfl)
theorem dX8_car_140 : decode cX8_car 140 = .ok (.getfield 379, 3) := dk_180 1 123 (dk_at dksX8_car_6 0 rfl rfl)
theorem dX8_car_143 : decode cX8_car 143 = .ok (.invokevirtual 389, 3) := dk_182 1 133 (dk_at dksX8_car_6 3 rfl rfl)
theorem dX8_car_146 : decode cX8_car 146 = .ok (.ifCond .eq 7, 3) := dk_153 0 7 (dk_at dksX8_car_6 6 rfl rfl)
theorem dX8_car_149 : decode cX8_car 149 = .ok (.iconst 1, 1) := dk_4 (dk_at dksX8_car_6 9 rfl rfl)
theorem dX8_car_150 : decode cX8_car 150 = .ok (.goto 4, 3) := dk_167 0 4 (dk_at dksX8_car_6 10 rfl rfl)
theorem dX8_car_153 : decode cX8_car 153 = .ok (.iconst 0, 1) := dk_3 (dk_at dksX8_car_6 13 rfl rfl)
theorem dX8_car_154 : decode cX8_car 154 = .ok (.iload 5, 2) := dk_21 5 (dk_at dksX8_car_6 14 rfl rfl)
theorem dX8_car_156 : decode cX8_car 156 = .ok (.iconst 1, 1) := dk_4 (dk_at dksX8_car_6 16 rfl rfl)
theorem dX8_car_157 : decode cX8_car 157 = .ok (.invokestatic 137, 3) := dk_184 0 137 (dk_at dksX8_car_6 17 rfl rfl)
theorem dX8_car_160 : decode cX8_car 160 = .ok (.ifCond .ne 19, 3) := dk_154 0 19 (dk_at dksX8_car_6 20 rfl rfl)
theorem dX8_car_163 : decode cX8_car 163 = .ok (.aload_n 0, 1) := dk_42 (dk_at dksX8_car_6 23 rfl rfl)
theorem dX8_car_164 : decode cX8_car 164 = .ok (.iload_n 2, 1) := dk_28 (dk_at dksX8_car_7 0 rfl rfl)
theorem dX8_car_165 : decode cX8_car 165 = .ok (.aload_n 0, 1) := dk_42 (dk_at dksX8_car_7 1 rfl rfl)
theorem dX8_car_166 : decode cX8_car 166 = .ok (.getfield 382, 3) := dk_180 1 126 (dk_at dksX8_car_7 2 rfl rfl)
theorem dX8_car_169 : decode cX8_car 169 = .ok (.invokevirtual 389, 3) := dk_182 1 133 (dk_at dksX8_car_7 5 rfl rfl)
theorem dX8_car_172 : decode cX8_car 172 = .ok (.ifCond .eq 7, 3) := dk_153 0 7 (dk_at dksX8_car_7 8 rfl rfl)
theorem dX8_car_175 : decode cX8_car 175 = .ok (.iconst 2, 1) := dk_5 (dk_at dksX8_car_7 11 rfl rfl)
theorem dX8_car_176 : decode cX8_car 176 = .ok (.goto 4, 3) := dk_167 0 4 (dk_at dksX8_car_7 12 rfl rfl)
theorem dX8_car_179 : decode cX8_car 179 = .ok (.iconst 0, 1) := dk_3 (dk_at dksX8_car_7 15 rfl rfl)
theorem dX8_car_180 : decode cX8_car 180 = .ok (.ior, 1) := dk_128 (dk_at dksX8_car_7 16 rfl rfl)
theorem dX8_car_181 : decode cX8_car 181 = .ok (.ior, 1) := dk_128 (dk_at dksX8_car_7 17 rfl rfl)
theorem dX8_car_182 : decode cX8_car 182 = .ok (.istore_n 3, 1) := dk_62 (dk_at dksX8_car_7 18 rfl rfl)
theorem dX8_car_183 : decode cX8_car 183 = .ok (.iload 5, 2) := dk_21 5 (dk_at dksX8_car_7 19 rfl rfl)
theorem dX8_car_185 : decode cX8_car 185 = .ok (.ifCond .ne 93, 3) := dk_154 0 93 (dk_at dksX8_car_7 21 rfl rfl)
theorem dX8_car_188 : decode cX8_car 188 = .ok (.iload_n 3, 1) := dk_29 (dk_at dksX8_car_8 0 rfl rfl)
theorem dX8_car_189 : decode cX8_car 189 = .ok (.ifCond .eq 89, 3) := dk_153 0 89 (dk_at dksX8_car_8 1 rfl rfl)
theorem dX8_car_192 : decode cX8_car 192 = .ok (.iload_n 3, 1) := dk_29 (dk_at dksX8_car_8 4 rfl rfl)
theorem dX8_car_193 : decode cX8_car 193 = .ok (.iconst 3, 1) := dk_6 (dk_at dksX8_car_8 5 rfl rfl)
theorem dX8_car_194 : decode cX8_car 194 = .ok (.if_icmp .ne 6, 3) := dk_160 0 6 (dk_at dksX8_car_8 6 rfl rfl)
theorem dX8_car_197 : decode cX8_car 197 = .ok (.goto 81, 3) := dk_167 0 81 (dk_at dksX8_car_8 9 rfl rfl)
theorem dX8_car_200 : decode cX8_car 200 = .ok (.iload_n 3, 1) := dk_29 (dk_at dksX8_car_8 12 rfl rfl)
theorem dX8_car_201 : decode cX8_car 201 = .ok (.iconst 1, 1) := dk_4 (dk_at dksX8_car_8 13 rfl rfl)
theorem dX8_car_202 : decode cX8_car 202 = .ok (.if_icmp .ne 22, 3) := dk_160 0 22 (dk_at dksX8_car_8 14 rfl rfl)
theorem dX8_car_205 : decode cX8_car 205 = .ok (.aload_n 0, 1) := dk_42 (dk_at dksX8_car_8 17 rfl rfl)
theorem dX8_car_206 : decode cX8_car 206 = .ok (.dup, 1) := dk_89 (dk_at dksX8_car_8 18 rfl rfl)
theorem dX8_car_207 : decode cX8_car 207 = .ok (.getfield 382, 3) := dk_180 1 126 (dk_at dksX8_car_8 19 rfl rfl)
theorem dX8_car_210 : decode cX8_car 210 = .ok (.aload_n 0, 1) := dk_42 (dk_at dksX8_car_8 22 rfl rfl)
theorem dX8_car_211 : decode cX8_car 211 = .ok (.getfield 13, 3) := dk_180 0 13 (dk_at dksX8_car_9 0 rfl rfl)
theorem dX8_car_214 : decode cX8_car 214 = .ok (.bipush 6, 2) := dk_16 6 (dk_at dksX8_car_9 3 rfl rfl)
theorem dX8_car_216 : decode cX8_car 216 = .ok (.iaload, 1) := dk_46 (dk_at dksX8_car_9 5 rfl rfl)
theorem dX8_car_217 : decode cX8_car 217 = .ok (.iadd, 1) := dk_96 (dk_at dksX8_car_9 6 rfl rfl)
theorem dX8_car_218 : decode cX8_car 218 = .ok (.putfield 382, 3) := dk_181 1 126 (dk_at dksX8_car_9 7 rfl rfl)
theorem dX8_car_221 : decode cX8_car 221 = .ok (.goto 19, 3) := dk_167 0 19 (dk_at dksX8_car_9 10 rfl rfl)
theorem dX8_car_224 : decode cX8_car 224 = .ok (.aload_n 0, 1) := dk_42 (dk_at dksX8_car_9 13 rfl rfl)
theorem dX8_car_225 : decode cX8_car 225 = .ok (.dup, 1) := dk_89 (dk_at dksX8_car_9 14 rfl rfl)
theorem dX8_car_226 : decode cX8_car 226 = .ok (.getfield 379, 3) := dk_180 1 123 (dk_at dksX8_car_9 15 rfl rfl)
theorem dX8_car_229 : decode cX8_car 229 = .ok (.aload_n 0, 1) := dk_42 (dk_at dksX8_car_9 18 rfl rfl)
theorem dX8_car_230 : decode cX8_car 230 = .ok (.getfield 13, 3) := dk_180 0 13 (dk_at dksX8_car_9 19 rfl rfl)
theorem dX8_car_233 : decode cX8_car 233 = .ok (.bipush 6, 2) := dk_16 6 (dk_at dksX8_car_9 22 rfl rfl)
theorem dX8_car_235 : decode cX8_car 235 = .ok (.iaload, 1) := dk_46 (dk_at dksX8_car_10 0 rfl rfl)
theorem dX8_car_236 : decode cX8_car 236 = .ok (.iadd, 1) := dk_96 (dk_at dksX8_car_10 1 rfl rfl)
theorem dX8_car_237 : decode cX8_car 237 = .ok (.putfield 379, 3) := dk_181 1 123 (dk_at dksX8_car_10 2 rfl rfl)
theorem dX8_car_240 : decode cX8_car 240 = .ok (.iload_n 3, 1) := dk_29 (dk_at dksX8_car_10 5 rfl rfl)
theorem dX8_car_241 : decode cX8_car 241 = .ok (.aload_n 0, 1) := dk_42 (dk_at dksX8_car_10 6 rfl rfl)
theorem dX8_car_242 : decode cX8_car 242 = .ok (.iload_n 1, 1) := dk_27 (dk_at dksX8_car_10 7 rfl rfl)
theorem dX8_car_243 : decode cX8_car 243 = .ok (.aload_n 0, 1) := dk_42 (dk_at dksX8_car_10 8 rfl rfl)
theorem dX8_car_244 : decode cX8_car 244 = .ok (.getfield 379, 3) := dk_180 1 123 (dk_at dksX8_car_10 9 rfl rfl)
theorem dX8_car_247 : decode cX8_car 247 = .ok (.invokevirtual 389, 3) := dk_182 1 133 (dk_at dksX8_car_10 12 rfl rfl)
theorem dX8_car_250 : decode cX8_car 250 = .ok (.ifCond .eq 7, 3) := dk_153 0 7 (dk_at dksX8_car_10 15 rfl rfl)
theorem dX8_car_253 : decode cX8_car 253 = .ok (.iconst 1, 1) := dk_4 (dk_at dksX8_car_10 18 rfl rfl)
theorem dX8_car_254 : decode cX8_car 254 = .ok (.goto 4, 3) := dk_167 0 4 (dk_at dksX8_car_10 19 rfl rfl)
theorem dX8_car_257 : decode cX8_car 257 = .ok (.iconst 0, 1) := dk_3 (dk_at dksX8_car_10 22 rfl rfl)
theorem dX8_car_258 : decode cX8_car 258 = .ok (.aload_n 0, 1) := dk_42 (dk_at dksX8_car_10 23 rfl rfl)
theorem dX8_car_259 : decode cX8_car 259 = .ok (.iload_n 2, 1) := dk_28 (dk_at dksX8_car_11 0 rfl rfl)
theorem dX8_car_260 : decode cX8_car 260 = .ok (.aload_n 0, 1) := dk_42 (dk_at dksX8_car_11 1 rfl rfl)
theorem dX8_car_261 : decode cX8_car 261 = .ok (.getfield 382, 3) := dk_180 1 126 (dk_at dksX8_car_11 2 rfl rfl)
theorem dX8_car_264 : decode cX8_car 264 = .ok (.invokevirtual 389, 3) := dk_182 1 133 (dk_at dksX8_car_11 5 rfl rfl)
theorem dX8_car_267 : decode cX8_car 267 = .ok (.ifCond .eq 7, 3) := dk_153 0 7 (dk_at dksX8_car_11 8 rfl rfl)
theorem dX8_car_270 : decode cX8_car 270 = .ok (.iconst 2, 1) := dk_5 (dk_at dksX8_car_11 11 rfl rfl)
theorem dX8_car_271 : decode cX8_car 271 = .ok (.goto 4, 3) := dk_167 0 4 (dk_at dksX8_car_11 12 rfl rfl)
theorem dX8_car_274 : decode cX8_car 274 = .ok (.iconst 0, 1) := dk_3 (dk_at dksX8_car_11 15 rfl rfl)
theorem dX8_car_275 : decode cX8_car 275 = .ok (.ior, 1) := dk_128 (dk_at dksX8_car_11 16 rfl rfl)
theorem dX8_car_276 : decode cX8_car 276 = .ok (.ior, 1) := dk_128 (dk_at dksX8_car_11 17 rfl rfl)
theorem dX8_car_277 : decode cX8_car 277 = .ok (.istore_n 3, 1) := dk_62 (dk_at dksX8_car_11 18 rfl rfl)
theorem dX8_car_278 : decode cX8_car 278 = .ok (.iinc 4 1, 3) := dk_132 4 1 (dk_at dksX8_car_11 19 rfl rfl)
theorem dX8_car_281 : decode cX8_car 281 = .ok (.goto (-212), 3) := dk_167 255 44 (dk_at dksX8_car_12 0 rfl rfl)
theorem dX8_car_284 : decode cX8_car 284 = .ok (.iload_n 3, 1) := dk_29 (dk_at dksX8_car_12 3 rfl rfl)
theorem dX8_car_285 : decode cX8_car 285 = .ok (.ireturn, 1) := dk_172 (dk_at dksX8_car_12 4 rfl rfl)
abbrev cX8_carStep : ByteArray := prog_18_method_90_code
def yX8_carStep : MethodName := ⟨RX8, "carStep", "(III)I"⟩
def dkwX8_carStep_1 : List UInt8 := [167, 0, 14, 29, 42, 21, 4, 29, 182, 1, 54, 96, 4, 96, 172]
abbrev dktX8_carStep_1 : List UInt8 := dkwX8_carStep_1 ++ []
def dkwX8_carStep_0 : List UInt8 := [42, 27, 182, 1, 47, 42, 28, 182, 0, 160, 54, 4, 21, 4, 2, 160, 0, 11, 42, 29, 182, 1, 75]
abbrev dktX8_carStep_0 : List UInt8 := dkwX8_carStep_0 ++ dktX8_carStep_1
theorem dksX8_carStep_0 : cX8_carStep.data.toList.drop 0 = dktX8_carStep_0 := by decide +kernel
theorem dksX8_carStep_1 : cX8_carStep.data.toList.drop 23 = dktX8_carStep_1 := dk_seg dksX8_carStep_0 23 rfl rfl
theorem dX8_carStep_0 : decode cX8_carStep 0 = .ok (.aload_n 0, 1) := dk_42 (dk_at dksX8_carStep_0 0 rfl rfl)
theorem dX8_carStep_1 : decode cX8_carStep 1 = .ok (.iload_n 1, 1) := dk_27 (dk_at dksX8_carStep_0 1 rfl rfl)
theorem dX8_carStep_2 : decode cX8_carStep 2 = .ok (.invokevirtual 303, 3) := dk_182 1 47 (dk_at dksX8_carStep_0 2 rfl rfl)
theorem dX8_carStep_5 : decode cX8_carStep 5 = .ok (.aload_n 0, 1) := dk_42 (dk_at dksX8_carStep_0 5 rfl rfl)
theorem dX8_carStep_6 : decode cX8_carStep 6 = .ok (.iload_n 2, 1) := dk_28 (dk_at dksX8_carStep_0 6 rfl rfl)
theorem dX8_carStep_7 : decode cX8_carStep 7 = .ok (.invokevirtual 160, 3) := dk_182 0 160 (dk_at dksX8_carStep_0 7 rfl rfl)
theorem dX8_carStep_10 : decode cX8_carStep 10 = .ok (.istore 4, 2) := dk_54 4 (dk_at dksX8_carStep_0 10 rfl rfl)
theorem dX8_carStep_12 : decode cX8_carStep 12 = .ok (.iload 4, 2) := dk_21 4 (dk_at dksX8_carStep_0 12 rfl rfl)
theorem dX8_carStep_14 : decode cX8_carStep 14 = .ok (.iconst (-1), 1) := dk_2 (dk_at dksX8_carStep_0 14 rfl rfl)
theorem dX8_carStep_15 : decode cX8_carStep 15 = .ok (.if_icmp .ne 11, 3) := dk_160 0 11 (dk_at dksX8_carStep_0 15 rfl rfl)
theorem dX8_carStep_18 : decode cX8_carStep 18 = .ok (.aload_n 0, 1) := dk_42 (dk_at dksX8_carStep_0 18 rfl rfl)
theorem dX8_carStep_19 : decode cX8_carStep 19 = .ok (.iload_n 3, 1) := dk_29 (dk_at dksX8_carStep_0 19 rfl rfl)
theorem dX8_carStep_20 : decode cX8_carStep 20 = .ok (.invokevirtual 331, 3) := dk_182 1 75 (dk_at dksX8_carStep_0 20 rfl rfl)
theorem dX8_carStep_23 : decode cX8_carStep 23 = .ok (.goto 14, 3) := dk_167 0 14 (dk_at dksX8_carStep_1 0 rfl rfl)
theorem dX8_carStep_26 : decode cX8_carStep 26 = .ok (.iload_n 3, 1) := dk_29 (dk_at dksX8_carStep_1 3 rfl rfl)
theorem dX8_carStep_27 : decode cX8_carStep 27 = .ok (.aload_n 0, 1) := dk_42 (dk_at dksX8_carStep_1 4 rfl rfl)
theorem dX8_carStep_28 : decode cX8_carStep 28 = .ok (.iload 4, 2) := dk_21 4 (dk_at dksX8_carStep_1 5 rfl rfl)
theorem dX8_carStep_30 : decode cX8_carStep 30 = .ok (.iload_n 3, 1) := dk_29 (dk_at dksX8_carStep_1 7 rfl rfl)
theorem dX8_carStep_31 : decode cX8_carStep 31 = .ok (.invokevirtual 310, 3) := dk_182 1 54 (dk_at dksX8_carStep_1 8 rfl rfl)
theorem dX8_carStep_34 : decode cX8_carStep 34 = .ok (.iadd, 1) := dk_96 (dk_at dksX8_carStep_1 11 rfl rfl)
theorem dX8_carStep_35 : decode cX8_carStep 35 = .ok (.iconst 1, 1) := dk_4 (dk_at dksX8_carStep_1 12 rfl rfl)
theorem dX8_carStep_36 : decode cX8_carStep 36 = .ok (.iadd, 1) := dk_96 (dk_at dksX8_carStep_1 13 rfl rfl)
theorem dX8_carStep_37 : decode cX8_carStep 37 = .ok (.ireturn, 1) := dk_172 (dk_at dksX8_carStep_1 14 rfl rfl)
abbrev cX8_screams : ByteArray := prog_18_method_91_code
def yX8_screams : MethodName := ⟨RX8, "screams", "(II)Z"⟩
def dkwX8_screams_0 : List UInt8 := [28, 42, 27, 4, 182, 0, 80, 164, 0, 7, 4, 167, 0, 4, 3, 172]
abbrev dktX8_screams_0 : List UInt8 := dkwX8_screams_0 ++ []
theorem dksX8_screams_0 : cX8_screams.data.toList.drop 0 = dktX8_screams_0 := by decide +kernel
theorem dX8_screams_0 : decode cX8_screams 0 = .ok (.iload_n 2, 1) := dk_28 (dk_at dksX8_screams_0 0 rfl rfl)
theorem dX8_screams_1 : decode cX8_screams 1 = .ok (.aload_n 0, 1) := dk_42 (dk_at dksX8_screams_0 1 rfl rfl)
theorem dX8_screams_2 : decode cX8_screams 2 = .ok (.iload_n 1, 1) := dk_27 (dk_at dksX8_screams_0 2 rfl rfl)
theorem dX8_screams_3 : decode cX8_screams 3 = .ok (.iconst 1, 1) := dk_4 (dk_at dksX8_screams_0 3 rfl rfl)
theorem dX8_screams_4 : decode cX8_screams 4 = .ok (.invokevirtual 80, 3) := dk_182 0 80 (dk_at dksX8_screams_0 4 rfl rfl)
theorem dX8_screams_7 : decode cX8_screams 7 = .ok (.if_icmp .le 7, 3) := dk_164 0 7 (dk_at dksX8_screams_0 7 rfl rfl)
theorem dX8_screams_10 : decode cX8_screams 10 = .ok (.iconst 1, 1) := dk_4 (dk_at dksX8_screams_0 10 rfl rfl)
theorem dX8_screams_11 : decode cX8_screams 11 = .ok (.goto 4, 3) := dk_167 0 4 (dk_at dksX8_screams_0 11 rfl rfl)
theorem dX8_screams_14 : decode cX8_screams 14 = .ok (.iconst 0, 1) := dk_3 (dk_at dksX8_screams_0 14 rfl rfl)
theorem dX8_screams_15 : decode cX8_screams 15 = .ok (.ireturn, 1) := dk_172 (dk_at dksX8_screams_0 15 rfl rfl)
abbrev cX8_ways : ByteArray := prog_18_method_97_code
def yX8_ways : MethodName := ⟨RX8, "ways", "(I)I"⟩
def dkwX8_ways_1 : List UInt8 := [182, 1, 146, 172]
abbrev dktX8_ways_1 : List UInt8 := dkwX8_ways_1 ++ []
def dkwX8_ways_0 : List UInt8 := [42, 3, 181, 0, 3, 42, 42, 27, 182, 1, 44, 4, 182, 1, 6, 153, 0, 7, 3, 167, 0, 8, 42, 27]
abbrev dktX8_ways_0 : List UInt8 := dkwX8_ways_0 ++ dktX8_ways_1
theorem dksX8_ways_0 : cX8_ways.data.toList.drop 0 = dktX8_ways_0 := by decide +kernel
theorem dksX8_ways_1 : cX8_ways.data.toList.drop 24 = dktX8_ways_1 := dk_seg dksX8_ways_0 24 rfl rfl
theorem dX8_ways_0 : decode cX8_ways 0 = .ok (.aload_n 0, 1) := dk_42 (dk_at dksX8_ways_0 0 rfl rfl)
theorem dX8_ways_1 : decode cX8_ways 1 = .ok (.iconst 0, 1) := dk_3 (dk_at dksX8_ways_0 1 rfl rfl)
theorem dX8_ways_2 : decode cX8_ways 2 = .ok (.putfield 3, 3) := dk_181 0 3 (dk_at dksX8_ways_0 2 rfl rfl)
theorem dX8_ways_5 : decode cX8_ways 5 = .ok (.aload_n 0, 1) := dk_42 (dk_at dksX8_ways_0 5 rfl rfl)
theorem dX8_ways_6 : decode cX8_ways 6 = .ok (.aload_n 0, 1) := dk_42 (dk_at dksX8_ways_0 6 rfl rfl)
theorem dX8_ways_7 : decode cX8_ways 7 = .ok (.iload_n 1, 1) := dk_27 (dk_at dksX8_ways_0 7 rfl rfl)
theorem dX8_ways_8 : decode cX8_ways 8 = .ok (.invokevirtual 300, 3) := dk_182 1 44 (dk_at dksX8_ways_0 8 rfl rfl)
theorem dX8_ways_11 : decode cX8_ways 11 = .ok (.iconst 1, 1) := dk_4 (dk_at dksX8_ways_0 11 rfl rfl)
theorem dX8_ways_12 : decode cX8_ways 12 = .ok (.invokevirtual 262, 3) := dk_182 1 6 (dk_at dksX8_ways_0 12 rfl rfl)
theorem dX8_ways_15 : decode cX8_ways 15 = .ok (.ifCond .eq 7, 3) := dk_153 0 7 (dk_at dksX8_ways_0 15 rfl rfl)
theorem dX8_ways_18 : decode cX8_ways 18 = .ok (.iconst 0, 1) := dk_3 (dk_at dksX8_ways_0 18 rfl rfl)
theorem dX8_ways_19 : decode cX8_ways 19 = .ok (.goto 8, 3) := dk_167 0 8 (dk_at dksX8_ways_0 19 rfl rfl)
theorem dX8_ways_22 : decode cX8_ways 22 = .ok (.aload_n 0, 1) := dk_42 (dk_at dksX8_ways_0 22 rfl rfl)
theorem dX8_ways_23 : decode cX8_ways 23 = .ok (.iload_n 1, 1) := dk_27 (dk_at dksX8_ways_0 23 rfl rfl)
theorem dX8_ways_24 : decode cX8_ways 24 = .ok (.invokevirtual 402, 3) := dk_182 1 146 (dk_at dksX8_ways_1 0 rfl rfl)
theorem dX8_ways_27 : decode cX8_ways 27 = .ok (.ireturn, 1) := dk_172 (dk_at dksX8_ways_1 3 rfl rfl)
abbrev cX8_waysOf : ByteArray := prog_18_method_95_code
def yX8_waysOf : MethodName := ⟨RX8, "waysOf", "(I)I"⟩
def dkwX8_waysOf_1 : List UInt8 := [132, 3, 1, 167, 255, 238, 28, 172]
abbrev dktX8_waysOf_1 : List UInt8 := dkwX8_waysOf_1 ++ []
def dkwX8_waysOf_0 : List UInt8 := [42, 27, 182, 1, 141, 3, 61, 3, 62, 29, 16, 10, 162, 0, 18, 28, 42, 180, 0, 57, 29, 46, 96, 61]
abbrev dktX8_waysOf_0 : List UInt8 := dkwX8_waysOf_0 ++ dktX8_waysOf_1
theorem dksX8_waysOf_0 : cX8_waysOf.data.toList.drop 0 = dktX8_waysOf_0 := by decide +kernel
theorem dksX8_waysOf_1 : cX8_waysOf.data.toList.drop 24 = dktX8_waysOf_1 := dk_seg dksX8_waysOf_0 24 rfl rfl
theorem dX8_waysOf_0 : decode cX8_waysOf 0 = .ok (.aload_n 0, 1) := dk_42 (dk_at dksX8_waysOf_0 0 rfl rfl)
theorem dX8_waysOf_1 : decode cX8_waysOf 1 = .ok (.iload_n 1, 1) := dk_27 (dk_at dksX8_waysOf_0 1 rfl rfl)
theorem dX8_waysOf_2 : decode cX8_waysOf 2 = .ok (.invokevirtual 397, 3) := dk_182 1 141 (dk_at dksX8_waysOf_0 2 rfl rfl)
theorem dX8_waysOf_5 : decode cX8_waysOf 5 = .ok (.iconst 0, 1) := dk_3 (dk_at dksX8_waysOf_0 5 rfl rfl)
theorem dX8_waysOf_6 : decode cX8_waysOf 6 = .ok (.istore_n 2, 1) := dk_61 (dk_at dksX8_waysOf_0 6 rfl rfl)
theorem dX8_waysOf_7 : decode cX8_waysOf 7 = .ok (.iconst 0, 1) := dk_3 (dk_at dksX8_waysOf_0 7 rfl rfl)
theorem dX8_waysOf_8 : decode cX8_waysOf 8 = .ok (.istore_n 3, 1) := dk_62 (dk_at dksX8_waysOf_0 8 rfl rfl)
theorem dX8_waysOf_9 : decode cX8_waysOf 9 = .ok (.iload_n 3, 1) := dk_29 (dk_at dksX8_waysOf_0 9 rfl rfl)
theorem dX8_waysOf_10 : decode cX8_waysOf 10 = .ok (.bipush 10, 2) := dk_16 10 (dk_at dksX8_waysOf_0 10 rfl rfl)
theorem dX8_waysOf_12 : decode cX8_waysOf 12 = .ok (.if_icmp .ge 18, 3) := dk_162 0 18 (dk_at dksX8_waysOf_0 12 rfl rfl)
theorem dX8_waysOf_15 : decode cX8_waysOf 15 = .ok (.iload_n 2, 1) := dk_28 (dk_at dksX8_waysOf_0 15 rfl rfl)
theorem dX8_waysOf_16 : decode cX8_waysOf 16 = .ok (.aload_n 0, 1) := dk_42 (dk_at dksX8_waysOf_0 16 rfl rfl)
theorem dX8_waysOf_17 : decode cX8_waysOf 17 = .ok (.getfield 57, 3) := dk_180 0 57 (dk_at dksX8_waysOf_0 17 rfl rfl)
theorem dX8_waysOf_20 : decode cX8_waysOf 20 = .ok (.iload_n 3, 1) := dk_29 (dk_at dksX8_waysOf_0 20 rfl rfl)
theorem dX8_waysOf_21 : decode cX8_waysOf 21 = .ok (.iaload, 1) := dk_46 (dk_at dksX8_waysOf_0 21 rfl rfl)
theorem dX8_waysOf_22 : decode cX8_waysOf 22 = .ok (.iadd, 1) := dk_96 (dk_at dksX8_waysOf_0 22 rfl rfl)
theorem dX8_waysOf_23 : decode cX8_waysOf 23 = .ok (.istore_n 2, 1) := dk_61 (dk_at dksX8_waysOf_0 23 rfl rfl)
theorem dX8_waysOf_24 : decode cX8_waysOf 24 = .ok (.iinc 3 1, 3) := dk_132 3 1 (dk_at dksX8_waysOf_1 0 rfl rfl)
theorem dX8_waysOf_27 : decode cX8_waysOf 27 = .ok (.goto (-18), 3) := dk_167 255 238 (dk_at dksX8_waysOf_1 3 rfl rfl)
theorem dX8_waysOf_30 : decode cX8_waysOf 30 = .ok (.iload_n 2, 1) := dk_28 (dk_at dksX8_waysOf_1 6 rfl rfl)
theorem dX8_waysOf_31 : decode cX8_waysOf 31 = .ok (.ireturn, 1) := dk_172 (dk_at dksX8_waysOf_1 7 rfl rfl)
abbrev cX8_laysRows : ByteArray := prog_18_method_93_code
def yX8_laysRows : MethodName := ⟨RX8, "laysRows", "(I)V"⟩
def dkwX8_laysRows_4 : List UInt8 := [132, 2, 1, 167, 255, 242, 177]
abbrev dktX8_laysRows_4 : List UInt8 := dkwX8_laysRows_4 ++ []
def dkwX8_laysRows_3 : List UInt8 := [167, 0, 4, 3, 79, 132, 2, 1, 167, 255, 229, 3, 61, 28, 16, 10, 162, 0, 14, 42, 28, 182, 1, 138]
abbrev dktX8_laysRows_3 : List UInt8 := dkwX8_laysRows_3 ++ dktX8_laysRows_4
def dkwX8_laysRows_2 : List UInt8 := [167, 255, 223, 3, 61, 28, 16, 60, 163, 0, 27, 42, 180, 0, 51, 28, 28, 154, 0, 10, 42, 180, 1, 135]
abbrev dktX8_laysRows_2 : List UInt8 := dkwX8_laysRows_2 ++ dktX8_laysRows_3
def dkwX8_laysRows_1 : List UInt8 := [180, 1, 135, 42, 28, 182, 0, 94, 153, 0, 7, 6, 167, 0, 4, 4, 104, 181, 1, 135, 132, 2, 1]
abbrev dktX8_laysRows_1 : List UInt8 := dkwX8_laysRows_1 ++ dktX8_laysRows_2
def dkwX8_laysRows_0 : List UInt8 := [42, 27, 182, 1, 47, 42, 4, 181, 1, 135, 3, 61, 28, 42, 182, 0, 83, 162, 0, 31, 42, 89]
abbrev dktX8_laysRows_0 : List UInt8 := dkwX8_laysRows_0 ++ dktX8_laysRows_1
theorem dksX8_laysRows_0 : cX8_laysRows.data.toList.drop 0 = dktX8_laysRows_0 := by decide +kernel
theorem dksX8_laysRows_1 : cX8_laysRows.data.toList.drop 22 = dktX8_laysRows_1 := dk_seg dksX8_laysRows_0 22 rfl rfl
theorem dksX8_laysRows_2 : cX8_laysRows.data.toList.drop 45 = dktX8_laysRows_2 := dk_seg dksX8_laysRows_1 23 rfl rfl
theorem dksX8_laysRows_3 : cX8_laysRows.data.toList.drop 69 = dktX8_laysRows_3 := dk_seg dksX8_laysRows_2 24 rfl rfl
theorem dksX8_laysRows_4 : cX8_laysRows.data.toList.drop 93 = dktX8_laysRows_4 := dk_seg dksX8_laysRows_3 24 rfl rfl
theorem dX8_laysRows_0 : decode cX8_laysRows 0 = .ok (.aload_n 0, 1) := dk_42 (dk_at dksX8_laysRows_0 0 rfl rfl)
theorem dX8_laysRows_1 : decode cX8_laysRows 1 = .ok (.iload_n 1, 1) := dk_27 (dk_at dksX8_laysRows_0 1 rfl rfl)
theorem dX8_laysRows_2 : decode cX8_laysRows 2 = .ok (.invokevirtual 303, 3) := dk_182 1 47 (dk_at dksX8_laysRows_0 2 rfl rfl)
theorem dX8_laysRows_5 : decode cX8_laysRows 5 = .ok (.aload_n 0, 1) := dk_42 (dk_at dksX8_laysRows_0 5 rfl rfl)
theorem dX8_laysRows_6 : decode cX8_laysRows 6 = .ok (.iconst 1, 1) := dk_4 (dk_at dksX8_laysRows_0 6 rfl rfl)
theorem dX8_laysRows_7 : decode cX8_laysRows 7 = .ok (.putfield 391, 3) := dk_181 1 135 (dk_at dksX8_laysRows_0 7 rfl rfl)
theorem dX8_laysRows_10 : decode cX8_laysRows 10 = .ok (.iconst 0, 1) := dk_3 (dk_at dksX8_laysRows_0 10 rfl rfl)
theorem dX8_laysRows_11 : decode cX8_laysRows 11 = .ok (.istore_n 2, 1) := dk_61 (dk_at dksX8_laysRows_0 11 rfl rfl)
theorem dX8_laysRows_12 : decode cX8_laysRows 12 = .ok (.iload_n 2, 1) := dk_28 (dk_at dksX8_laysRows_0 12 rfl rfl)
theorem dX8_laysRows_13 : decode cX8_laysRows 13 = .ok (.aload_n 0, 1) := dk_42 (dk_at dksX8_laysRows_0 13 rfl rfl)
theorem dX8_laysRows_14 : decode cX8_laysRows 14 = .ok (.invokevirtual 83, 3) := dk_182 0 83 (dk_at dksX8_laysRows_0 14 rfl rfl)
theorem dX8_laysRows_17 : decode cX8_laysRows 17 = .ok (.if_icmp .ge 31, 3) := dk_162 0 31 (dk_at dksX8_laysRows_0 17 rfl rfl)
theorem dX8_laysRows_20 : decode cX8_laysRows 20 = .ok (.aload_n 0, 1) := dk_42 (dk_at dksX8_laysRows_0 20 rfl rfl)
theorem dX8_laysRows_21 : decode cX8_laysRows 21 = .ok (.dup, 1) := dk_89 (dk_at dksX8_laysRows_0 21 rfl rfl)
theorem dX8_laysRows_22 : decode cX8_laysRows 22 = .ok (.getfield 391, 3) := dk_180 1 135 (dk_at dksX8_laysRows_1 0 rfl rfl)
theorem dX8_laysRows_25 : decode cX8_laysRows 25 = .ok (.aload_n 0, 1) := dk_42 (dk_at dksX8_laysRows_1 3 rfl rfl)
theorem dX8_laysRows_26 : decode cX8_laysRows 26 = .ok (.iload_n 2, 1) := dk_28 (dk_at dksX8_laysRows_1 4 rfl rfl)
theorem dX8_laysRows_27 : decode cX8_laysRows 27 = .ok (.invokevirtual 94, 3) := dk_182 0 94 (dk_at dksX8_laysRows_1 5 rfl rfl)
theorem dX8_laysRows_30 : decode cX8_laysRows 30 = .ok (.ifCond .eq 7, 3) := dk_153 0 7 (dk_at dksX8_laysRows_1 8 rfl rfl)
theorem dX8_laysRows_33 : decode cX8_laysRows 33 = .ok (.iconst 3, 1) := dk_6 (dk_at dksX8_laysRows_1 11 rfl rfl)
theorem dX8_laysRows_34 : decode cX8_laysRows 34 = .ok (.goto 4, 3) := dk_167 0 4 (dk_at dksX8_laysRows_1 12 rfl rfl)
theorem dX8_laysRows_37 : decode cX8_laysRows 37 = .ok (.iconst 1, 1) := dk_4 (dk_at dksX8_laysRows_1 15 rfl rfl)
theorem dX8_laysRows_38 : decode cX8_laysRows 38 = .ok (.imul, 1) := dk_104 (dk_at dksX8_laysRows_1 16 rfl rfl)
theorem dX8_laysRows_39 : decode cX8_laysRows 39 = .ok (.putfield 391, 3) := dk_181 1 135 (dk_at dksX8_laysRows_1 17 rfl rfl)
theorem dX8_laysRows_42 : decode cX8_laysRows 42 = .ok (.iinc 2 1, 3) := dk_132 2 1 (dk_at dksX8_laysRows_1 20 rfl rfl)
theorem dX8_laysRows_45 : decode cX8_laysRows 45 = .ok (.goto (-33), 3) := dk_167 255 223 (dk_at dksX8_laysRows_2 0 rfl rfl)
theorem dX8_laysRows_48 : decode cX8_laysRows 48 = .ok (.iconst 0, 1) := dk_3 (dk_at dksX8_laysRows_2 3 rfl rfl)
theorem dX8_laysRows_49 : decode cX8_laysRows 49 = .ok (.istore_n 2, 1) := dk_61 (dk_at dksX8_laysRows_2 4 rfl rfl)
theorem dX8_laysRows_50 : decode cX8_laysRows 50 = .ok (.iload_n 2, 1) := dk_28 (dk_at dksX8_laysRows_2 5 rfl rfl)
theorem dX8_laysRows_51 : decode cX8_laysRows 51 = .ok (.bipush 60, 2) := dk_16 60 (dk_at dksX8_laysRows_2 6 rfl rfl)
theorem dX8_laysRows_53 : decode cX8_laysRows 53 = .ok (.if_icmp .gt 27, 3) := dk_163 0 27 (dk_at dksX8_laysRows_2 8 rfl rfl)
theorem dX8_laysRows_56 : decode cX8_laysRows 56 = .ok (.aload_n 0, 1) := dk_42 (dk_at dksX8_laysRows_2 11 rfl rfl)
theorem dX8_laysRows_57 : decode cX8_laysRows 57 = .ok (.getfield 51, 3) := dk_180 0 51 (dk_at dksX8_laysRows_2 12 rfl rfl)
theorem dX8_laysRows_60 : decode cX8_laysRows 60 = .ok (.iload_n 2, 1) := dk_28 (dk_at dksX8_laysRows_2 15 rfl rfl)
theorem dX8_laysRows_61 : decode cX8_laysRows 61 = .ok (.iload_n 2, 1) := dk_28 (dk_at dksX8_laysRows_2 16 rfl rfl)
theorem dX8_laysRows_62 : decode cX8_laysRows 62 = .ok (.ifCond .ne 10, 3) := dk_154 0 10 (dk_at dksX8_laysRows_2 17 rfl rfl)
theorem dX8_laysRows_65 : decode cX8_laysRows 65 = .ok (.aload_n 0, 1) := dk_42 (dk_at dksX8_laysRows_2 20 rfl rfl)
theorem dX8_laysRows_66 : decode cX8_laysRows 66 = .ok (.getfield 391, 3) := dk_180 1 135 (dk_at dksX8_laysRows_2 21 rfl rfl)
theorem dX8_laysRows_69 : decode cX8_laysRows 69 = .ok (.goto 4, 3) := dk_167 0 4 (dk_at dksX8_laysRows_3 0 rfl rfl)
theorem dX8_laysRows_72 : decode cX8_laysRows 72 = .ok (.iconst 0, 1) := dk_3 (dk_at dksX8_laysRows_3 3 rfl rfl)
theorem dX8_laysRows_73 : decode cX8_laysRows 73 = .ok (.iastore, 1) := dk_79 (dk_at dksX8_laysRows_3 4 rfl rfl)
theorem dX8_laysRows_74 : decode cX8_laysRows 74 = .ok (.iinc 2 1, 3) := dk_132 2 1 (dk_at dksX8_laysRows_3 5 rfl rfl)
theorem dX8_laysRows_77 : decode cX8_laysRows 77 = .ok (.goto (-27), 3) := dk_167 255 229 (dk_at dksX8_laysRows_3 8 rfl rfl)
theorem dX8_laysRows_80 : decode cX8_laysRows 80 = .ok (.iconst 0, 1) := dk_3 (dk_at dksX8_laysRows_3 11 rfl rfl)
theorem dX8_laysRows_81 : decode cX8_laysRows 81 = .ok (.istore_n 2, 1) := dk_61 (dk_at dksX8_laysRows_3 12 rfl rfl)
theorem dX8_laysRows_82 : decode cX8_laysRows 82 = .ok (.iload_n 2, 1) := dk_28 (dk_at dksX8_laysRows_3 13 rfl rfl)
theorem dX8_laysRows_83 : decode cX8_laysRows 83 = .ok (.bipush 10, 2) := dk_16 10 (dk_at dksX8_laysRows_3 14 rfl rfl)
theorem dX8_laysRows_85 : decode cX8_laysRows 85 = .ok (.if_icmp .ge 14, 3) := dk_162 0 14 (dk_at dksX8_laysRows_3 16 rfl rfl)
theorem dX8_laysRows_88 : decode cX8_laysRows 88 = .ok (.aload_n 0, 1) := dk_42 (dk_at dksX8_laysRows_3 19 rfl rfl)
theorem dX8_laysRows_89 : decode cX8_laysRows 89 = .ok (.iload_n 2, 1) := dk_28 (dk_at dksX8_laysRows_3 20 rfl rfl)
theorem dX8_laysRows_90 : decode cX8_laysRows 90 = .ok (.invokevirtual 394, 3) := dk_182 1 138 (dk_at dksX8_laysRows_3 21 rfl rfl)
theorem dX8_laysRows_93 : decode cX8_laysRows 93 = .ok (.iinc 2 1, 3) := dk_132 2 1 (dk_at dksX8_laysRows_4 0 rfl rfl)
theorem dX8_laysRows_96 : decode cX8_laysRows 96 = .ok (.goto (-14), 3) := dk_167 255 242 (dk_at dksX8_laysRows_4 3 rfl rfl)
theorem dX8_laysRows_99 : decode cX8_laysRows 99 = .ok (.return_, 1) := dk_177 (dk_at dksX8_laysRows_4 6 rfl rfl)
abbrev cX8_laysSlot : ByteArray := prog_18_method_94_code
def yX8_laysSlot : MethodName := ⟨RX8, "laysSlot", "(I)V"⟩
def dkwX8_laysSlot_8 : List UInt8 := [46, 79, 132, 3, 1, 167, 255, 235, 177]
abbrev dktX8_laysSlot_8 : List UInt8 := dkwX8_laysSlot_8 ++ []
def dkwX8_laysSlot_7 : List UInt8 := [132, 3, 1, 167, 255, 128, 3, 62, 29, 16, 60, 163, 0, 21, 42, 180, 0, 51, 29, 42, 180, 0, 54, 29]
abbrev dktX8_laysSlot_7 : List UInt8 := dkwX8_laysSlot_7 ++ dktX8_laysSlot_8
def dkwX8_laysSlot_6 : List UInt8 := [21, 4, 21, 5, 96, 92, 46, 42, 180, 0, 51, 29, 46, 6, 108, 96, 79, 132, 5, 1, 167, 255, 194]
abbrev dktX8_laysSlot_6 : List UInt8 := dkwX8_laysSlot_6 ++ dktX8_laysSlot_7
def dkwX8_laysSlot_5 : List UInt8 := [180, 0, 57, 27, 92, 46, 42, 180, 0, 51, 29, 46, 6, 108, 96, 79, 167, 0, 24, 42, 180, 0, 54]
abbrev dktX8_laysSlot_5 : List UInt8 := dkwX8_laysSlot_5 ++ dktX8_laysSlot_6
def dkwX8_laysSlot_4 : List UInt8 := [54, 4, 3, 54, 5, 21, 5, 6, 162, 0, 62, 21, 4, 21, 5, 96, 42, 180, 1, 12, 164, 0, 23, 42]
abbrev dktX8_laysSlot_4 : List UInt8 := dkwX8_laysSlot_4 ++ dktX8_laysSlot_5
def dkwX8_laysSlot_3 : List UInt8 := [182, 1, 75, 92, 46, 42, 180, 0, 51, 29, 46, 96, 79, 167, 0, 81, 29, 42, 28, 29, 182, 1, 54, 96]
abbrev dktX8_laysSlot_3 : List UInt8 := dkwX8_laysSlot_3 ++ dktX8_laysSlot_4
def dkwX8_laysSlot_2 : List UInt8 := [180, 0, 51, 29, 46, 154, 0, 6, 167, 0, 108, 28, 2, 160, 0, 25, 42, 180, 0, 54, 42, 29]
abbrev dktX8_laysSlot_2 : List UInt8 := dkwX8_laysSlot_2 ++ dktX8_laysSlot_3
def dkwX8_laysSlot_1 : List UInt8 := [180, 0, 54, 29, 3, 79, 132, 3, 1, 167, 255, 240, 3, 62, 29, 42, 180, 1, 12, 163, 0, 126, 42]
abbrev dktX8_laysSlot_1 : List UInt8 := dkwX8_laysSlot_1 ++ dktX8_laysSlot_2
def dkwX8_laysSlot_0 : List UInt8 := [42, 27, 182, 0, 160, 61, 42, 180, 0, 57, 27, 3, 79, 3, 62, 29, 16, 60, 163, 0, 16, 42]
abbrev dktX8_laysSlot_0 : List UInt8 := dkwX8_laysSlot_0 ++ dktX8_laysSlot_1
theorem dksX8_laysSlot_0 : cX8_laysSlot.data.toList.drop 0 = dktX8_laysSlot_0 := by decide +kernel
theorem dksX8_laysSlot_1 : cX8_laysSlot.data.toList.drop 22 = dktX8_laysSlot_1 := dk_seg dksX8_laysSlot_0 22 rfl rfl
theorem dksX8_laysSlot_2 : cX8_laysSlot.data.toList.drop 45 = dktX8_laysSlot_2 := dk_seg dksX8_laysSlot_1 23 rfl rfl
theorem dksX8_laysSlot_3 : cX8_laysSlot.data.toList.drop 67 = dktX8_laysSlot_3 := dk_seg dksX8_laysSlot_2 22 rfl rfl
theorem dksX8_laysSlot_4 : cX8_laysSlot.data.toList.drop 91 = dktX8_laysSlot_4 := dk_seg dksX8_laysSlot_3 24 rfl rfl
theorem dksX8_laysSlot_5 : cX8_laysSlot.data.toList.drop 115 = dktX8_laysSlot_5 := dk_seg dksX8_laysSlot_4 24 rfl rfl
theorem dksX8_laysSlot_6 : cX8_laysSlot.data.toList.drop 138 = dktX8_laysSlot_6 := dk_seg dksX8_laysSlot_5 23 rfl rfl
theorem dksX8_laysSlot_7 : cX8_laysSlot.data.toList.drop 161 = dktX8_laysSlot_7 := dk_seg dksX8_laysSlot_6 23 rfl rfl
theorem dksX8_laysSlot_8 : cX8_laysSlot.data.toList.drop 185 = dktX8_laysSlot_8 := dk_seg dksX8_laysSlot_7 24 rfl rfl
theorem dX8_laysSlot_0 : decode cX8_laysSlot 0 = .ok (.aload_n 0, 1) := dk_42 (dk_at dksX8_laysSlot_0 0 rfl rfl)
theorem dX8_laysSlot_1 : decode cX8_laysSlot 1 = .ok (.iload_n 1, 1) := dk_27 (dk_at dksX8_laysSlot_0 1 rfl rfl)
theorem dX8_laysSlot_2 : decode cX8_laysSlot 2 = .ok (.invokevirtual 160, 3) := dk_182 0 160 (dk_at dksX8_laysSlot_0 2 rfl rfl)
theorem dX8_laysSlot_5 : decode cX8_laysSlot 5 = .ok (.istore_n 2, 1) := dk_61 (dk_at dksX8_laysSlot_0 5 rfl rfl)
theorem dX8_laysSlot_6 : decode cX8_laysSlot 6 = .ok (.aload_n 0, 1) := dk_42 (dk_at dksX8_laysSlot_0 6 rfl rfl)
theorem dX8_laysSlot_7 : decode cX8_laysSlot 7 = .ok (.getfield 57, 3) := dk_180 0 57 (dk_at dksX8_laysSlot_0 7 rfl rfl)
theorem dX8_laysSlot_10 : decode cX8_laysSlot 10 = .ok (.iload_n 1, 1) := dk_27 (dk_at dksX8_laysSlot_0 10 rfl rfl)
theorem dX8_laysSlot_11 : decode cX8_laysSlot 11 = .ok (.iconst 0, 1) := dk_3 (dk_at dksX8_laysSlot_0 11 rfl rfl)
theorem dX8_laysSlot_12 : decode cX8_laysSlot 12 = .ok (.iastore, 1) := dk_79 (dk_at dksX8_laysSlot_0 12 rfl rfl)
theorem dX8_laysSlot_13 : decode cX8_laysSlot 13 = .ok (.iconst 0, 1) := dk_3 (dk_at dksX8_laysSlot_0 13 rfl rfl)
theorem dX8_laysSlot_14 : decode cX8_laysSlot 14 = .ok (.istore_n 3, 1) := dk_62 (dk_at dksX8_laysSlot_0 14 rfl rfl)
theorem dX8_laysSlot_15 : decode cX8_laysSlot 15 = .ok (.iload_n 3, 1) := dk_29 (dk_at dksX8_laysSlot_0 15 rfl rfl)
theorem dX8_laysSlot_16 : decode cX8_laysSlot 16 = .ok (.bipush 60, 2) := dk_16 60 (dk_at dksX8_laysSlot_0 16 rfl rfl)
theorem dX8_laysSlot_18 : decode cX8_laysSlot 18 = .ok (.if_icmp .gt 16, 3) := dk_163 0 16 (dk_at dksX8_laysSlot_0 18 rfl rfl)
theorem dX8_laysSlot_21 : decode cX8_laysSlot 21 = .ok (.aload_n 0, 1) := dk_42 (dk_at dksX8_laysSlot_0 21 rfl rfl)
theorem dX8_laysSlot_22 : decode cX8_laysSlot 22 = .ok (.getfield 54, 3) := dk_180 0 54 (dk_at dksX8_laysSlot_1 0 rfl rfl)
theorem dX8_laysSlot_25 : decode cX8_laysSlot 25 = .ok (.iload_n 3, 1) := dk_29 (dk_at dksX8_laysSlot_1 3 rfl rfl)
theorem dX8_laysSlot_26 : decode cX8_laysSlot 26 = .ok (.iconst 0, 1) := dk_3 (dk_at dksX8_laysSlot_1 4 rfl rfl)
theorem dX8_laysSlot_27 : decode cX8_laysSlot 27 = .ok (.iastore, 1) := dk_79 (dk_at dksX8_laysSlot_1 5 rfl rfl)
theorem dX8_laysSlot_28 : decode cX8_laysSlot 28 = .ok (.iinc 3 1, 3) := dk_132 3 1 (dk_at dksX8_laysSlot_1 6 rfl rfl)
theorem dX8_laysSlot_31 : decode cX8_laysSlot 31 = .ok (.goto (-16), 3) := dk_167 255 240 (dk_at dksX8_laysSlot_1 9 rfl rfl)
theorem dX8_laysSlot_34 : decode cX8_laysSlot 34 = .ok (.iconst 0, 1) := dk_3 (dk_at dksX8_laysSlot_1 12 rfl rfl)
theorem dX8_laysSlot_35 : decode cX8_laysSlot 35 = .ok (.istore_n 3, 1) := dk_62 (dk_at dksX8_laysSlot_1 13 rfl rfl)
theorem dX8_laysSlot_36 : decode cX8_laysSlot 36 = .ok (.iload_n 3, 1) := dk_29 (dk_at dksX8_laysSlot_1 14 rfl rfl)
theorem dX8_laysSlot_37 : decode cX8_laysSlot 37 = .ok (.aload_n 0, 1) := dk_42 (dk_at dksX8_laysSlot_1 15 rfl rfl)
theorem dX8_laysSlot_38 : decode cX8_laysSlot 38 = .ok (.getfield 268, 3) := dk_180 1 12 (dk_at dksX8_laysSlot_1 16 rfl rfl)
theorem dX8_laysSlot_41 : decode cX8_laysSlot 41 = .ok (.if_icmp .gt 126, 3) := dk_163 0 126 (dk_at dksX8_laysSlot_1 19 rfl rfl)
theorem dX8_laysSlot_44 : decode cX8_laysSlot 44 = .ok (.aload_n 0, 1) := dk_42 (dk_at dksX8_laysSlot_1 22 rfl rfl)
theorem dX8_laysSlot_45 : decode cX8_laysSlot 45 = .ok (.getfield 51, 3) := dk_180 0 51 (dk_at dksX8_laysSlot_2 0 rfl rfl)
theorem dX8_laysSlot_48 : decode cX8_laysSlot 48 = .ok (.iload_n 3, 1) := dk_29 (dk_at dksX8_laysSlot_2 3 rfl rfl)
theorem dX8_laysSlot_49 : decode cX8_laysSlot 49 = .ok (.iaload, 1) := dk_46 (dk_at dksX8_laysSlot_2 4 rfl rfl)
theorem dX8_laysSlot_50 : decode cX8_laysSlot 50 = .ok (.ifCond .ne 6, 3) := dk_154 0 6 (dk_at dksX8_laysSlot_2 5 rfl rfl)
theorem dX8_laysSlot_53 : decode cX8_laysSlot 53 = .ok (.goto 108, 3) := dk_167 0 108 (dk_at dksX8_laysSlot_2 8 rfl rfl)
theorem dX8_laysSlot_56 : decode cX8_laysSlot 56 = .ok (.iload_n 2, 1) := dk_28 (dk_at dksX8_laysSlot_2 11 rfl rfl)
theorem dX8_laysSlot_57 : decode cX8_laysSlot 57 = .ok (.iconst (-1), 1) := dk_2 (dk_at dksX8_laysSlot_2 12 rfl rfl)
theorem dX8_laysSlot_58 : decode cX8_laysSlot 58 = .ok (.if_icmp .ne 25, 3) := dk_160 0 25 (dk_at dksX8_laysSlot_2 13 rfl rfl)
theorem dX8_laysSlot_61 : decode cX8_laysSlot 61 = .ok (.aload_n 0, 1) := dk_42 (dk_at dksX8_laysSlot_2 16 rfl rfl)
theorem dX8_laysSlot_62 : decode cX8_laysSlot 62 = .ok (.getfield 54, 3) := dk_180 0 54 (dk_at dksX8_laysSlot_2 17 rfl rfl)
theorem dX8_laysSlot_65 : decode cX8_laysSlot 65 = .ok (.aload_n 0, 1) := dk_42 (dk_at dksX8_laysSlot_2 20 rfl rfl)
theorem dX8_laysSlot_66 : decode cX8_laysSlot 66 = .ok (.iload_n 3, 1) := dk_29 (dk_at dksX8_laysSlot_2 21 rfl rfl)
theorem dX8_laysSlot_67 : decode cX8_laysSlot 67 = .ok (.invokevirtual 331, 3) := dk_182 1 75 (dk_at dksX8_laysSlot_3 0 rfl rfl)
theorem dX8_laysSlot_70 : decode cX8_laysSlot 70 = .ok (.dup2, 1) := dk_92 (dk_at dksX8_laysSlot_3 3 rfl rfl)
theorem dX8_laysSlot_71 : decode cX8_laysSlot 71 = .ok (.iaload, 1) := dk_46 (dk_at dksX8_laysSlot_3 4 rfl rfl)
theorem dX8_laysSlot_72 : decode cX8_laysSlot 72 = .ok (.aload_n 0, 1) := dk_42 (dk_at dksX8_laysSlot_3 5 rfl rfl)
theorem dX8_laysSlot_73 : decode cX8_laysSlot 73 = .ok (.getfield 51, 3) := dk_180 0 51 (dk_at dksX8_laysSlot_3 6 rfl rfl)
theorem dX8_laysSlot_76 : decode cX8_laysSlot 76 = .ok (.iload_n 3, 1) := dk_29 (dk_at dksX8_laysSlot_3 9 rfl rfl)
theorem dX8_laysSlot_77 : decode cX8_laysSlot 77 = .ok (.iaload, 1) := dk_46 (dk_at dksX8_laysSlot_3 10 rfl rfl)
theorem dX8_laysSlot_78 : decode cX8_laysSlot 78 = .ok (.iadd, 1) := dk_96 (dk_at dksX8_laysSlot_3 11 rfl rfl)
theorem dX8_laysSlot_79 : decode cX8_laysSlot 79 = .ok (.iastore, 1) := dk_79 (dk_at dksX8_laysSlot_3 12 rfl rfl)
theorem dX8_laysSlot_80 : decode cX8_laysSlot 80 = .ok (.goto 81, 3) := dk_167 0 81 (dk_at dksX8_laysSlot_3 13 rfl rfl)
theorem dX8_laysSlot_83 : decode cX8_laysSlot 83 = .ok (.iload_n 3, 1) := dk_29 (dk_at dksX8_laysSlot_3 16 rfl rfl)
theorem dX8_laysSlot_84 : decode cX8_laysSlot 84 = .ok (.aload_n 0, 1) := dk_42 (dk_at dksX8_laysSlot_3 17 rfl rfl)
theorem dX8_laysSlot_85 : decode cX8_laysSlot 85 = .ok (.iload_n 2, 1) := dk_28 (dk_at dksX8_laysSlot_3 18 rfl rfl)
theorem dX8_laysSlot_86 : decode cX8_laysSlot 86 = .ok (.iload_n 3, 1) := dk_29 (dk_at dksX8_laysSlot_3 19 rfl rfl)
theorem dX8_laysSlot_87 : decode cX8_laysSlot 87 = .ok (.invokevirtual 310, 3) := dk_182 1 54 (dk_at dksX8_laysSlot_3 20 rfl rfl)
theorem dX8_laysSlot_90 : decode cX8_laysSlot 90 = .ok (.iadd, 1) := dk_96 (dk_at dksX8_laysSlot_3 23 rfl rfl)
theorem dX8_laysSlot_91 : decode cX8_laysSlot 91 = .ok (.istore 4, 2) := dk_54 4 (dk_at dksX8_laysSlot_4 0 rfl rfl)
theorem dX8_laysSlot_93 : decode cX8_laysSlot 93 = .ok (.iconst 0, 1) := dk_3 (dk_at dksX8_laysSlot_4 2 rfl rfl)
theorem dX8_laysSlot_94 : decode cX8_laysSlot 94 = .ok (.istore 5, 2) := dk_54 5 (dk_at dksX8_laysSlot_4 3 rfl rfl)
theorem dX8_laysSlot_96 : decode cX8_laysSlot 96 = .ok (.iload 5, 2) := dk_21 5 (dk_at dksX8_laysSlot_4 5 rfl rfl)
theorem dX8_laysSlot_98 : decode cX8_laysSlot 98 = .ok (.iconst 3, 1) := dk_6 (dk_at dksX8_laysSlot_4 7 rfl rfl)
theorem dX8_laysSlot_99 : decode cX8_laysSlot 99 = .ok (.if_icmp .ge 62, 3) := dk_162 0 62 (dk_at dksX8_laysSlot_4 8 rfl rfl)
theorem dX8_laysSlot_102 : decode cX8_laysSlot 102 = .ok (.iload 4, 2) := dk_21 4 (dk_at dksX8_laysSlot_4 11 rfl rfl)
theorem dX8_laysSlot_104 : decode cX8_laysSlot 104 = .ok (.iload 5, 2) := dk_21 5 (dk_at dksX8_laysSlot_4 13 rfl rfl)
theorem dX8_laysSlot_106 : decode cX8_laysSlot 106 = .ok (.iadd, 1) := dk_96 (dk_at dksX8_laysSlot_4 15 rfl rfl)
theorem dX8_laysSlot_107 : decode cX8_laysSlot 107 = .ok (.aload_n 0, 1) := dk_42 (dk_at dksX8_laysSlot_4 16 rfl rfl)
theorem dX8_laysSlot_108 : decode cX8_laysSlot 108 = .ok (.getfield 268, 3) := dk_180 1 12 (dk_at dksX8_laysSlot_4 17 rfl rfl)
theorem dX8_laysSlot_111 : decode cX8_laysSlot 111 = .ok (.if_icmp .le 23, 3) := dk_164 0 23 (dk_at dksX8_laysSlot_4 20 rfl rfl)
theorem dX8_laysSlot_114 : decode cX8_laysSlot 114 = .ok (.aload_n 0, 1) := dk_42 (dk_at dksX8_laysSlot_4 23 rfl rfl)
theorem dX8_laysSlot_115 : decode cX8_laysSlot 115 = .ok (.getfield 57, 3) := dk_180 0 57 (dk_at dksX8_laysSlot_5 0 rfl rfl)
theorem dX8_laysSlot_118 : decode cX8_laysSlot 118 = .ok (.iload_n 1, 1) := dk_27 (dk_at dksX8_laysSlot_5 3 rfl rfl)
theorem dX8_laysSlot_119 : decode cX8_laysSlot 119 = .ok (.dup2, 1) := dk_92 (dk_at dksX8_laysSlot_5 4 rfl rfl)
theorem dX8_laysSlot_120 : decode cX8_laysSlot 120 = .ok (.iaload, 1) := dk_46 (dk_at dksX8_laysSlot_5 5 rfl rfl)
theorem dX8_laysSlot_121 : decode cX8_laysSlot 121 = .ok (.aload_n 0, 1) := dk_42 (dk_at dksX8_laysSlot_5 6 rfl rfl)
theorem dX8_laysSlot_122 : decode cX8_laysSlot 122 = .ok (.getfield 51, 3) := dk_180 0 51 (dk_at dksX8_laysSlot_5 7 rfl rfl)
theorem dX8_laysSlot_125 : decode cX8_laysSlot 125 = .ok (.iload_n 3, 1) := dk_29 (dk_at dksX8_laysSlot_5 10 rfl rfl)
theorem dX8_laysSlot_126 : decode cX8_laysSlot 126 = .ok (.iaload, 1) := dk_46 (dk_at dksX8_laysSlot_5 11 rfl rfl)
theorem dX8_laysSlot_127 : decode cX8_laysSlot 127 = .ok (.iconst 3, 1) := dk_6 (dk_at dksX8_laysSlot_5 12 rfl rfl)
theorem dX8_laysSlot_128 : decode cX8_laysSlot 128 = .ok (.idiv, 1) := dk_108 (dk_at dksX8_laysSlot_5 13 rfl rfl)
theorem dX8_laysSlot_129 : decode cX8_laysSlot 129 = .ok (.iadd, 1) := dk_96 (dk_at dksX8_laysSlot_5 14 rfl rfl)
theorem dX8_laysSlot_130 : decode cX8_laysSlot 130 = .ok (.iastore, 1) := dk_79 (dk_at dksX8_laysSlot_5 15 rfl rfl)
theorem dX8_laysSlot_131 : decode cX8_laysSlot 131 = .ok (.goto 24, 3) := dk_167 0 24 (dk_at dksX8_laysSlot_5 16 rfl rfl)
theorem dX8_laysSlot_134 : decode cX8_laysSlot 134 = .ok (.aload_n 0, 1) := dk_42 (dk_at dksX8_laysSlot_5 19 rfl rfl)
theorem dX8_laysSlot_135 : decode cX8_laysSlot 135 = .ok (.getfield 54, 3) := dk_180 0 54 (dk_at dksX8_laysSlot_5 20 rfl rfl)
theorem dX8_laysSlot_138 : decode cX8_laysSlot 138 = .ok (.iload 4, 2) := dk_21 4 (dk_at dksX8_laysSlot_6 0 rfl rfl)
theorem dX8_laysSlot_140 : decode cX8_laysSlot 140 = .ok (.iload 5, 2) := dk_21 5 (dk_at dksX8_laysSlot_6 2 rfl rfl)
theorem dX8_laysSlot_142 : decode cX8_laysSlot 142 = .ok (.iadd, 1) := dk_96 (dk_at dksX8_laysSlot_6 4 rfl rfl)
theorem dX8_laysSlot_143 : decode cX8_laysSlot 143 = .ok (.dup2, 1) := dk_92 (dk_at dksX8_laysSlot_6 5 rfl rfl)
theorem dX8_laysSlot_144 : decode cX8_laysSlot 144 = .ok (.iaload, 1) := dk_46 (dk_at dksX8_laysSlot_6 6 rfl rfl)
theorem dX8_laysSlot_145 : decode cX8_laysSlot 145 = .ok (.aload_n 0, 1) := dk_42 (dk_at dksX8_laysSlot_6 7 rfl rfl)
theorem dX8_laysSlot_146 : decode cX8_laysSlot 146 = .ok (.getfield 51, 3) := dk_180 0 51 (dk_at dksX8_laysSlot_6 8 rfl rfl)
theorem dX8_laysSlot_149 : decode cX8_laysSlot 149 = .ok (.iload_n 3, 1) := dk_29 (dk_at dksX8_laysSlot_6 11 rfl rfl)
theorem dX8_laysSlot_150 : decode cX8_laysSlot 150 = .ok (.iaload, 1) := dk_46 (dk_at dksX8_laysSlot_6 12 rfl rfl)
theorem dX8_laysSlot_151 : decode cX8_laysSlot 151 = .ok (.iconst 3, 1) := dk_6 (dk_at dksX8_laysSlot_6 13 rfl rfl)
theorem dX8_laysSlot_152 : decode cX8_laysSlot 152 = .ok (.idiv, 1) := dk_108 (dk_at dksX8_laysSlot_6 14 rfl rfl)
theorem dX8_laysSlot_153 : decode cX8_laysSlot 153 = .ok (.iadd, 1) := dk_96 (dk_at dksX8_laysSlot_6 15 rfl rfl)
theorem dX8_laysSlot_154 : decode cX8_laysSlot 154 = .ok (.iastore, 1) := dk_79 (dk_at dksX8_laysSlot_6 16 rfl rfl)
theorem dX8_laysSlot_155 : decode cX8_laysSlot 155 = .ok (.iinc 5 1, 3) := dk_132 5 1 (dk_at dksX8_laysSlot_6 17 rfl rfl)
theorem dX8_laysSlot_158 : decode cX8_laysSlot 158 = .ok (.goto (-62), 3) := dk_167 255 194 (dk_at dksX8_laysSlot_6 20 rfl rfl)
theorem dX8_laysSlot_161 : decode cX8_laysSlot 161 = .ok (.iinc 3 1, 3) := dk_132 3 1 (dk_at dksX8_laysSlot_7 0 rfl rfl)
theorem dX8_laysSlot_164 : decode cX8_laysSlot 164 = .ok (.goto (-128), 3) := dk_167 255 128 (dk_at dksX8_laysSlot_7 3 rfl rfl)
theorem dX8_laysSlot_167 : decode cX8_laysSlot 167 = .ok (.iconst 0, 1) := dk_3 (dk_at dksX8_laysSlot_7 6 rfl rfl)
theorem dX8_laysSlot_168 : decode cX8_laysSlot 168 = .ok (.istore_n 3, 1) := dk_62 (dk_at dksX8_laysSlot_7 7 rfl rfl)
theorem dX8_laysSlot_169 : decode cX8_laysSlot 169 = .ok (.iload_n 3, 1) := dk_29 (dk_at dksX8_laysSlot_7 8 rfl rfl)
theorem dX8_laysSlot_170 : decode cX8_laysSlot 170 = .ok (.bipush 60, 2) := dk_16 60 (dk_at dksX8_laysSlot_7 9 rfl rfl)
theorem dX8_laysSlot_172 : decode cX8_laysSlot 172 = .ok (.if_icmp .gt 21, 3) := dk_163 0 21 (dk_at dksX8_laysSlot_7 11 rfl rfl)
theorem dX8_laysSlot_175 : decode cX8_laysSlot 175 = .ok (.aload_n 0, 1) := dk_42 (dk_at dksX8_laysSlot_7 14 rfl rfl)
theorem dX8_laysSlot_176 : decode cX8_laysSlot 176 = .ok (.getfield 51, 3) := dk_180 0 51 (dk_at dksX8_laysSlot_7 15 rfl rfl)
theorem dX8_laysSlot_179 : decode cX8_laysSlot 179 = .ok (.iload_n 3, 1) := dk_29 (dk_at dksX8_laysSlot_7 18 rfl rfl)
theorem dX8_laysSlot_180 : decode cX8_laysSlot 180 = .ok (.aload_n 0, 1) := dk_42 (dk_at dksX8_laysSlot_7 19 rfl rfl)
theorem dX8_laysSlot_181 : decode cX8_laysSlot 181 = .ok (.getfield 54, 3) := dk_180 0 54 (dk_at dksX8_laysSlot_7 20 rfl rfl)
theorem dX8_laysSlot_184 : decode cX8_laysSlot 184 = .ok (.iload_n 3, 1) := dk_29 (dk_at dksX8_laysSlot_7 23 rfl rfl)
theorem dX8_laysSlot_185 : decode cX8_laysSlot 185 = .ok (.iaload, 1) := dk_46 (dk_at dksX8_laysSlot_8 0 rfl rfl)
theorem dX8_laysSlot_186 : decode cX8_laysSlot 186 = .ok (.iastore, 1) := dk_79 (dk_at dksX8_laysSlot_8 1 rfl rfl)
theorem dX8_laysSlot_187 : decode cX8_laysSlot 187 = .ok (.iinc 3 1, 3) := dk_132 3 1 (dk_at dksX8_laysSlot_8 2 rfl rfl)
theorem dX8_laysSlot_190 : decode cX8_laysSlot 190 = .ok (.goto (-21), 3) := dk_167 255 235 (dk_at dksX8_laysSlot_8 5 rfl rfl)
theorem dX8_laysSlot_193 : decode cX8_laysSlot 193 = .ok (.return_, 1) := dk_177 (dk_at dksX8_laysSlot_8 8 rfl rfl)
abbrev cX8_at : ByteArray := prog_18_method_98_code
def yX8_at : MethodName := ⟨RX8, "at", "(II)I"⟩
def dkwX8_at_2 : List UInt8 := [172]
abbrev dktX8_at_2 : List UInt8 := dkwX8_at_2 ++ []
def dkwX8_at_1 : List UInt8 := [167, 0, 4, 3, 4, 182, 1, 6, 153, 0, 5, 3, 172, 42, 27, 182, 1, 141, 42, 180, 0, 57, 28, 46]
abbrev dktX8_at_1 : List UInt8 := dkwX8_at_1 ++ dktX8_at_2
def dkwX8_at_0 : List UInt8 := [42, 3, 181, 0, 3, 42, 42, 27, 182, 1, 44, 154, 0, 10, 28, 184, 1, 41, 153, 0, 7, 4]
abbrev dktX8_at_0 : List UInt8 := dkwX8_at_0 ++ dktX8_at_1
theorem dksX8_at_0 : cX8_at.data.toList.drop 0 = dktX8_at_0 := by decide +kernel
theorem dksX8_at_1 : cX8_at.data.toList.drop 22 = dktX8_at_1 := dk_seg dksX8_at_0 22 rfl rfl
theorem dksX8_at_2 : cX8_at.data.toList.drop 46 = dktX8_at_2 := dk_seg dksX8_at_1 24 rfl rfl
theorem dX8_at_0 : decode cX8_at 0 = .ok (.aload_n 0, 1) := dk_42 (dk_at dksX8_at_0 0 rfl rfl)
theorem dX8_at_1 : decode cX8_at 1 = .ok (.iconst 0, 1) := dk_3 (dk_at dksX8_at_0 1 rfl rfl)
theorem dX8_at_2 : decode cX8_at 2 = .ok (.putfield 3, 3) := dk_181 0 3 (dk_at dksX8_at_0 2 rfl rfl)
theorem dX8_at_5 : decode cX8_at 5 = .ok (.aload_n 0, 1) := dk_42 (dk_at dksX8_at_0 5 rfl rfl)
theorem dX8_at_6 : decode cX8_at 6 = .ok (.aload_n 0, 1) := dk_42 (dk_at dksX8_at_0 6 rfl rfl)
theorem dX8_at_7 : decode cX8_at 7 = .ok (.iload_n 1, 1) := dk_27 (dk_at dksX8_at_0 7 rfl rfl)
theorem dX8_at_8 : decode cX8_at 8 = .ok (.invokevirtual 300, 3) := dk_182 1 44 (dk_at dksX8_at_0 8 rfl rfl)
theorem dX8_at_11 : decode cX8_at 11 = .ok (.ifCond .ne 10, 3) := dk_154 0 10 (dk_at dksX8_at_0 11 rfl rfl)
theorem dX8_at_14 : decode cX8_at 14 = .ok (.iload_n 2, 1) := dk_28 (dk_at dksX8_at_0 14 rfl rfl)
theorem dX8_at_15 : decode cX8_at 15 = .ok (.invokestatic 297, 3) := dk_184 1 41 (dk_at dksX8_at_0 15 rfl rfl)
theorem dX8_at_18 : decode cX8_at 18 = .ok (.ifCond .eq 7, 3) := dk_153 0 7 (dk_at dksX8_at_0 18 rfl rfl)
theorem dX8_at_21 : decode cX8_at 21 = .ok (.iconst 1, 1) := dk_4 (dk_at dksX8_at_0 21 rfl rfl)
theorem dX8_at_22 : decode cX8_at 22 = .ok (.goto 4, 3) := dk_167 0 4 (dk_at dksX8_at_1 0 rfl rfl)
theorem dX8_at_25 : decode cX8_at 25 = .ok (.iconst 0, 1) := dk_3 (dk_at dksX8_at_1 3 rfl rfl)
theorem dX8_at_26 : decode cX8_at 26 = .ok (.iconst 1, 1) := dk_4 (dk_at dksX8_at_1 4 rfl rfl)
theorem dX8_at_27 : decode cX8_at 27 = .ok (.invokevirtual 262, 3) := dk_182 1 6 (dk_at dksX8_at_1 5 rfl rfl)
theorem dX8_at_30 : decode cX8_at 30 = .ok (.ifCond .eq 5, 3) := dk_153 0 5 (dk_at dksX8_at_1 8 rfl rfl)
theorem dX8_at_33 : decode cX8_at 33 = .ok (.iconst 0, 1) := dk_3 (dk_at dksX8_at_1 11 rfl rfl)
theorem dX8_at_34 : decode cX8_at 34 = .ok (.ireturn, 1) := dk_172 (dk_at dksX8_at_1 12 rfl rfl)
theorem dX8_at_35 : decode cX8_at 35 = .ok (.aload_n 0, 1) := dk_42 (dk_at dksX8_at_1 13 rfl rfl)
theorem dX8_at_36 : decode cX8_at 36 = .ok (.iload_n 1, 1) := dk_27 (dk_at dksX8_at_1 14 rfl rfl)
theorem dX8_at_37 : decode cX8_at 37 = .ok (.invokevirtual 397, 3) := dk_182 1 141 (dk_at dksX8_at_1 15 rfl rfl)
theorem dX8_at_40 : decode cX8_at 40 = .ok (.aload_n 0, 1) := dk_42 (dk_at dksX8_at_1 18 rfl rfl)
theorem dX8_at_41 : decode cX8_at 41 = .ok (.getfield 57, 3) := dk_180 0 57 (dk_at dksX8_at_1 19 rfl rfl)
theorem dX8_at_44 : decode cX8_at 44 = .ok (.iload_n 2, 1) := dk_28 (dk_at dksX8_at_1 22 rfl rfl)
theorem dX8_at_45 : decode cX8_at 45 = .ok (.iaload, 1) := dk_46 (dk_at dksX8_at_1 23 rfl rfl)
theorem dX8_at_46 : decode cX8_at 46 = .ok (.ireturn, 1) := dk_172 (dk_at dksX8_at_2 0 rfl rfl)
abbrev cX8_odds : ByteArray := prog_18_method_99_code
def yX8_odds : MethodName := ⟨RX8, "odds", "(I)I"⟩
def dkwX8_odds_1 : List UInt8 := [182, 1, 149, 172]
abbrev dktX8_odds_1 : List UInt8 := dkwX8_odds_1 ++ []
def dkwX8_odds_0 : List UInt8 := [42, 3, 181, 0, 3, 42, 42, 27, 182, 1, 44, 4, 182, 1, 6, 153, 0, 7, 3, 167, 0, 8, 42, 27]
abbrev dktX8_odds_0 : List UInt8 := dkwX8_odds_0 ++ dktX8_odds_1
theorem dksX8_odds_0 : cX8_odds.data.toList.drop 0 = dktX8_odds_0 := by decide +kernel
theorem dksX8_odds_1 : cX8_odds.data.toList.drop 24 = dktX8_odds_1 := dk_seg dksX8_odds_0 24 rfl rfl
theorem dX8_odds_0 : decode cX8_odds 0 = .ok (.aload_n 0, 1) := dk_42 (dk_at dksX8_odds_0 0 rfl rfl)
theorem dX8_odds_1 : decode cX8_odds 1 = .ok (.iconst 0, 1) := dk_3 (dk_at dksX8_odds_0 1 rfl rfl)
theorem dX8_odds_2 : decode cX8_odds 2 = .ok (.putfield 3, 3) := dk_181 0 3 (dk_at dksX8_odds_0 2 rfl rfl)
theorem dX8_odds_5 : decode cX8_odds 5 = .ok (.aload_n 0, 1) := dk_42 (dk_at dksX8_odds_0 5 rfl rfl)
theorem dX8_odds_6 : decode cX8_odds 6 = .ok (.aload_n 0, 1) := dk_42 (dk_at dksX8_odds_0 6 rfl rfl)
theorem dX8_odds_7 : decode cX8_odds 7 = .ok (.iload_n 1, 1) := dk_27 (dk_at dksX8_odds_0 7 rfl rfl)
theorem dX8_odds_8 : decode cX8_odds 8 = .ok (.invokevirtual 300, 3) := dk_182 1 44 (dk_at dksX8_odds_0 8 rfl rfl)
theorem dX8_odds_11 : decode cX8_odds 11 = .ok (.iconst 1, 1) := dk_4 (dk_at dksX8_odds_0 11 rfl rfl)
theorem dX8_odds_12 : decode cX8_odds 12 = .ok (.invokevirtual 262, 3) := dk_182 1 6 (dk_at dksX8_odds_0 12 rfl rfl)
theorem dX8_odds_15 : decode cX8_odds 15 = .ok (.ifCond .eq 7, 3) := dk_153 0 7 (dk_at dksX8_odds_0 15 rfl rfl)
theorem dX8_odds_18 : decode cX8_odds 18 = .ok (.iconst 0, 1) := dk_3 (dk_at dksX8_odds_0 18 rfl rfl)
theorem dX8_odds_19 : decode cX8_odds 19 = .ok (.goto 8, 3) := dk_167 0 8 (dk_at dksX8_odds_0 19 rfl rfl)
theorem dX8_odds_22 : decode cX8_odds 22 = .ok (.aload_n 0, 1) := dk_42 (dk_at dksX8_odds_0 22 rfl rfl)
theorem dX8_odds_23 : decode cX8_odds 23 = .ok (.iload_n 1, 1) := dk_27 (dk_at dksX8_odds_0 23 rfl rfl)
theorem dX8_odds_24 : decode cX8_odds 24 = .ok (.invokevirtual 405, 3) := dk_182 1 149 (dk_at dksX8_odds_1 0 rfl rfl)
theorem dX8_odds_27 : decode cX8_odds 27 = .ok (.ireturn, 1) := dk_172 (dk_at dksX8_odds_1 3 rfl rfl)
abbrev cX8_oddsOf : ByteArray := prog_18_method_96_code
def yX8_oddsOf : MethodName := ⟨RX8, "oddsOf", "(I)I"⟩
def dkwX8_oddsOf_0 : List UInt8 := [20, 1, 144, 42, 27, 182, 1, 146, 133, 105, 42, 180, 1, 135, 133, 109, 136, 172]
abbrev dktX8_oddsOf_0 : List UInt8 := dkwX8_oddsOf_0 ++ []
theorem dksX8_oddsOf_0 : cX8_oddsOf.data.toList.drop 0 = dktX8_oddsOf_0 := by decide +kernel
theorem dX8_oddsOf_0 : decode cX8_oddsOf 0 = .ok (.ldc2_w 400, 3) := dk_20 1 144 (dk_at dksX8_oddsOf_0 0 rfl rfl)
theorem dX8_oddsOf_3 : decode cX8_oddsOf 3 = .ok (.aload_n 0, 1) := dk_42 (dk_at dksX8_oddsOf_0 3 rfl rfl)
theorem dX8_oddsOf_4 : decode cX8_oddsOf 4 = .ok (.iload_n 1, 1) := dk_27 (dk_at dksX8_oddsOf_0 4 rfl rfl)
theorem dX8_oddsOf_5 : decode cX8_oddsOf 5 = .ok (.invokevirtual 402, 3) := dk_182 1 146 (dk_at dksX8_oddsOf_0 5 rfl rfl)
theorem dX8_oddsOf_8 : decode cX8_oddsOf 8 = .ok (.i2l, 1) := dk_133 (dk_at dksX8_oddsOf_0 8 rfl rfl)
theorem dX8_oddsOf_9 : decode cX8_oddsOf 9 = .ok (.lmul, 1) := dk_105 (dk_at dksX8_oddsOf_0 9 rfl rfl)
theorem dX8_oddsOf_10 : decode cX8_oddsOf 10 = .ok (.aload_n 0, 1) := dk_42 (dk_at dksX8_oddsOf_0 10 rfl rfl)
theorem dX8_oddsOf_11 : decode cX8_oddsOf 11 = .ok (.getfield 391, 3) := dk_180 1 135 (dk_at dksX8_oddsOf_0 11 rfl rfl)
theorem dX8_oddsOf_14 : decode cX8_oddsOf 14 = .ok (.i2l, 1) := dk_133 (dk_at dksX8_oddsOf_0 14 rfl rfl)
theorem dX8_oddsOf_15 : decode cX8_oddsOf 15 = .ok (.ldiv, 1) := dk_109 (dk_at dksX8_oddsOf_0 15 rfl rfl)
theorem dX8_oddsOf_16 : decode cX8_oddsOf 16 = .ok (.l2i, 1) := dk_136 (dk_at dksX8_oddsOf_0 16 rfl rfl)
theorem dX8_oddsOf_17 : decode cX8_oddsOf 17 = .ok (.ireturn, 1) := dk_172 (dk_at dksX8_oddsOf_0 17 rfl rfl)
abbrev cX8_gap : ByteArray := prog_18_method_101_code
def yX8_gap : MethodName := ⟨RX8, "gap", "()I"⟩
def dkwX8_gap_0 : List UInt8 := [42, 3, 181, 0, 3, 42, 182, 1, 155, 172]
abbrev dktX8_gap_0 : List UInt8 := dkwX8_gap_0 ++ []
theorem dksX8_gap_0 : cX8_gap.data.toList.drop 0 = dktX8_gap_0 := by decide +kernel
theorem dX8_gap_0 : decode cX8_gap 0 = .ok (.aload_n 0, 1) := dk_42 (dk_at dksX8_gap_0 0 rfl rfl)
theorem dX8_gap_1 : decode cX8_gap 1 = .ok (.iconst 0, 1) := dk_3 (dk_at dksX8_gap_0 1 rfl rfl)
theorem dX8_gap_2 : decode cX8_gap 2 = .ok (.putfield 3, 3) := dk_181 0 3 (dk_at dksX8_gap_0 2 rfl rfl)
theorem dX8_gap_5 : decode cX8_gap 5 = .ok (.aload_n 0, 1) := dk_42 (dk_at dksX8_gap_0 5 rfl rfl)
theorem dX8_gap_6 : decode cX8_gap 6 = .ok (.invokevirtual 411, 3) := dk_182 1 155 (dk_at dksX8_gap_0 6 rfl rfl)
theorem dX8_gap_9 : decode cX8_gap 9 = .ok (.ireturn, 1) := dk_172 (dk_at dksX8_gap_0 9 rfl rfl)
abbrev cX8_gapNow : ByteArray := prog_18_method_100_code
def yX8_gapNow : MethodName := ⟨RX8, "gapNow", "()I"⟩
def dkwX8_gapNow_2 : List UInt8 := [132, 2, 1, 167, 255, 212, 27, 172]
abbrev dktX8_gapNow_2 : List UInt8 := dkwX8_gapNow_2 ++ []
def dkwX8_gapNow_1 : List UInt8 := [182, 1, 152, 153, 0, 11, 42, 28, 182, 1, 149, 167, 0, 9, 42, 28, 182, 1, 149, 116, 96, 60]
abbrev dktX8_gapNow_1 : List UInt8 := dkwX8_gapNow_1 ++ dktX8_gapNow_2
def dkwX8_gapNow_0 : List UInt8 := [3, 60, 3, 61, 28, 42, 182, 0, 91, 162, 0, 42, 42, 28, 182, 1, 99, 153, 0, 28, 27, 42, 28]
abbrev dktX8_gapNow_0 : List UInt8 := dkwX8_gapNow_0 ++ dktX8_gapNow_1
theorem dksX8_gapNow_0 : cX8_gapNow.data.toList.drop 0 = dktX8_gapNow_0 := by decide +kernel
theorem dksX8_gapNow_1 : cX8_gapNow.data.toList.drop 23 = dktX8_gapNow_1 := dk_seg dksX8_gapNow_0 23 rfl rfl
theorem dksX8_gapNow_2 : cX8_gapNow.data.toList.drop 45 = dktX8_gapNow_2 := dk_seg dksX8_gapNow_1 22 rfl rfl
theorem dX8_gapNow_0 : decode cX8_gapNow 0 = .ok (.iconst 0, 1) := dk_3 (dk_at dksX8_gapNow_0 0 rfl rfl)
theorem dX8_gapNow_1 : decode cX8_gapNow 1 = .ok (.istore_n 1, 1) := dk_60 (dk_at dksX8_gapNow_0 1 rfl rfl)
theorem dX8_gapNow_2 : decode cX8_gapNow 2 = .ok (.iconst 0, 1) := dk_3 (dk_at dksX8_gapNow_0 2 rfl rfl)
theorem dX8_gapNow_3 : decode cX8_gapNow 3 = .ok (.istore_n 2, 1) := dk_61 (dk_at dksX8_gapNow_0 3 rfl rfl)
theorem dX8_gapNow_4 : decode cX8_gapNow 4 = .ok (.iload_n 2, 1) := dk_28 (dk_at dksX8_gapNow_0 4 rfl rfl)
theorem dX8_gapNow_5 : decode cX8_gapNow 5 = .ok (.aload_n 0, 1) := dk_42 (dk_at dksX8_gapNow_0 5 rfl rfl)
theorem dX8_gapNow_6 : decode cX8_gapNow 6 = .ok (.invokevirtual 91, 3) := dk_182 0 91 (dk_at dksX8_gapNow_0 6 rfl rfl)
theorem dX8_gapNow_9 : decode cX8_gapNow 9 = .ok (.if_icmp .ge 42, 3) := dk_162 0 42 (dk_at dksX8_gapNow_0 9 rfl rfl)
theorem dX8_gapNow_12 : decode cX8_gapNow 12 = .ok (.aload_n 0, 1) := dk_42 (dk_at dksX8_gapNow_0 12 rfl rfl)
theorem dX8_gapNow_13 : decode cX8_gapNow 13 = .ok (.iload_n 2, 1) := dk_28 (dk_at dksX8_gapNow_0 13 rfl rfl)
theorem dX8_gapNow_14 : decode cX8_gapNow 14 = .ok (.invokevirtual 355, 3) := dk_182 1 99 (dk_at dksX8_gapNow_0 14 rfl rfl)
theorem dX8_gapNow_17 : decode cX8_gapNow 17 = .ok (.ifCond .eq 28, 3) := dk_153 0 28 (dk_at dksX8_gapNow_0 17 rfl rfl)
theorem dX8_gapNow_20 : decode cX8_gapNow 20 = .ok (.iload_n 1, 1) := dk_27 (dk_at dksX8_gapNow_0 20 rfl rfl)
theorem dX8_gapNow_21 : decode cX8_gapNow 21 = .ok (.aload_n 0, 1) := dk_42 (dk_at dksX8_gapNow_0 21 rfl rfl)
theorem dX8_gapNow_22 : decode cX8_gapNow 22 = .ok (.iload_n 2, 1) := dk_28 (dk_at dksX8_gapNow_0 22 rfl rfl)
theorem dX8_gapNow_23 : decode cX8_gapNow 23 = .ok (.invokevirtual 408, 3) := dk_182 1 152 (dk_at dksX8_gapNow_1 0 rfl rfl)
theorem dX8_gapNow_26 : decode cX8_gapNow 26 = .ok (.ifCond .eq 11, 3) := dk_153 0 11 (dk_at dksX8_gapNow_1 3 rfl rfl)
theorem dX8_gapNow_29 : decode cX8_gapNow 29 = .ok (.aload_n 0, 1) := dk_42 (dk_at dksX8_gapNow_1 6 rfl rfl)
theorem dX8_gapNow_30 : decode cX8_gapNow 30 = .ok (.iload_n 2, 1) := dk_28 (dk_at dksX8_gapNow_1 7 rfl rfl)
theorem dX8_gapNow_31 : decode cX8_gapNow 31 = .ok (.invokevirtual 405, 3) := dk_182 1 149 (dk_at dksX8_gapNow_1 8 rfl rfl)
theorem dX8_gapNow_34 : decode cX8_gapNow 34 = .ok (.goto 9, 3) := dk_167 0 9 (dk_at dksX8_gapNow_1 11 rfl rfl)
theorem dX8_gapNow_37 : decode cX8_gapNow 37 = .ok (.aload_n 0, 1) := dk_42 (dk_at dksX8_gapNow_1 14 rfl rfl)
theorem dX8_gapNow_38 : decode cX8_gapNow 38 = .ok (.iload_n 2, 1) := dk_28 (dk_at dksX8_gapNow_1 15 rfl rfl)
theorem dX8_gapNow_39 : decode cX8_gapNow 39 = .ok (.invokevirtual 405, 3) := dk_182 1 149 (dk_at dksX8_gapNow_1 16 rfl rfl)
theorem dX8_gapNow_42 : decode cX8_gapNow 42 = .ok (.ineg, 1) := dk_116 (dk_at dksX8_gapNow_1 19 rfl rfl)
theorem dX8_gapNow_43 : decode cX8_gapNow 43 = .ok (.iadd, 1) := dk_96 (dk_at dksX8_gapNow_1 20 rfl rfl)
theorem dX8_gapNow_44 : decode cX8_gapNow 44 = .ok (.istore_n 1, 1) := dk_60 (dk_at dksX8_gapNow_1 21 rfl rfl)
theorem dX8_gapNow_45 : decode cX8_gapNow 45 = .ok (.iinc 2 1, 3) := dk_132 2 1 (dk_at dksX8_gapNow_2 0 rfl rfl)
theorem dX8_gapNow_48 : decode cX8_gapNow 48 = .ok (.goto (-44), 3) := dk_167 255 212 (dk_at dksX8_gapNow_2 3 rfl rfl)
theorem dX8_gapNow_51 : decode cX8_gapNow 51 = .ok (.iload_n 1, 1) := dk_27 (dk_at dksX8_gapNow_2 6 rfl rfl)
theorem dX8_gapNow_52 : decode cX8_gapNow 52 = .ok (.ireturn, 1) := dk_172 (dk_at dksX8_gapNow_2 7 rfl rfl)
abbrev cX8_isInnocent : ByteArray := prog_18_method_18_code
def yX8_isInnocent : MethodName := ⟨RX8, "isInnocent", "(I)Z"⟩
def dkwX8_isInnocent_0 : List UInt8 := [42, 27, 3, 182, 0, 80, 154, 0, 7, 4, 167, 0, 4, 3, 172]
abbrev dktX8_isInnocent_0 : List UInt8 := dkwX8_isInnocent_0 ++ []
theorem dksX8_isInnocent_0 : cX8_isInnocent.data.toList.drop 0 = dktX8_isInnocent_0 := by decide +kernel
theorem dX8_isInnocent_0 : decode cX8_isInnocent 0 = .ok (.aload_n 0, 1) := dk_42 (dk_at dksX8_isInnocent_0 0 rfl rfl)
theorem dX8_isInnocent_1 : decode cX8_isInnocent 1 = .ok (.iload_n 1, 1) := dk_27 (dk_at dksX8_isInnocent_0 1 rfl rfl)
theorem dX8_isInnocent_2 : decode cX8_isInnocent 2 = .ok (.iconst 0, 1) := dk_3 (dk_at dksX8_isInnocent_0 2 rfl rfl)
theorem dX8_isInnocent_3 : decode cX8_isInnocent 3 = .ok (.invokevirtual 80, 3) := dk_182 0 80 (dk_at dksX8_isInnocent_0 3 rfl rfl)
theorem dX8_isInnocent_6 : decode cX8_isInnocent 6 = .ok (.ifCond .ne 7, 3) := dk_154 0 7 (dk_at dksX8_isInnocent_0 6 rfl rfl)
theorem dX8_isInnocent_9 : decode cX8_isInnocent 9 = .ok (.iconst 1, 1) := dk_4 (dk_at dksX8_isInnocent_0 9 rfl rfl)
theorem dX8_isInnocent_10 : decode cX8_isInnocent 10 = .ok (.goto 4, 3) := dk_167 0 4 (dk_at dksX8_isInnocent_0 10 rfl rfl)
theorem dX8_isInnocent_13 : decode cX8_isInnocent 13 = .ok (.iconst 0, 1) := dk_3 (dk_at dksX8_isInnocent_0 13 rfl rfl)
theorem dX8_isInnocent_14 : decode cX8_isInnocent 14 = .ok (.ireturn, 1) := dk_172 (dk_at dksX8_isInnocent_0 14 rfl rfl)
abbrev cX8_errors : ByteArray := prog_18_method_102_code
def yX8_errors : MethodName := ⟨RX8, "errors", "(Z)I"⟩
def dkwX8_errors_2 : List UInt8 := [4, 167, 0, 4, 3, 27, 160, 0, 7, 4, 167, 0, 4, 3, 96, 61, 132, 3, 1, 167, 255, 200, 28, 172]
abbrev dktX8_errors_2 : List UInt8 := dkwX8_errors_2 ++ []
def dkwX8_errors_1 : List UInt8 := [153, 0, 40, 42, 29, 182, 1, 152, 27, 160, 0, 31, 28, 42, 29, 182, 1, 149, 17, 19, 136, 162, 0, 7]
abbrev dktX8_errors_1 : List UInt8 := dkwX8_errors_1 ++ dktX8_errors_2
def dkwX8_errors_0 : List UInt8 := [42, 3, 181, 0, 3, 3, 61, 3, 62, 29, 42, 182, 0, 91, 162, 0, 54, 42, 29, 182, 1, 99]
abbrev dktX8_errors_0 : List UInt8 := dkwX8_errors_0 ++ dktX8_errors_1
theorem dksX8_errors_0 : cX8_errors.data.toList.drop 0 = dktX8_errors_0 := by decide +kernel
theorem dksX8_errors_1 : cX8_errors.data.toList.drop 22 = dktX8_errors_1 := dk_seg dksX8_errors_0 22 rfl rfl
theorem dksX8_errors_2 : cX8_errors.data.toList.drop 46 = dktX8_errors_2 := dk_seg dksX8_errors_1 24 rfl rfl
theorem dX8_errors_0 : decode cX8_errors 0 = .ok (.aload_n 0, 1) := dk_42 (dk_at dksX8_errors_0 0 rfl rfl)
theorem dX8_errors_1 : decode cX8_errors 1 = .ok (.iconst 0, 1) := dk_3 (dk_at dksX8_errors_0 1 rfl rfl)
theorem dX8_errors_2 : decode cX8_errors 2 = .ok (.putfield 3, 3) := dk_181 0 3 (dk_at dksX8_errors_0 2 rfl rfl)
theorem dX8_errors_5 : decode cX8_errors 5 = .ok (.iconst 0, 1) := dk_3 (dk_at dksX8_errors_0 5 rfl rfl)
theorem dX8_errors_6 : decode cX8_errors 6 = .ok (.istore_n 2, 1) := dk_61 (dk_at dksX8_errors_0 6 rfl rfl)
theorem dX8_errors_7 : decode cX8_errors 7 = .ok (.iconst 0, 1) := dk_3 (dk_at dksX8_errors_0 7 rfl rfl)
theorem dX8_errors_8 : decode cX8_errors 8 = .ok (.istore_n 3, 1) := dk_62 (dk_at dksX8_errors_0 8 rfl rfl)
theorem dX8_errors_9 : decode cX8_errors 9 = .ok (.iload_n 3, 1) := dk_29 (dk_at dksX8_errors_0 9 rfl rfl)
theorem dX8_errors_10 : decode cX8_errors 10 = .ok (.aload_n 0, 1) := dk_42 (dk_at dksX8_errors_0 10 rfl rfl)
theorem dX8_errors_11 : decode cX8_errors 11 = .ok (.invokevirtual 91, 3) := dk_182 0 91 (dk_at dksX8_errors_0 11 rfl rfl)
theorem dX8_errors_14 : decode cX8_errors 14 = .ok (.if_icmp .ge 54, 3) := dk_162 0 54 (dk_at dksX8_errors_0 14 rfl rfl)
theorem dX8_errors_17 : decode cX8_errors 17 = .ok (.aload_n 0, 1) := dk_42 (dk_at dksX8_errors_0 17 rfl rfl)
theorem dX8_errors_18 : decode cX8_errors 18 = .ok (.iload_n 3, 1) := dk_29 (dk_at dksX8_errors_0 18 rfl rfl)
theorem dX8_errors_19 : decode cX8_errors 19 = .ok (.invokevirtual 355, 3) := dk_182 1 99 (dk_at dksX8_errors_0 19 rfl rfl)
theorem dX8_errors_22 : decode cX8_errors 22 = .ok (.ifCond .eq 40, 3) := dk_153 0 40 (dk_at dksX8_errors_1 0 rfl rfl)
theorem dX8_errors_25 : decode cX8_errors 25 = .ok (.aload_n 0, 1) := dk_42 (dk_at dksX8_errors_1 3 rfl rfl)
theorem dX8_errors_26 : decode cX8_errors 26 = .ok (.iload_n 3, 1) := dk_29 (dk_at dksX8_errors_1 4 rfl rfl)
theorem dX8_errors_27 : decode cX8_errors 27 = .ok (.invokevirtual 408, 3) := dk_182 1 152 (dk_at dksX8_errors_1 5 rfl rfl)
theorem dX8_errors_30 : decode cX8_errors 30 = .ok (.iload_n 1, 1) := dk_27 (dk_at dksX8_errors_1 8 rfl rfl)
theorem dX8_errors_31 : decode cX8_errors 31 = .ok (.if_icmp .ne 31, 3) := dk_160 0 31 (dk_at dksX8_errors_1 9 rfl rfl)
theorem dX8_errors_34 : decode cX8_errors 34 = .ok (.iload_n 2, 1) := dk_28 (dk_at dksX8_errors_1 12 rfl rfl)
theorem dX8_errors_35 : decode cX8_errors 35 = .ok (.aload_n 0, 1) := dk_42 (dk_at dksX8_errors_1 13 rfl rfl)
theorem dX8_errors_36 : decode cX8_errors 36 = .ok (.iload_n 3, 1) := dk_29 (dk_at dksX8_errors_1 14 rfl rfl)
theorem dX8_errors_37 : decode cX8_errors 37 = .ok (.invokevirtual 405, 3) := dk_182 1 149 (dk_at dksX8_errors_1 15 rfl rfl)
theorem dX8_errors_40 : decode cX8_errors 40 = .ok (.sipush 5000, 3) := dk_17 19 136 (dk_at dksX8_errors_1 18 rfl rfl)
theorem dX8_errors_43 : decode cX8_errors 43 = .ok (.if_icmp .ge 7, 3) := dk_162 0 7 (dk_at dksX8_errors_1 21 rfl rfl)
theorem dX8_errors_46 : decode cX8_errors 46 = .ok (.iconst 1, 1) := dk_4 (dk_at dksX8_errors_2 0 rfl rfl)
theorem dX8_errors_47 : decode cX8_errors 47 = .ok (.goto 4, 3) := dk_167 0 4 (dk_at dksX8_errors_2 1 rfl rfl)
theorem dX8_errors_50 : decode cX8_errors 50 = .ok (.iconst 0, 1) := dk_3 (dk_at dksX8_errors_2 4 rfl rfl)
theorem dX8_errors_51 : decode cX8_errors 51 = .ok (.iload_n 1, 1) := dk_27 (dk_at dksX8_errors_2 5 rfl rfl)
theorem dX8_errors_52 : decode cX8_errors 52 = .ok (.if_icmp .ne 7, 3) := dk_160 0 7 (dk_at dksX8_errors_2 6 rfl rfl)
theorem dX8_errors_55 : decode cX8_errors 55 = .ok (.iconst 1, 1) := dk_4 (dk_at dksX8_errors_2 9 rfl rfl)
theorem dX8_errors_56 : decode cX8_errors 56 = .ok (.goto 4, 3) := dk_167 0 4 (dk_at dksX8_errors_2 10 rfl rfl)
theorem dX8_errors_59 : decode cX8_errors 59 = .ok (.iconst 0, 1) := dk_3 (dk_at dksX8_errors_2 13 rfl rfl)
theorem dX8_errors_60 : decode cX8_errors 60 = .ok (.iadd, 1) := dk_96 (dk_at dksX8_errors_2 14 rfl rfl)
theorem dX8_errors_61 : decode cX8_errors 61 = .ok (.istore_n 2, 1) := dk_61 (dk_at dksX8_errors_2 15 rfl rfl)
theorem dX8_errors_62 : decode cX8_errors 62 = .ok (.iinc 3 1, 3) := dk_132 3 1 (dk_at dksX8_errors_2 16 rfl rfl)
theorem dX8_errors_65 : decode cX8_errors 65 = .ok (.goto (-56), 3) := dk_167 255 200 (dk_at dksX8_errors_2 19 rfl rfl)
theorem dX8_errors_68 : decode cX8_errors 68 = .ok (.iload_n 2, 1) := dk_28 (dk_at dksX8_errors_2 22 rfl rfl)
theorem dX8_errors_69 : decode cX8_errors 69 = .ok (.ireturn, 1) := dk_172 (dk_at dksX8_errors_2 23 rfl rfl)
abbrev cX8_bravest : ByteArray := prog_18_method_103_code
def yX8_bravest : MethodName := ⟨RX8, "bravest", "()I"⟩
def dkwX8_bravest_2 : List UInt8 := [162, 0, 7, 29, 167, 0, 4, 27, 60, 28, 21, 4, 184, 1, 96, 61, 132, 3, 1, 167, 255, 205, 27, 172]
abbrev dktX8_bravest_2 : List UInt8 := dkwX8_bravest_2 ++ []
def dkwX8_bravest_1 : List UInt8 := [182, 1, 99, 153, 0, 11, 42, 29, 182, 1, 149, 167, 0, 6, 19, 1, 158, 54, 4, 21, 4, 28]
abbrev dktX8_bravest_1 : List UInt8 := dkwX8_bravest_1 ++ dktX8_bravest_2
def dkwX8_bravest_0 : List UInt8 := [42, 3, 181, 0, 3, 2, 60, 19, 1, 158, 61, 3, 62, 29, 42, 182, 0, 91, 162, 0, 49, 42, 29]
abbrev dktX8_bravest_0 : List UInt8 := dkwX8_bravest_0 ++ dktX8_bravest_1
theorem dksX8_bravest_0 : cX8_bravest.data.toList.drop 0 = dktX8_bravest_0 := by decide +kernel
theorem dksX8_bravest_1 : cX8_bravest.data.toList.drop 23 = dktX8_bravest_1 := dk_seg dksX8_bravest_0 23 rfl rfl
theorem dksX8_bravest_2 : cX8_bravest.data.toList.drop 45 = dktX8_bravest_2 := dk_seg dksX8_bravest_1 22 rfl rfl
theorem dX8_bravest_0 : decode cX8_bravest 0 = .ok (.aload_n 0, 1) := dk_42 (dk_at dksX8_bravest_0 0 rfl rfl)
theorem dX8_bravest_1 : decode cX8_bravest 1 = .ok (.iconst 0, 1) := dk_3 (dk_at dksX8_bravest_0 1 rfl rfl)
theorem dX8_bravest_2 : decode cX8_bravest 2 = .ok (.putfield 3, 3) := dk_181 0 3 (dk_at dksX8_bravest_0 2 rfl rfl)
theorem dX8_bravest_5 : decode cX8_bravest 5 = .ok (.iconst (-1), 1) := dk_2 (dk_at dksX8_bravest_0 5 rfl rfl)
theorem dX8_bravest_6 : decode cX8_bravest 6 = .ok (.istore_n 1, 1) := dk_60 (dk_at dksX8_bravest_0 6 rfl rfl)
theorem dX8_bravest_7 : decode cX8_bravest 7 = .ok (.ldc_w 414, 3) := dk_19 1 158 (dk_at dksX8_bravest_0 7 rfl rfl)
theorem dX8_bravest_10 : decode cX8_bravest 10 = .ok (.istore_n 2, 1) := dk_61 (dk_at dksX8_bravest_0 10 rfl rfl)
theorem dX8_bravest_11 : decode cX8_bravest 11 = .ok (.iconst 0, 1) := dk_3 (dk_at dksX8_bravest_0 11 rfl rfl)
theorem dX8_bravest_12 : decode cX8_bravest 12 = .ok (.istore_n 3, 1) := dk_62 (dk_at dksX8_bravest_0 12 rfl rfl)
theorem dX8_bravest_13 : decode cX8_bravest 13 = .ok (.iload_n 3, 1) := dk_29 (dk_at dksX8_bravest_0 13 rfl rfl)
theorem dX8_bravest_14 : decode cX8_bravest 14 = .ok (.aload_n 0, 1) := dk_42 (dk_at dksX8_bravest_0 14 rfl rfl)
theorem dX8_bravest_15 : decode cX8_bravest 15 = .ok (.invokevirtual 91, 3) := dk_182 0 91 (dk_at dksX8_bravest_0 15 rfl rfl)
theorem dX8_bravest_18 : decode cX8_bravest 18 = .ok (.if_icmp .ge 49, 3) := dk_162 0 49 (dk_at dksX8_bravest_0 18 rfl rfl)
theorem dX8_bravest_21 : decode cX8_bravest 21 = .ok (.aload_n 0, 1) := dk_42 (dk_at dksX8_bravest_0 21 rfl rfl)
theorem dX8_bravest_22 : decode cX8_bravest 22 = .ok (.iload_n 3, 1) := dk_29 (dk_at dksX8_bravest_0 22 rfl rfl)
theorem dX8_bravest_23 : decode cX8_bravest 23 = .ok (.invokevirtual 355, 3) := dk_182 1 99 (dk_at dksX8_bravest_1 0 rfl rfl)
theorem dX8_bravest_26 : decode cX8_bravest 26 = .ok (.ifCond .eq 11, 3) := dk_153 0 11 (dk_at dksX8_bravest_1 3 rfl rfl)
theorem dX8_bravest_29 : decode cX8_bravest 29 = .ok (.aload_n 0, 1) := dk_42 (dk_at dksX8_bravest_1 6 rfl rfl)
theorem dX8_bravest_30 : decode cX8_bravest 30 = .ok (.iload_n 3, 1) := dk_29 (dk_at dksX8_bravest_1 7 rfl rfl)
theorem dX8_bravest_31 : decode cX8_bravest 31 = .ok (.invokevirtual 405, 3) := dk_182 1 149 (dk_at dksX8_bravest_1 8 rfl rfl)
theorem dX8_bravest_34 : decode cX8_bravest 34 = .ok (.goto 6, 3) := dk_167 0 6 (dk_at dksX8_bravest_1 11 rfl rfl)
theorem dX8_bravest_37 : decode cX8_bravest 37 = .ok (.ldc_w 414, 3) := dk_19 1 158 (dk_at dksX8_bravest_1 14 rfl rfl)
theorem dX8_bravest_40 : decode cX8_bravest 40 = .ok (.istore 4, 2) := dk_54 4 (dk_at dksX8_bravest_1 17 rfl rfl)
theorem dX8_bravest_42 : decode cX8_bravest 42 = .ok (.iload 4, 2) := dk_21 4 (dk_at dksX8_bravest_1 19 rfl rfl)
theorem dX8_bravest_44 : decode cX8_bravest 44 = .ok (.iload_n 2, 1) := dk_28 (dk_at dksX8_bravest_1 21 rfl rfl)
theorem dX8_bravest_45 : decode cX8_bravest 45 = .ok (.if_icmp .ge 7, 3) := dk_162 0 7 (dk_at dksX8_bravest_2 0 rfl rfl)
theorem dX8_bravest_48 : decode cX8_bravest 48 = .ok (.iload_n 3, 1) := dk_29 (dk_at dksX8_bravest_2 3 rfl rfl)
theorem dX8_bravest_49 : decode cX8_bravest 49 = .ok (.goto 4, 3) := dk_167 0 4 (dk_at dksX8_bravest_2 4 rfl rfl)
theorem dX8_bravest_52 : decode cX8_bravest 52 = .ok (.iload_n 1, 1) := dk_27 (dk_at dksX8_bravest_2 7 rfl rfl)
theorem dX8_bravest_53 : decode cX8_bravest 53 = .ok (.istore_n 1, 1) := dk_60 (dk_at dksX8_bravest_2 8 rfl rfl)
theorem dX8_bravest_54 : decode cX8_bravest 54 = .ok (.iload_n 2, 1) := dk_28 (dk_at dksX8_bravest_2 9 rfl rfl)
theorem dX8_bravest_55 : decode cX8_bravest 55 = .ok (.iload 4, 2) := dk_21 4 (dk_at dksX8_bravest_2 10 rfl rfl)
theorem dX8_bravest_57 : decode cX8_bravest 57 = .ok (.invokestatic 352, 3) := dk_184 1 96 (dk_at dksX8_bravest_2 12 rfl rfl)
theorem dX8_bravest_60 : decode cX8_bravest 60 = .ok (.istore_n 2, 1) := dk_61 (dk_at dksX8_bravest_2 15 rfl rfl)
theorem dX8_bravest_61 : decode cX8_bravest 61 = .ok (.iinc 3 1, 3) := dk_132 3 1 (dk_at dksX8_bravest_2 16 rfl rfl)
theorem dX8_bravest_64 : decode cX8_bravest 64 = .ok (.goto (-51), 3) := dk_167 255 205 (dk_at dksX8_bravest_2 19 rfl rfl)
theorem dX8_bravest_67 : decode cX8_bravest 67 = .ok (.iload_n 1, 1) := dk_27 (dk_at dksX8_bravest_2 22 rfl rfl)
theorem dX8_bravest_68 : decode cX8_bravest 68 = .ok (.ireturn, 1) := dk_172 (dk_at dksX8_bravest_2 23 rfl rfl)
abbrev cX8_loudest : ByteArray := prog_18_method_104_code
def yX8_loudest : MethodName := ⟨RX8, "loudest", "()I"⟩
def dkwX8_loudest_4 : List UInt8 := [60, 28, 21, 4, 184, 1, 33, 61, 132, 3, 1, 167, 255, 163, 27, 172]
abbrev dktX8_loudest_4 : List UInt8 := dkwX8_loudest_4 ++ []
def dkwX8_loudest_3 : List UInt8 := [182, 0, 74, 46, 96, 54, 4, 132, 5, 1, 167, 255, 202, 21, 4, 28, 164, 0, 7, 29, 167, 0, 4, 27]
abbrev dktX8_loudest_3 : List UInt8 := dkwX8_loudest_3 ++ dktX8_loudest_4
def dkwX8_loudest_2 : List UInt8 := [182, 1, 99, 154, 0, 6, 167, 0, 25, 42, 21, 5, 182, 1, 141, 21, 4, 42, 180, 0, 57, 42, 29, 6]
abbrev dktX8_loudest_2 : List UInt8 := dkwX8_loudest_2 ++ dktX8_loudest_3
def dkwX8_loudest_1 : List UInt8 := [54, 5, 21, 5, 42, 182, 0, 91, 162, 0, 51, 42, 29, 182, 0, 94, 153, 0, 43, 42, 21, 5]
abbrev dktX8_loudest_1 : List UInt8 := dkwX8_loudest_1 ++ dktX8_loudest_2
def dkwX8_loudest_0 : List UInt8 := [42, 3, 181, 0, 3, 2, 60, 3, 61, 3, 62, 29, 42, 182, 0, 83, 162, 0, 91, 3, 54, 4, 3]
abbrev dktX8_loudest_0 : List UInt8 := dkwX8_loudest_0 ++ dktX8_loudest_1
theorem dksX8_loudest_0 : cX8_loudest.data.toList.drop 0 = dktX8_loudest_0 := by decide +kernel
theorem dksX8_loudest_1 : cX8_loudest.data.toList.drop 23 = dktX8_loudest_1 := dk_seg dksX8_loudest_0 23 rfl rfl
theorem dksX8_loudest_2 : cX8_loudest.data.toList.drop 45 = dktX8_loudest_2 := dk_seg dksX8_loudest_1 22 rfl rfl
theorem dksX8_loudest_3 : cX8_loudest.data.toList.drop 69 = dktX8_loudest_3 := dk_seg dksX8_loudest_2 24 rfl rfl
theorem dksX8_loudest_4 : cX8_loudest.data.toList.drop 93 = dktX8_loudest_4 := dk_seg dksX8_loudest_3 24 rfl rfl
theorem dX8_loudest_0 : decode cX8_loudest 0 = .ok (.aload_n 0, 1) := dk_42 (dk_at dksX8_loudest_0 0 rfl rfl)
theorem dX8_loudest_1 : decode cX8_loudest 1 = .ok (.iconst 0, 1) := dk_3 (dk_at dksX8_loudest_0 1 rfl rfl)
theorem dX8_loudest_2 : decode cX8_loudest 2 = .ok (.putfield 3, 3) := dk_181 0 3 (dk_at dksX8_loudest_0 2 rfl rfl)
theorem dX8_loudest_5 : decode cX8_loudest 5 = .ok (.iconst (-1), 1) := dk_2 (dk_at dksX8_loudest_0 5 rfl rfl)
theorem dX8_loudest_6 : decode cX8_loudest 6 = .ok (.istore_n 1, 1) := dk_60 (dk_at dksX8_loudest_0 6 rfl rfl)
theorem dX8_loudest_7 : decode cX8_loudest 7 = .ok (.iconst 0, 1) := dk_3 (dk_at dksX8_loudest_0 7 rfl rfl)
theorem dX8_loudest_8 : decode cX8_loudest 8 = .ok (.istore_n 2, 1) := dk_61 (dk_at dksX8_loudest_0 8 rfl rfl)
theorem dX8_loudest_9 : decode cX8_loudest 9 = .ok (.iconst 0, 1) := dk_3 (dk_at dksX8_loudest_0 9 rfl rfl)
theorem dX8_loudest_10 : decode cX8_loudest 10 = .ok (.istore_n 3, 1) := dk_62 (dk_at dksX8_loudest_0 10 rfl rfl)
theorem dX8_loudest_11 : decode cX8_loudest 11 = .ok (.iload_n 3, 1) := dk_29 (dk_at dksX8_loudest_0 11 rfl rfl)
theorem dX8_loudest_12 : decode cX8_loudest 12 = .ok (.aload_n 0, 1) := dk_42 (dk_at dksX8_loudest_0 12 rfl rfl)
theorem dX8_loudest_13 : decode cX8_loudest 13 = .ok (.invokevirtual 83, 3) := dk_182 0 83 (dk_at dksX8_loudest_0 13 rfl rfl)
theorem dX8_loudest_16 : decode cX8_loudest 16 = .ok (.if_icmp .ge 91, 3) := dk_162 0 91 (dk_at dksX8_loudest_0 16 rfl rfl)
theorem dX8_loudest_19 : decode cX8_loudest 19 = .ok (.iconst 0, 1) := dk_3 (dk_at dksX8_loudest_0 19 rfl rfl)
theorem dX8_loudest_20 : decode cX8_loudest 20 = .ok (.istore 4, 2) := dk_54 4 (dk_at dksX8_loudest_0 20 rfl rfl)
theorem dX8_loudest_22 : decode cX8_loudest 22 = .ok (.iconst 0, 1) := dk_3 (dk_at dksX8_loudest_0 22 rfl rfl)
theorem dX8_loudest_23 : decode cX8_loudest 23 = .ok (.istore 5, 2) := dk_54 5 (dk_at dksX8_loudest_1 0 rfl rfl)
theorem dX8_loudest_25 : decode cX8_loudest 25 = .ok (.iload 5, 2) := dk_21 5 (dk_at dksX8_loudest_1 2 rfl rfl)
theorem dX8_loudest_27 : decode cX8_loudest 27 = .ok (.aload_n 0, 1) := dk_42 (dk_at dksX8_loudest_1 4 rfl rfl)
theorem dX8_loudest_28 : decode cX8_loudest 28 = .ok (.invokevirtual 91, 3) := dk_182 0 91 (dk_at dksX8_loudest_1 5 rfl rfl)
theorem dX8_loudest_31 : decode cX8_loudest 31 = .ok (.if_icmp .ge 51, 3) := dk_162 0 51 (dk_at dksX8_loudest_1 8 rfl rfl)
theorem dX8_loudest_34 : decode cX8_loudest 34 = .ok (.aload_n 0, 1) := dk_42 (dk_at dksX8_loudest_1 11 rfl rfl)
theorem dX8_loudest_35 : decode cX8_loudest 35 = .ok (.iload_n 3, 1) := dk_29 (dk_at dksX8_loudest_1 12 rfl rfl)
theorem dX8_loudest_36 : decode cX8_loudest 36 = .ok (.invokevirtual 94, 3) := dk_182 0 94 (dk_at dksX8_loudest_1 13 rfl rfl)
theorem dX8_loudest_39 : decode cX8_loudest 39 = .ok (.ifCond .eq 43, 3) := dk_153 0 43 (dk_at dksX8_loudest_1 16 rfl rfl)
theorem dX8_loudest_42 : decode cX8_loudest 42 = .ok (.aload_n 0, 1) := dk_42 (dk_at dksX8_loudest_1 19 rfl rfl)
theorem dX8_loudest_43 : decode cX8_loudest 43 = .ok (.iload 5, 2) := dk_21 5 (dk_at dksX8_loudest_1 20 rfl rfl)
theorem dX8_loudest_45 : decode cX8_loudest 45 = .ok (.invokevirtual 355, 3) := dk_182 1 99 (dk_at dksX8_loudest_2 0 rfl rfl)
theorem dX8_loudest_48 : decode cX8_loudest 48 = .ok (.ifCond .ne 6, 3) := dk_154 0 6 (dk_at dksX8_loudest_2 3 rfl rfl)
theorem dX8_loudest_51 : decode cX8_loudest 51 = .ok (.goto 25, 3) := dk_167 0 25 (dk_at dksX8_loudest_2 6 rfl rfl)
theorem dX8_loudest_54 : decode cX8_loudest 54 = .ok (.aload_n 0, 1) := dk_42 (dk_at dksX8_loudest_2 9 rfl rfl)
theorem dX8_loudest_55 : decode cX8_loudest 55 = .ok (.iload 5, 2) := dk_21 5 (dk_at dksX8_loudest_2 10 rfl rfl)
theorem dX8_loudest_57 : decode cX8_loudest 57 = .ok (.invokevirtual 397, 3) := dk_182 1 141 (dk_at dksX8_loudest_2 12 rfl rfl)
theorem dX8_loudest_60 : decode cX8_loudest 60 = .ok (.iload 4, 2) := dk_21 4 (dk_at dksX8_loudest_2 15 rfl rfl)
theorem dX8_loudest_62 : decode cX8_loudest 62 = .ok (.aload_n 0, 1) := dk_42 (dk_at dksX8_loudest_2 17 rfl rfl)
theorem dX8_loudest_63 : decode cX8_loudest 63 = .ok (.getfield 57, 3) := dk_180 0 57 (dk_at dksX8_loudest_2 18 rfl rfl)
theorem dX8_loudest_66 : decode cX8_loudest 66 = .ok (.aload_n 0, 1) := dk_42 (dk_at dksX8_loudest_2 21 rfl rfl)
theorem dX8_loudest_67 : decode cX8_loudest 67 = .ok (.iload_n 3, 1) := dk_29 (dk_at dksX8_loudest_2 22 rfl rfl)
theorem dX8_loudest_68 : decode cX8_loudest 68 = .ok (.iconst 3, 1) := dk_6 (dk_at dksX8_loudest_2 23 rfl rfl)
theorem dX8_loudest_69 : decode cX8_loudest 69 = .ok (.invokevirtual 74, 3) := dk_182 0 74 (dk_at dksX8_loudest_3 0 rfl rfl)
theorem dX8_loudest_72 : decode cX8_loudest 72 = .ok (.iaload, 1) := dk_46 (dk_at dksX8_loudest_3 3 rfl rfl)
theorem dX8_loudest_73 : decode cX8_loudest 73 = .ok (.iadd, 1) := dk_96 (dk_at dksX8_loudest_3 4 rfl rfl)
theorem dX8_loudest_74 : decode cX8_loudest 74 = .ok (.istore 4, 2) := dk_54 4 (dk_at dksX8_loudest_3 5 rfl rfl)
theorem dX8_loudest_76 : decode cX8_loudest 76 = .ok (.iinc 5 1, 3) := dk_132 5 1 (dk_at dksX8_loudest_3 7 rfl rfl)
theorem dX8_loudest_79 : decode cX8_loudest 79 = .ok (.goto (-54), 3) := dk_167 255 202 (dk_at dksX8_loudest_3 10 rfl rfl)
theorem dX8_loudest_82 : decode cX8_loudest 82 = .ok (.iload 4, 2) := dk_21 4 (dk_at dksX8_loudest_3 13 rfl rfl)
theorem dX8_loudest_84 : decode cX8_loudest 84 = .ok (.iload_n 2, 1) := dk_28 (dk_at dksX8_loudest_3 15 rfl rfl)
theorem dX8_loudest_85 : decode cX8_loudest 85 = .ok (.if_icmp .le 7, 3) := dk_164 0 7 (dk_at dksX8_loudest_3 16 rfl rfl)
theorem dX8_loudest_88 : decode cX8_loudest 88 = .ok (.iload_n 3, 1) := dk_29 (dk_at dksX8_loudest_3 19 rfl rfl)
theorem dX8_loudest_89 : decode cX8_loudest 89 = .ok (.goto 4, 3) := dk_167 0 4 (dk_at dksX8_loudest_3 20 rfl rfl)
theorem dX8_loudest_92 : decode cX8_loudest 92 = .ok (.iload_n 1, 1) := dk_27 (dk_at dksX8_loudest_3 23 rfl rfl)
theorem dX8_loudest_93 : decode cX8_loudest 93 = .ok (.istore_n 1, 1) := dk_60 (dk_at dksX8_loudest_4 0 rfl rfl)
theorem dX8_loudest_94 : decode cX8_loudest 94 = .ok (.iload_n 2, 1) := dk_28 (dk_at dksX8_loudest_4 1 rfl rfl)
theorem dX8_loudest_95 : decode cX8_loudest 95 = .ok (.iload 4, 2) := dk_21 4 (dk_at dksX8_loudest_4 2 rfl rfl)
theorem dX8_loudest_97 : decode cX8_loudest 97 = .ok (.invokestatic 289, 3) := dk_184 1 33 (dk_at dksX8_loudest_4 4 rfl rfl)
theorem dX8_loudest_100 : decode cX8_loudest 100 = .ok (.istore_n 2, 1) := dk_61 (dk_at dksX8_loudest_4 7 rfl rfl)
theorem dX8_loudest_101 : decode cX8_loudest 101 = .ok (.iinc 3 1, 3) := dk_132 3 1 (dk_at dksX8_loudest_4 8 rfl rfl)
theorem dX8_loudest_104 : decode cX8_loudest 104 = .ok (.goto (-93), 3) := dk_167 255 163 (dk_at dksX8_loudest_4 11 rfl rfl)
theorem dX8_loudest_107 : decode cX8_loudest 107 = .ok (.iload_n 1, 1) := dk_27 (dk_at dksX8_loudest_4 14 rfl rfl)
theorem dX8_loudest_108 : decode cX8_loudest 108 = .ok (.ireturn, 1) := dk_172 (dk_at dksX8_loudest_4 15 rfl rfl)
abbrev cX8_swap : ByteArray := prog_18_method_106_code
def yX8_swap : MethodName := ⟨RX8, "swap", "()I"⟩
def dkwX8_swap_3 : List UInt8 := [21, 5, 184, 1, 33, 61, 132, 4, 1, 167, 255, 201, 132, 3, 1, 167, 255, 184, 27, 172]
abbrev dktX8_swap_3 : List UInt8 := dkwX8_swap_3 ++ []
def dkwX8_swap_2 : List UInt8 := [21, 4, 182, 1, 159, 21, 5, 28, 164, 0, 13, 16, 10, 29, 104, 21, 4, 96, 167, 0, 4, 27, 60, 28]
abbrev dktX8_swap_2 : List UInt8 := dkwX8_swap_2 ++ dktX8_swap_3
def dkwX8_swap_1 : List UInt8 := [54, 4, 21, 4, 16, 10, 162, 0, 54, 42, 29, 21, 4, 182, 1, 159, 42, 182, 1, 155, 54, 5, 42, 29]
abbrev dktX8_swap_1 : List UInt8 := dkwX8_swap_1 ++ dktX8_swap_2
def dkwX8_swap_0 : List UInt8 := [42, 3, 181, 0, 3, 2, 60, 42, 182, 1, 155, 61, 3, 62, 29, 16, 10, 162, 0, 72, 29, 4, 96]
abbrev dktX8_swap_0 : List UInt8 := dkwX8_swap_0 ++ dktX8_swap_1
theorem dksX8_swap_0 : cX8_swap.data.toList.drop 0 = dktX8_swap_0 := by decide +kernel
theorem dksX8_swap_1 : cX8_swap.data.toList.drop 23 = dktX8_swap_1 := dk_seg dksX8_swap_0 23 rfl rfl
theorem dksX8_swap_2 : cX8_swap.data.toList.drop 47 = dktX8_swap_2 := dk_seg dksX8_swap_1 24 rfl rfl
theorem dksX8_swap_3 : cX8_swap.data.toList.drop 71 = dktX8_swap_3 := dk_seg dksX8_swap_2 24 rfl rfl
theorem dX8_swap_0 : decode cX8_swap 0 = .ok (.aload_n 0, 1) := dk_42 (dk_at dksX8_swap_0 0 rfl rfl)
theorem dX8_swap_1 : decode cX8_swap 1 = .ok (.iconst 0, 1) := dk_3 (dk_at dksX8_swap_0 1 rfl rfl)
theorem dX8_swap_2 : decode cX8_swap 2 = .ok (.putfield 3, 3) := dk_181 0 3 (dk_at dksX8_swap_0 2 rfl rfl)
theorem dX8_swap_5 : decode cX8_swap 5 = .ok (.iconst (-1), 1) := dk_2 (dk_at dksX8_swap_0 5 rfl rfl)
theorem dX8_swap_6 : decode cX8_swap 6 = .ok (.istore_n 1, 1) := dk_60 (dk_at dksX8_swap_0 6 rfl rfl)
theorem dX8_swap_7 : decode cX8_swap 7 = .ok (.aload_n 0, 1) := dk_42 (dk_at dksX8_swap_0 7 rfl rfl)
theorem dX8_swap_8 : decode cX8_swap 8 = .ok (.invokevirtual 411, 3) := dk_182 1 155 (dk_at dksX8_swap_0 8 rfl rfl)
theorem dX8_swap_11 : decode cX8_swap 11 = .ok (.istore_n 2, 1) := dk_61 (dk_at dksX8_swap_0 11 rfl rfl)
theorem dX8_swap_12 : decode cX8_swap 12 = .ok (.iconst 0, 1) := dk_3 (dk_at dksX8_swap_0 12 rfl rfl)
theorem dX8_swap_13 : decode cX8_swap 13 = .ok (.istore_n 3, 1) := dk_62 (dk_at dksX8_swap_0 13 rfl rfl)
theorem dX8_swap_14 : decode cX8_swap 14 = .ok (.iload_n 3, 1) := dk_29 (dk_at dksX8_swap_0 14 rfl rfl)
theorem dX8_swap_15 : decode cX8_swap 15 = .ok (.bipush 10, 2) := dk_16 10 (dk_at dksX8_swap_0 15 rfl rfl)
theorem dX8_swap_17 : decode cX8_swap 17 = .ok (.if_icmp .ge 72, 3) := dk_162 0 72 (dk_at dksX8_swap_0 17 rfl rfl)
theorem dX8_swap_20 : decode cX8_swap 20 = .ok (.iload_n 3, 1) := dk_29 (dk_at dksX8_swap_0 20 rfl rfl)
theorem dX8_swap_21 : decode cX8_swap 21 = .ok (.iconst 1, 1) := dk_4 (dk_at dksX8_swap_0 21 rfl rfl)
theorem dX8_swap_22 : decode cX8_swap 22 = .ok (.iadd, 1) := dk_96 (dk_at dksX8_swap_0 22 rfl rfl)
theorem dX8_swap_23 : decode cX8_swap 23 = .ok (.istore 4, 2) := dk_54 4 (dk_at dksX8_swap_1 0 rfl rfl)
theorem dX8_swap_25 : decode cX8_swap 25 = .ok (.iload 4, 2) := dk_21 4 (dk_at dksX8_swap_1 2 rfl rfl)
theorem dX8_swap_27 : decode cX8_swap 27 = .ok (.bipush 10, 2) := dk_16 10 (dk_at dksX8_swap_1 4 rfl rfl)
theorem dX8_swap_29 : decode cX8_swap 29 = .ok (.if_icmp .ge 54, 3) := dk_162 0 54 (dk_at dksX8_swap_1 6 rfl rfl)
theorem dX8_swap_32 : decode cX8_swap 32 = .ok (.aload_n 0, 1) := dk_42 (dk_at dksX8_swap_1 9 rfl rfl)
theorem dX8_swap_33 : decode cX8_swap 33 = .ok (.iload_n 3, 1) := dk_29 (dk_at dksX8_swap_1 10 rfl rfl)
theorem dX8_swap_34 : decode cX8_swap 34 = .ok (.iload 4, 2) := dk_21 4 (dk_at dksX8_swap_1 11 rfl rfl)
theorem dX8_swap_36 : decode cX8_swap 36 = .ok (.invokevirtual 415, 3) := dk_182 1 159 (dk_at dksX8_swap_1 13 rfl rfl)
theorem dX8_swap_39 : decode cX8_swap 39 = .ok (.aload_n 0, 1) := dk_42 (dk_at dksX8_swap_1 16 rfl rfl)
theorem dX8_swap_40 : decode cX8_swap 40 = .ok (.invokevirtual 411, 3) := dk_182 1 155 (dk_at dksX8_swap_1 17 rfl rfl)
theorem dX8_swap_43 : decode cX8_swap 43 = .ok (.istore 5, 2) := dk_54 5 (dk_at dksX8_swap_1 20 rfl rfl)
theorem dX8_swap_45 : decode cX8_swap 45 = .ok (.aload_n 0, 1) := dk_42 (dk_at dksX8_swap_1 22 rfl rfl)
theorem dX8_swap_46 : decode cX8_swap 46 = .ok (.iload_n 3, 1) := dk_29 (dk_at dksX8_swap_1 23 rfl rfl)
theorem dX8_swap_47 : decode cX8_swap 47 = .ok (.iload 4, 2) := dk_21 4 (dk_at dksX8_swap_2 0 rfl rfl)
theorem dX8_swap_49 : decode cX8_swap 49 = .ok (.invokevirtual 415, 3) := dk_182 1 159 (dk_at dksX8_swap_2 2 rfl rfl)
theorem dX8_swap_52 : decode cX8_swap 52 = .ok (.iload 5, 2) := dk_21 5 (dk_at dksX8_swap_2 5 rfl rfl)
theorem dX8_swap_54 : decode cX8_swap 54 = .ok (.iload_n 2, 1) := dk_28 (dk_at dksX8_swap_2 7 rfl rfl)
theorem dX8_swap_55 : decode cX8_swap 55 = .ok (.if_icmp .le 13, 3) := dk_164 0 13 (dk_at dksX8_swap_2 8 rfl rfl)
theorem dX8_swap_58 : decode cX8_swap 58 = .ok (.bipush 10, 2) := dk_16 10 (dk_at dksX8_swap_2 11 rfl rfl)
theorem dX8_swap_60 : decode cX8_swap 60 = .ok (.iload_n 3, 1) := dk_29 (dk_at dksX8_swap_2 13 rfl rfl)
theorem dX8_swap_61 : decode cX8_swap 61 = .ok (.imul, 1) := dk_104 (dk_at dksX8_swap_2 14 rfl rfl)
theorem dX8_swap_62 : decode cX8_swap 62 = .ok (.iload 4, 2) := dk_21 4 (dk_at dksX8_swap_2 15 rfl rfl)
theorem dX8_swap_64 : decode cX8_swap 64 = .ok (.iadd, 1) := dk_96 (dk_at dksX8_swap_2 17 rfl rfl)
theorem dX8_swap_65 : decode cX8_swap 65 = .ok (.goto 4, 3) := dk_167 0 4 (dk_at dksX8_swap_2 18 rfl rfl)
theorem dX8_swap_68 : decode cX8_swap 68 = .ok (.iload_n 1, 1) := dk_27 (dk_at dksX8_swap_2 21 rfl rfl)
theorem dX8_swap_69 : decode cX8_swap 69 = .ok (.istore_n 1, 1) := dk_60 (dk_at dksX8_swap_2 22 rfl rfl)
theorem dX8_swap_70 : decode cX8_swap 70 = .ok (.iload_n 2, 1) := dk_28 (dk_at dksX8_swap_2 23 rfl rfl)
theorem dX8_swap_71 : decode cX8_swap 71 = .ok (.iload 5, 2) := dk_21 5 (dk_at dksX8_swap_3 0 rfl rfl)
theorem dX8_swap_73 : decode cX8_swap 73 = .ok (.invokestatic 289, 3) := dk_184 1 33 (dk_at dksX8_swap_3 2 rfl rfl)
theorem dX8_swap_76 : decode cX8_swap 76 = .ok (.istore_n 2, 1) := dk_61 (dk_at dksX8_swap_3 5 rfl rfl)
theorem dX8_swap_77 : decode cX8_swap 77 = .ok (.iinc 4 1, 3) := dk_132 4 1 (dk_at dksX8_swap_3 6 rfl rfl)
theorem dX8_swap_80 : decode cX8_swap 80 = .ok (.goto (-55), 3) := dk_167 255 201 (dk_at dksX8_swap_3 9 rfl rfl)
theorem dX8_swap_83 : decode cX8_swap 83 = .ok (.iinc 3 1, 3) := dk_132 3 1 (dk_at dksX8_swap_3 12 rfl rfl)
theorem dX8_swap_86 : decode cX8_swap 86 = .ok (.goto (-72), 3) := dk_167 255 184 (dk_at dksX8_swap_3 15 rfl rfl)
theorem dX8_swap_89 : decode cX8_swap 89 = .ok (.iload_n 1, 1) := dk_27 (dk_at dksX8_swap_3 18 rfl rfl)
theorem dX8_swap_90 : decode cX8_swap 90 = .ok (.ireturn, 1) := dk_172 (dk_at dksX8_swap_3 19 rfl rfl)
abbrev cX8_changes : ByteArray := prog_18_method_105_code
def yX8_changes : MethodName := ⟨RX8, "changes", "(II)V"⟩
def dkwX8_changes_1 : List UInt8 := [184, 0, 70, 28, 79, 21, 4, 2, 159, 0, 15, 42, 180, 0, 13, 21, 4, 6, 184, 0, 70, 27, 79, 177]
abbrev dktX8_changes_1 : List UInt8 := dkwX8_changes_1 ++ []
def dkwX8_changes_0 : List UInt8 := [42, 27, 182, 0, 160, 62, 42, 28, 182, 0, 160, 54, 4, 29, 2, 159, 0, 14, 42, 180, 0, 13, 29, 6]
abbrev dktX8_changes_0 : List UInt8 := dkwX8_changes_0 ++ dktX8_changes_1
theorem dksX8_changes_0 : cX8_changes.data.toList.drop 0 = dktX8_changes_0 := by decide +kernel
theorem dksX8_changes_1 : cX8_changes.data.toList.drop 24 = dktX8_changes_1 := dk_seg dksX8_changes_0 24 rfl rfl
theorem dX8_changes_0 : decode cX8_changes 0 = .ok (.aload_n 0, 1) := dk_42 (dk_at dksX8_changes_0 0 rfl rfl)
theorem dX8_changes_1 : decode cX8_changes 1 = .ok (.iload_n 1, 1) := dk_27 (dk_at dksX8_changes_0 1 rfl rfl)
theorem dX8_changes_2 : decode cX8_changes 2 = .ok (.invokevirtual 160, 3) := dk_182 0 160 (dk_at dksX8_changes_0 2 rfl rfl)
theorem dX8_changes_5 : decode cX8_changes 5 = .ok (.istore_n 3, 1) := dk_62 (dk_at dksX8_changes_0 5 rfl rfl)
theorem dX8_changes_6 : decode cX8_changes 6 = .ok (.aload_n 0, 1) := dk_42 (dk_at dksX8_changes_0 6 rfl rfl)
theorem dX8_changes_7 : decode cX8_changes 7 = .ok (.iload_n 2, 1) := dk_28 (dk_at dksX8_changes_0 7 rfl rfl)
theorem dX8_changes_8 : decode cX8_changes 8 = .ok (.invokevirtual 160, 3) := dk_182 0 160 (dk_at dksX8_changes_0 8 rfl rfl)
theorem dX8_changes_11 : decode cX8_changes 11 = .ok (.istore 4, 2) := dk_54 4 (dk_at dksX8_changes_0 11 rfl rfl)
theorem dX8_changes_13 : decode cX8_changes 13 = .ok (.iload_n 3, 1) := dk_29 (dk_at dksX8_changes_0 13 rfl rfl)
theorem dX8_changes_14 : decode cX8_changes 14 = .ok (.iconst (-1), 1) := dk_2 (dk_at dksX8_changes_0 14 rfl rfl)
theorem dX8_changes_15 : decode cX8_changes 15 = .ok (.if_icmp .eq 14, 3) := dk_159 0 14 (dk_at dksX8_changes_0 15 rfl rfl)
theorem dX8_changes_18 : decode cX8_changes 18 = .ok (.aload_n 0, 1) := dk_42 (dk_at dksX8_changes_0 18 rfl rfl)
theorem dX8_changes_19 : decode cX8_changes 19 = .ok (.getfield 13, 3) := dk_180 0 13 (dk_at dksX8_changes_0 19 rfl rfl)
theorem dX8_changes_22 : decode cX8_changes 22 = .ok (.iload_n 3, 1) := dk_29 (dk_at dksX8_changes_0 22 rfl rfl)
theorem dX8_changes_23 : decode cX8_changes 23 = .ok (.iconst 3, 1) := dk_6 (dk_at dksX8_changes_0 23 rfl rfl)
theorem dX8_changes_24 : decode cX8_changes 24 = .ok (.invokestatic 70, 3) := dk_184 0 70 (dk_at dksX8_changes_1 0 rfl rfl)
theorem dX8_changes_27 : decode cX8_changes 27 = .ok (.iload_n 2, 1) := dk_28 (dk_at dksX8_changes_1 3 rfl rfl)
theorem dX8_changes_28 : decode cX8_changes 28 = .ok (.iastore, 1) := dk_79 (dk_at dksX8_changes_1 4 rfl rfl)
theorem dX8_changes_29 : decode cX8_changes 29 = .ok (.iload 4, 2) := dk_21 4 (dk_at dksX8_changes_1 5 rfl rfl)
theorem dX8_changes_31 : decode cX8_changes 31 = .ok (.iconst (-1), 1) := dk_2 (dk_at dksX8_changes_1 7 rfl rfl)
theorem dX8_changes_32 : decode cX8_changes 32 = .ok (.if_icmp .eq 15, 3) := dk_159 0 15 (dk_at dksX8_changes_1 8 rfl rfl)
theorem dX8_changes_35 : decode cX8_changes 35 = .ok (.aload_n 0, 1) := dk_42 (dk_at dksX8_changes_1 11 rfl rfl)
theorem dX8_changes_36 : decode cX8_changes 36 = .ok (.getfield 13, 3) := dk_180 0 13 (dk_at dksX8_changes_1 12 rfl rfl)
theorem dX8_changes_39 : decode cX8_changes 39 = .ok (.iload 4, 2) := dk_21 4 (dk_at dksX8_changes_1 15 rfl rfl)
theorem dX8_changes_41 : decode cX8_changes 41 = .ok (.iconst 3, 1) := dk_6 (dk_at dksX8_changes_1 17 rfl rfl)
theorem dX8_changes_42 : decode cX8_changes 42 = .ok (.invokestatic 70, 3) := dk_184 0 70 (dk_at dksX8_changes_1 18 rfl rfl)
theorem dX8_changes_45 : decode cX8_changes 45 = .ok (.iload_n 1, 1) := dk_27 (dk_at dksX8_changes_1 21 rfl rfl)
theorem dX8_changes_46 : decode cX8_changes 46 = .ok (.iastore, 1) := dk_79 (dk_at dksX8_changes_1 22 rfl rfl)
theorem dX8_changes_47 : decode cX8_changes 47 = .ok (.return_, 1) := dk_177 (dk_at dksX8_changes_1 23 rfl rfl)
abbrev cX8_next : ByteArray := prog_18_method_107_code
def yX8_next : MethodName := ⟨RX8, "next", "()I"⟩
def dkwX8_next_5 : List UInt8 := [27, 172]
abbrev dktX8_next_5 : List UInt8 := dkwX8_next_5 ++ []
def dkwX8_next_4 : List UInt8 := [167, 0, 4, 27, 60, 28, 21, 5, 184, 1, 33, 61, 132, 4, 1, 167, 255, 171, 132, 3, 1, 167, 255, 154]
abbrev dktX8_next_4 : List UInt8 := dkwX8_next_4 ++ dktX8_next_5
def dkwX8_next_3 : List UInt8 := [42, 180, 0, 13, 29, 6, 184, 0, 70, 2, 79, 21, 5, 28, 164, 0, 13, 16, 10, 29, 104, 21, 4, 96]
abbrev dktX8_next_3 : List UInt8 := dkwX8_next_3 ++ dktX8_next_4
def dkwX8_next_2 : List UInt8 := [159, 0, 6, 167, 0, 57, 42, 180, 0, 13, 29, 6, 184, 0, 70, 21, 4, 79, 42, 182, 1, 155, 54, 5]
abbrev dktX8_next_2 : List UInt8 := dkwX8_next_2 ++ dktX8_next_3
def dkwX8_next_1 : List UInt8 := [21, 4, 16, 10, 162, 0, 84, 42, 29, 182, 0, 94, 154, 0, 70, 42, 21, 4, 182, 0, 160, 2]
abbrev dktX8_next_1 : List UInt8 := dkwX8_next_1 ++ dktX8_next_2
def dkwX8_next_0 : List UInt8 := [42, 3, 181, 0, 3, 2, 60, 19, 1, 162, 61, 3, 62, 29, 42, 182, 0, 83, 162, 0, 100, 3, 54, 4]
abbrev dktX8_next_0 : List UInt8 := dkwX8_next_0 ++ dktX8_next_1
theorem dksX8_next_0 : cX8_next.data.toList.drop 0 = dktX8_next_0 := by decide +kernel
theorem dksX8_next_1 : cX8_next.data.toList.drop 24 = dktX8_next_1 := dk_seg dksX8_next_0 24 rfl rfl
theorem dksX8_next_2 : cX8_next.data.toList.drop 46 = dktX8_next_2 := dk_seg dksX8_next_1 22 rfl rfl
theorem dksX8_next_3 : cX8_next.data.toList.drop 70 = dktX8_next_3 := dk_seg dksX8_next_2 24 rfl rfl
theorem dksX8_next_4 : cX8_next.data.toList.drop 94 = dktX8_next_4 := dk_seg dksX8_next_3 24 rfl rfl
theorem dksX8_next_5 : cX8_next.data.toList.drop 118 = dktX8_next_5 := dk_seg dksX8_next_4 24 rfl rfl
theorem dX8_next_0 : decode cX8_next 0 = .ok (.aload_n 0, 1) := dk_42 (dk_at dksX8_next_0 0 rfl rfl)
theorem dX8_next_1 : decode cX8_next 1 = .ok (.iconst 0, 1) := dk_3 (dk_at dksX8_next_0 1 rfl rfl)
theorem dX8_next_2 : decode cX8_next 2 = .ok (.putfield 3, 3) := dk_181 0 3 (dk_at dksX8_next_0 2 rfl rfl)
theorem dX8_next_5 : decode cX8_next 5 = .ok (.iconst (-1), 1) := dk_2 (dk_at dksX8_next_0 5 rfl rfl)
theorem dX8_next_6 : decode cX8_next 6 = .ok (.istore_n 1, 1) := dk_60 (dk_at dksX8_next_0 6 rfl rfl)
theorem dX8_next_7 : decode cX8_next 7 = .ok (.ldc_w 418, 3) := dk_19 1 162 (dk_at dksX8_next_0 7 rfl rfl)
theorem dX8_next_10 : decode cX8_next 10 = .ok (.istore_n 2, 1) := dk_61 (dk_at dksX8_next_0 10 rfl rfl)
theorem dX8_next_11 : decode cX8_next 11 = .ok (.iconst 0, 1) := dk_3 (dk_at dksX8_next_0 11 rfl rfl)
theorem dX8_next_12 : decode cX8_next 12 = .ok (.istore_n 3, 1) := dk_62 (dk_at dksX8_next_0 12 rfl rfl)
theorem dX8_next_13 : decode cX8_next 13 = .ok (.iload_n 3, 1) := dk_29 (dk_at dksX8_next_0 13 rfl rfl)
theorem dX8_next_14 : decode cX8_next 14 = .ok (.aload_n 0, 1) := dk_42 (dk_at dksX8_next_0 14 rfl rfl)
theorem dX8_next_15 : decode cX8_next 15 = .ok (.invokevirtual 83, 3) := dk_182 0 83 (dk_at dksX8_next_0 15 rfl rfl)
theorem dX8_next_18 : decode cX8_next 18 = .ok (.if_icmp .ge 100, 3) := dk_162 0 100 (dk_at dksX8_next_0 18 rfl rfl)
theorem dX8_next_21 : decode cX8_next 21 = .ok (.iconst 0, 1) := dk_3 (dk_at dksX8_next_0 21 rfl rfl)
theorem dX8_next_22 : decode cX8_next 22 = .ok (.istore 4, 2) := dk_54 4 (dk_at dksX8_next_0 22 rfl rfl)
theorem dX8_next_24 : decode cX8_next 24 = .ok (.iload 4, 2) := dk_21 4 (dk_at dksX8_next_1 0 rfl rfl)
theorem dX8_next_26 : decode cX8_next 26 = .ok (.bipush 10, 2) := dk_16 10 (dk_at dksX8_next_1 2 rfl rfl)
theorem dX8_next_28 : decode cX8_next 28 = .ok (.if_icmp .ge 84, 3) := dk_162 0 84 (dk_at dksX8_next_1 4 rfl rfl)
theorem dX8_next_31 : decode cX8_next 31 = .ok (.aload_n 0, 1) := dk_42 (dk_at dksX8_next_1 7 rfl rfl)
theorem dX8_next_32 : decode cX8_next 32 = .ok (.iload_n 3, 1) := dk_29 (dk_at dksX8_next_1 8 rfl rfl)
theorem dX8_next_33 : decode cX8_next 33 = .ok (.invokevirtual 94, 3) := dk_182 0 94 (dk_at dksX8_next_1 9 rfl rfl)
theorem dX8_next_36 : decode cX8_next 36 = .ok (.ifCond .ne 70, 3) := dk_154 0 70 (dk_at dksX8_next_1 12 rfl rfl)
theorem dX8_next_39 : decode cX8_next 39 = .ok (.aload_n 0, 1) := dk_42 (dk_at dksX8_next_1 15 rfl rfl)
theorem dX8_next_40 : decode cX8_next 40 = .ok (.iload 4, 2) := dk_21 4 (dk_at dksX8_next_1 16 rfl rfl)
theorem dX8_next_42 : decode cX8_next 42 = .ok (.invokevirtual 160, 3) := dk_182 0 160 (dk_at dksX8_next_1 18 rfl rfl)
theorem dX8_next_45 : decode cX8_next 45 = .ok (.iconst (-1), 1) := dk_2 (dk_at dksX8_next_1 21 rfl rfl)
theorem dX8_next_46 : decode cX8_next 46 = .ok (.if_icmp .eq 6, 3) := dk_159 0 6 (dk_at dksX8_next_2 0 rfl rfl)
theorem dX8_next_49 : decode cX8_next 49 = .ok (.goto 57, 3) := dk_167 0 57 (dk_at dksX8_next_2 3 rfl rfl)
theorem dX8_next_52 : decode cX8_next 52 = .ok (.aload_n 0, 1) := dk_42 (dk_at dksX8_next_2 6 rfl rfl)
theorem dX8_next_53 : decode cX8_next 53 = .ok (.getfield 13, 3) := dk_180 0 13 (dk_at dksX8_next_2 7 rfl rfl)
theorem dX8_next_56 : decode cX8_next 56 = .ok (.iload_n 3, 1) := dk_29 (dk_at dksX8_next_2 10 rfl rfl)
theorem dX8_next_57 : decode cX8_next 57 = .ok (.iconst 3, 1) := dk_6 (dk_at dksX8_next_2 11 rfl rfl)
theorem dX8_next_58 : decode cX8_next 58 = .ok (.invokestatic 70, 3) := dk_184 0 70 (dk_at dksX8_next_2 12 rfl rfl)
theorem dX8_next_61 : decode cX8_next 61 = .ok (.iload 4, 2) := dk_21 4 (dk_at dksX8_next_2 15 rfl rfl)
theorem dX8_next_63 : decode cX8_next 63 = .ok (.iastore, 1) := dk_79 (dk_at dksX8_next_2 17 rfl rfl)
theorem dX8_next_64 : decode cX8_next 64 = .ok (.aload_n 0, 1) := dk_42 (dk_at dksX8_next_2 18 rfl rfl)
theorem dX8_next_65 : decode cX8_next 65 = .ok (.invokevirtual 411, 3) := dk_182 1 155 (dk_at dksX8_next_2 19 rfl rfl)
theorem dX8_next_68 : decode cX8_next 68 = .ok (.istore 5, 2) := dk_54 5 (dk_at dksX8_next_2 22 rfl rfl)
theorem dX8_next_70 : decode cX8_next 70 = .ok (.aload_n 0, 1) := dk_42 (dk_at dksX8_next_3 0 rfl rfl)
theorem dX8_next_71 : decode cX8_next 71 = .ok (.getfield 13, 3) := dk_180 0 13 (dk_at dksX8_next_3 1 rfl rfl)
theorem dX8_next_74 : decode cX8_next 74 = .ok (.iload_n 3, 1) := dk_29 (dk_at dksX8_next_3 4 rfl rfl)
theorem dX8_next_75 : decode cX8_next 75 = .ok (.iconst 3, 1) := dk_6 (dk_at dksX8_next_3 5 rfl rfl)
theorem dX8_next_76 : decode cX8_next 76 = .ok (.invokestatic 70, 3) := dk_184 0 70 (dk_at dksX8_next_3 6 rfl rfl)
theorem dX8_next_79 : decode cX8_next 79 = .ok (.iconst (-1), 1) := dk_2 (dk_at dksX8_next_3 9 rfl rfl)
theorem dX8_next_80 : decode cX8_next 80 = .ok (.iastore, 1) := dk_79 (dk_at dksX8_next_3 10 rfl rfl)
theorem dX8_next_81 : decode cX8_next 81 = .ok (.iload 5, 2) := dk_21 5 (dk_at dksX8_next_3 11 rfl rfl)
theorem dX8_next_83 : decode cX8_next 83 = .ok (.iload_n 2, 1) := dk_28 (dk_at dksX8_next_3 13 rfl rfl)
theorem dX8_next_84 : decode cX8_next 84 = .ok (.if_icmp .le 13, 3) := dk_164 0 13 (dk_at dksX8_next_3 14 rfl rfl)
theorem dX8_next_87 : decode cX8_next 87 = .ok (.bipush 10, 2) := dk_16 10 (dk_at dksX8_next_3 17 rfl rfl)
theorem dX8_next_89 : decode cX8_next 89 = .ok (.iload_n 3, 1) := dk_29 (dk_at dksX8_next_3 19 rfl rfl)
theorem dX8_next_90 : decode cX8_next 90 = .ok (.imul, 1) := dk_104 (dk_at dksX8_next_3 20 rfl rfl)
theorem dX8_next_91 : decode cX8_next 91 = .ok (.iload 4, 2) := dk_21 4 (dk_at dksX8_next_3 21 rfl rfl)
theorem dX8_next_93 : decode cX8_next 93 = .ok (.iadd, 1) := dk_96 (dk_at dksX8_next_3 23 rfl rfl)
theorem dX8_next_94 : decode cX8_next 94 = .ok (.goto 4, 3) := dk_167 0 4 (dk_at dksX8_next_4 0 rfl rfl)
theorem dX8_next_97 : decode cX8_next 97 = .ok (.iload_n 1, 1) := dk_27 (dk_at dksX8_next_4 3 rfl rfl)
theorem dX8_next_98 : decode cX8_next 98 = .ok (.istore_n 1, 1) := dk_60 (dk_at dksX8_next_4 4 rfl rfl)
theorem dX8_next_99 : decode cX8_next 99 = .ok (.iload_n 2, 1) := dk_28 (dk_at dksX8_next_4 5 rfl rfl)
theorem dX8_next_100 : decode cX8_next 100 = .ok (.iload 5, 2) := dk_21 5 (dk_at dksX8_next_4 6 rfl rfl)
theorem dX8_next_102 : decode cX8_next 102 = .ok (.invokestatic 289, 3) := dk_184 1 33 (dk_at dksX8_next_4 8 rfl rfl)
theorem dX8_next_105 : decode cX8_next 105 = .ok (.istore_n 2, 1) := dk_61 (dk_at dksX8_next_4 11 rfl rfl)
theorem dX8_next_106 : decode cX8_next 106 = .ok (.iinc 4 1, 3) := dk_132 4 1 (dk_at dksX8_next_4 12 rfl rfl)
theorem dX8_next_109 : decode cX8_next 109 = .ok (.goto (-85), 3) := dk_167 255 171 (dk_at dksX8_next_4 15 rfl rfl)
theorem dX8_next_112 : decode cX8_next 112 = .ok (.iinc 3 1, 3) := dk_132 3 1 (dk_at dksX8_next_4 18 rfl rfl)
theorem dX8_next_115 : decode cX8_next 115 = .ok (.goto (-102), 3) := dk_167 255 154 (dk_at dksX8_next_4 21 rfl rfl)
theorem dX8_next_118 : decode cX8_next 118 = .ok (.iload_n 1, 1) := dk_27 (dk_at dksX8_next_5 0 rfl rfl)
theorem dX8_next_119 : decode cX8_next 119 = .ok (.ireturn, 1) := dk_172 (dk_at dksX8_next_5 1 rfl rfl)
abbrev cX8_leave : ByteArray := prog_18_method_109_code
def yX8_leave : MethodName := ⟨RX8, "leave", "()I"⟩
def dkwX8_leave_2 : List UInt8 := [153, 0, 7, 29, 167, 0, 4, 28, 61, 132, 3, 255, 167, 255, 212, 42, 3, 181, 1, 57, 28, 172]
abbrev dktX8_leave_2 : List UInt8 := dkwX8_leave_2 ++ []
def dkwX8_leave_1 : List UInt8 := [27, 2, 130, 126, 154, 0, 25, 29, 184, 0, 143, 28, 184, 0, 143, 163, 0, 14, 42, 182, 1, 166]
abbrev dktX8_leave_1 : List UInt8 := dkwX8_leave_1 ++ dktX8_leave_2
def dkwX8_leave_0 : List UInt8 := [42, 3, 181, 0, 3, 42, 182, 1, 163, 60, 27, 61, 27, 62, 29, 155, 0, 46, 42, 29, 181, 1, 57, 29]
abbrev dktX8_leave_0 : List UInt8 := dkwX8_leave_0 ++ dktX8_leave_1
theorem dksX8_leave_0 : cX8_leave.data.toList.drop 0 = dktX8_leave_0 := by decide +kernel
theorem dksX8_leave_1 : cX8_leave.data.toList.drop 24 = dktX8_leave_1 := dk_seg dksX8_leave_0 24 rfl rfl
theorem dksX8_leave_2 : cX8_leave.data.toList.drop 46 = dktX8_leave_2 := dk_seg dksX8_leave_1 22 rfl rfl
theorem dX8_leave_0 : decode cX8_leave 0 = .ok (.aload_n 0, 1) := dk_42 (dk_at dksX8_leave_0 0 rfl rfl)
theorem dX8_leave_1 : decode cX8_leave 1 = .ok (.iconst 0, 1) := dk_3 (dk_at dksX8_leave_0 1 rfl rfl)
theorem dX8_leave_2 : decode cX8_leave 2 = .ok (.putfield 3, 3) := dk_181 0 3 (dk_at dksX8_leave_0 2 rfl rfl)
theorem dX8_leave_5 : decode cX8_leave 5 = .ok (.aload_n 0, 1) := dk_42 (dk_at dksX8_leave_0 5 rfl rfl)
theorem dX8_leave_6 : decode cX8_leave 6 = .ok (.invokevirtual 419, 3) := dk_182 1 163 (dk_at dksX8_leave_0 6 rfl rfl)
theorem dX8_leave_9 : decode cX8_leave 9 = .ok (.istore_n 1, 1) := dk_60 (dk_at dksX8_leave_0 9 rfl rfl)
theorem dX8_leave_10 : decode cX8_leave 10 = .ok (.iload_n 1, 1) := dk_27 (dk_at dksX8_leave_0 10 rfl rfl)
theorem dX8_leave_11 : decode cX8_leave 11 = .ok (.istore_n 2, 1) := dk_61 (dk_at dksX8_leave_0 11 rfl rfl)
theorem dX8_leave_12 : decode cX8_leave 12 = .ok (.iload_n 1, 1) := dk_27 (dk_at dksX8_leave_0 12 rfl rfl)
theorem dX8_leave_13 : decode cX8_leave 13 = .ok (.istore_n 3, 1) := dk_62 (dk_at dksX8_leave_0 13 rfl rfl)
theorem dX8_leave_14 : decode cX8_leave 14 = .ok (.iload_n 3, 1) := dk_29 (dk_at dksX8_leave_0 14 rfl rfl)
theorem dX8_leave_15 : decode cX8_leave 15 = .ok (.ifCond .lt 46, 3) := dk_155 0 46 (dk_at dksX8_leave_0 15 rfl rfl)
theorem dX8_leave_18 : decode cX8_leave 18 = .ok (.aload_n 0, 1) := dk_42 (dk_at dksX8_leave_0 18 rfl rfl)
theorem dX8_leave_19 : decode cX8_leave 19 = .ok (.iload_n 3, 1) := dk_29 (dk_at dksX8_leave_0 19 rfl rfl)
theorem dX8_leave_20 : decode cX8_leave 20 = .ok (.putfield 313, 3) := dk_181 1 57 (dk_at dksX8_leave_0 20 rfl rfl)
theorem dX8_leave_23 : decode cX8_leave 23 = .ok (.iload_n 3, 1) := dk_29 (dk_at dksX8_leave_0 23 rfl rfl)
theorem dX8_leave_24 : decode cX8_leave 24 = .ok (.iload_n 1, 1) := dk_27 (dk_at dksX8_leave_1 0 rfl rfl)
theorem dX8_leave_25 : decode cX8_leave 25 = .ok (.iconst (-1), 1) := dk_2 (dk_at dksX8_leave_1 1 rfl rfl)
theorem dX8_leave_26 : decode cX8_leave 26 = .ok (.ixor, 1) := dk_130 (dk_at dksX8_leave_1 2 rfl rfl)
theorem dX8_leave_27 : decode cX8_leave 27 = .ok (.iand, 1) := dk_126 (dk_at dksX8_leave_1 3 rfl rfl)
theorem dX8_leave_28 : decode cX8_leave 28 = .ok (.ifCond .ne 25, 3) := dk_154 0 25 (dk_at dksX8_leave_1 4 rfl rfl)
theorem dX8_leave_31 : decode cX8_leave 31 = .ok (.iload_n 3, 1) := dk_29 (dk_at dksX8_leave_1 7 rfl rfl)
theorem dX8_leave_32 : decode cX8_leave 32 = .ok (.invokestatic 143, 3) := dk_184 0 143 (dk_at dksX8_leave_1 8 rfl rfl)
theorem dX8_leave_35 : decode cX8_leave 35 = .ok (.iload_n 2, 1) := dk_28 (dk_at dksX8_leave_1 11 rfl rfl)
theorem dX8_leave_36 : decode cX8_leave 36 = .ok (.invokestatic 143, 3) := dk_184 0 143 (dk_at dksX8_leave_1 12 rfl rfl)
theorem dX8_leave_39 : decode cX8_leave 39 = .ok (.if_icmp .gt 14, 3) := dk_163 0 14 (dk_at dksX8_leave_1 15 rfl rfl)
theorem dX8_leave_42 : decode cX8_leave 42 = .ok (.aload_n 0, 1) := dk_42 (dk_at dksX8_leave_1 18 rfl rfl)
theorem dX8_leave_43 : decode cX8_leave 43 = .ok (.invokevirtual 422, 3) := dk_182 1 166 (dk_at dksX8_leave_1 19 rfl rfl)
theorem dX8_leave_46 : decode cX8_leave 46 = .ok (.ifCond .eq 7, 3) := dk_153 0 7 (dk_at dksX8_leave_2 0 rfl rfl)
theorem dX8_leave_49 : decode cX8_leave 49 = .ok (.iload_n 3, 1) := dk_29 (dk_at dksX8_leave_2 3 rfl rfl)
theorem dX8_leave_50 : decode cX8_leave 50 = .ok (.goto 4, 3) := dk_167 0 4 (dk_at dksX8_leave_2 4 rfl rfl)
theorem dX8_leave_53 : decode cX8_leave 53 = .ok (.iload_n 2, 1) := dk_28 (dk_at dksX8_leave_2 7 rfl rfl)
theorem dX8_leave_54 : decode cX8_leave 54 = .ok (.istore_n 2, 1) := dk_61 (dk_at dksX8_leave_2 8 rfl rfl)
theorem dX8_leave_55 : decode cX8_leave 55 = .ok (.iinc 3 (-1), 3) := dk_132 3 255 (dk_at dksX8_leave_2 9 rfl rfl)
theorem dX8_leave_58 : decode cX8_leave 58 = .ok (.goto (-44), 3) := dk_167 255 212 (dk_at dksX8_leave_2 12 rfl rfl)
theorem dX8_leave_61 : decode cX8_leave 61 = .ok (.aload_n 0, 1) := dk_42 (dk_at dksX8_leave_2 15 rfl rfl)
theorem dX8_leave_62 : decode cX8_leave 62 = .ok (.iconst 0, 1) := dk_3 (dk_at dksX8_leave_2 16 rfl rfl)
theorem dX8_leave_63 : decode cX8_leave 63 = .ok (.putfield 313, 3) := dk_181 1 57 (dk_at dksX8_leave_2 17 rfl rfl)
theorem dX8_leave_66 : decode cX8_leave 66 = .ok (.iload_n 2, 1) := dk_28 (dk_at dksX8_leave_2 20 rfl rfl)
theorem dX8_leave_67 : decode cX8_leave 67 = .ok (.ireturn, 1) := dk_172 (dk_at dksX8_leave_2 21 rfl rfl)
abbrev cX8_nailedOnes : ByteArray := prog_18_method_23_code
def yX8_nailedOnes : MethodName := ⟨RX8, "nailedOnes", "()I"⟩
def dkwX8_nailedOnes_1 : List UInt8 := [167, 0, 4, 3, 128, 60, 132, 2, 1, 167, 255, 227, 27, 172]
abbrev dktX8_nailedOnes_1 : List UInt8 := dkwX8_nailedOnes_1 ++ []
def dkwX8_nailedOnes_0 : List UInt8 := [3, 60, 3, 61, 28, 42, 182, 0, 83, 162, 0, 27, 27, 42, 28, 182, 0, 94, 153, 0, 9, 4, 28, 120]
abbrev dktX8_nailedOnes_0 : List UInt8 := dkwX8_nailedOnes_0 ++ dktX8_nailedOnes_1
theorem dksX8_nailedOnes_0 : cX8_nailedOnes.data.toList.drop 0 = dktX8_nailedOnes_0 := by decide +kernel
theorem dksX8_nailedOnes_1 : cX8_nailedOnes.data.toList.drop 24 = dktX8_nailedOnes_1 := dk_seg dksX8_nailedOnes_0 24 rfl rfl
theorem dX8_nailedOnes_0 : decode cX8_nailedOnes 0 = .ok (.iconst 0, 1) := dk_3 (dk_at dksX8_nailedOnes_0 0 rfl rfl)
theorem dX8_nailedOnes_1 : decode cX8_nailedOnes 1 = .ok (.istore_n 1, 1) := dk_60 (dk_at dksX8_nailedOnes_0 1 rfl rfl)
theorem dX8_nailedOnes_2 : decode cX8_nailedOnes 2 = .ok (.iconst 0, 1) := dk_3 (dk_at dksX8_nailedOnes_0 2 rfl rfl)
theorem dX8_nailedOnes_3 : decode cX8_nailedOnes 3 = .ok (.istore_n 2, 1) := dk_61 (dk_at dksX8_nailedOnes_0 3 rfl rfl)
theorem dX8_nailedOnes_4 : decode cX8_nailedOnes 4 = .ok (.iload_n 2, 1) := dk_28 (dk_at dksX8_nailedOnes_0 4 rfl rfl)
theorem dX8_nailedOnes_5 : decode cX8_nailedOnes 5 = .ok (.aload_n 0, 1) := dk_42 (dk_at dksX8_nailedOnes_0 5 rfl rfl)
theorem dX8_nailedOnes_6 : decode cX8_nailedOnes 6 = .ok (.invokevirtual 83, 3) := dk_182 0 83 (dk_at dksX8_nailedOnes_0 6 rfl rfl)
theorem dX8_nailedOnes_9 : decode cX8_nailedOnes 9 = .ok (.if_icmp .ge 27, 3) := dk_162 0 27 (dk_at dksX8_nailedOnes_0 9 rfl rfl)
theorem dX8_nailedOnes_12 : decode cX8_nailedOnes 12 = .ok (.iload_n 1, 1) := dk_27 (dk_at dksX8_nailedOnes_0 12 rfl rfl)
theorem dX8_nailedOnes_13 : decode cX8_nailedOnes 13 = .ok (.aload_n 0, 1) := dk_42 (dk_at dksX8_nailedOnes_0 13 rfl rfl)
theorem dX8_nailedOnes_14 : decode cX8_nailedOnes 14 = .ok (.iload_n 2, 1) := dk_28 (dk_at dksX8_nailedOnes_0 14 rfl rfl)
theorem dX8_nailedOnes_15 : decode cX8_nailedOnes 15 = .ok (.invokevirtual 94, 3) := dk_182 0 94 (dk_at dksX8_nailedOnes_0 15 rfl rfl)
theorem dX8_nailedOnes_18 : decode cX8_nailedOnes 18 = .ok (.ifCond .eq 9, 3) := dk_153 0 9 (dk_at dksX8_nailedOnes_0 18 rfl rfl)
theorem dX8_nailedOnes_21 : decode cX8_nailedOnes 21 = .ok (.iconst 1, 1) := dk_4 (dk_at dksX8_nailedOnes_0 21 rfl rfl)
theorem dX8_nailedOnes_22 : decode cX8_nailedOnes 22 = .ok (.iload_n 2, 1) := dk_28 (dk_at dksX8_nailedOnes_0 22 rfl rfl)
theorem dX8_nailedOnes_23 : decode cX8_nailedOnes 23 = .ok (.ishl, 1) := dk_120 (dk_at dksX8_nailedOnes_0 23 rfl rfl)
theorem dX8_nailedOnes_24 : decode cX8_nailedOnes 24 = .ok (.goto 4, 3) := dk_167 0 4 (dk_at dksX8_nailedOnes_1 0 rfl rfl)
theorem dX8_nailedOnes_27 : decode cX8_nailedOnes 27 = .ok (.iconst 0, 1) := dk_3 (dk_at dksX8_nailedOnes_1 3 rfl rfl)
theorem dX8_nailedOnes_28 : decode cX8_nailedOnes 28 = .ok (.ior, 1) := dk_128 (dk_at dksX8_nailedOnes_1 4 rfl rfl)
theorem dX8_nailedOnes_29 : decode cX8_nailedOnes 29 = .ok (.istore_n 1, 1) := dk_60 (dk_at dksX8_nailedOnes_1 5 rfl rfl)
theorem dX8_nailedOnes_30 : decode cX8_nailedOnes 30 = .ok (.iinc 2 1, 3) := dk_132 2 1 (dk_at dksX8_nailedOnes_1 6 rfl rfl)
theorem dX8_nailedOnes_33 : decode cX8_nailedOnes 33 = .ok (.goto (-29), 3) := dk_167 255 227 (dk_at dksX8_nailedOnes_1 9 rfl rfl)
theorem dX8_nailedOnes_36 : decode cX8_nailedOnes 36 = .ok (.iload_n 1, 1) := dk_27 (dk_at dksX8_nailedOnes_1 12 rfl rfl)
theorem dX8_nailedOnes_37 : decode cX8_nailedOnes 37 = .ok (.ireturn, 1) := dk_172 (dk_at dksX8_nailedOnes_1 13 rfl rfl)
abbrev cX8_isQuiet : ByteArray := prog_18_method_108_code
def yX8_isQuiet : MethodName := ⟨RX8, "isQuiet", "()Z"⟩
def dkwX8_isQuiet_2 : List UInt8 := [132, 2, 1, 167, 255, 210, 27, 172]
abbrev dktX8_isQuiet_2 : List UInt8 := dkwX8_isQuiet_2 ++ []
def dkwX8_isQuiet_1 : List UInt8 := [42, 28, 182, 1, 152, 154, 0, 12, 42, 28, 182, 1, 111, 2, 160, 0, 7, 4, 167, 0, 4, 3, 60]
abbrev dktX8_isQuiet_1 : List UInt8 := dkwX8_isQuiet_1 ++ dktX8_isQuiet_2
def dkwX8_isQuiet_0 : List UInt8 := [4, 60, 3, 61, 28, 42, 182, 0, 91, 162, 0, 44, 27, 153, 0, 32, 42, 28, 182, 1, 99, 153, 0, 20]
abbrev dktX8_isQuiet_0 : List UInt8 := dkwX8_isQuiet_0 ++ dktX8_isQuiet_1
theorem dksX8_isQuiet_0 : cX8_isQuiet.data.toList.drop 0 = dktX8_isQuiet_0 := by decide +kernel
theorem dksX8_isQuiet_1 : cX8_isQuiet.data.toList.drop 24 = dktX8_isQuiet_1 := dk_seg dksX8_isQuiet_0 24 rfl rfl
theorem dksX8_isQuiet_2 : cX8_isQuiet.data.toList.drop 47 = dktX8_isQuiet_2 := dk_seg dksX8_isQuiet_1 23 rfl rfl
theorem dX8_isQuiet_0 : decode cX8_isQuiet 0 = .ok (.iconst 1, 1) := dk_4 (dk_at dksX8_isQuiet_0 0 rfl rfl)
theorem dX8_isQuiet_1 : decode cX8_isQuiet 1 = .ok (.istore_n 1, 1) := dk_60 (dk_at dksX8_isQuiet_0 1 rfl rfl)
theorem dX8_isQuiet_2 : decode cX8_isQuiet 2 = .ok (.iconst 0, 1) := dk_3 (dk_at dksX8_isQuiet_0 2 rfl rfl)
theorem dX8_isQuiet_3 : decode cX8_isQuiet 3 = .ok (.istore_n 2, 1) := dk_61 (dk_at dksX8_isQuiet_0 3 rfl rfl)
theorem dX8_isQuiet_4 : decode cX8_isQuiet 4 = .ok (.iload_n 2, 1) := dk_28 (dk_at dksX8_isQuiet_0 4 rfl rfl)
theorem dX8_isQuiet_5 : decode cX8_isQuiet 5 = .ok (.aload_n 0, 1) := dk_42 (dk_at dksX8_isQuiet_0 5 rfl rfl)
theorem dX8_isQuiet_6 : decode cX8_isQuiet 6 = .ok (.invokevirtual 91, 3) := dk_182 0 91 (dk_at dksX8_isQuiet_0 6 rfl rfl)
theorem dX8_isQuiet_9 : decode cX8_isQuiet 9 = .ok (.if_icmp .ge 44, 3) := dk_162 0 44 (dk_at dksX8_isQuiet_0 9 rfl rfl)
theorem dX8_isQuiet_12 : decode cX8_isQuiet 12 = .ok (.iload_n 1, 1) := dk_27 (dk_at dksX8_isQuiet_0 12 rfl rfl)
theorem dX8_isQuiet_13 : decode cX8_isQuiet 13 = .ok (.ifCond .eq 32, 3) := dk_153 0 32 (dk_at dksX8_isQuiet_0 13 rfl rfl)
theorem dX8_isQuiet_16 : decode cX8_isQuiet 16 = .ok (.aload_n 0, 1) := dk_42 (dk_at dksX8_isQuiet_0 16 rfl rfl)
theorem dX8_isQuiet_17 : decode cX8_isQuiet 17 = .ok (.iload_n 2, 1) := dk_28 (dk_at dksX8_isQuiet_0 17 rfl rfl)
theorem dX8_isQuiet_18 : decode cX8_isQuiet 18 = .ok (.invokevirtual 355, 3) := dk_182 1 99 (dk_at dksX8_isQuiet_0 18 rfl rfl)
theorem dX8_isQuiet_21 : decode cX8_isQuiet 21 = .ok (.ifCond .eq 20, 3) := dk_153 0 20 (dk_at dksX8_isQuiet_0 21 rfl rfl)
theorem dX8_isQuiet_24 : decode cX8_isQuiet 24 = .ok (.aload_n 0, 1) := dk_42 (dk_at dksX8_isQuiet_1 0 rfl rfl)
theorem dX8_isQuiet_25 : decode cX8_isQuiet 25 = .ok (.iload_n 2, 1) := dk_28 (dk_at dksX8_isQuiet_1 1 rfl rfl)
theorem dX8_isQuiet_26 : decode cX8_isQuiet 26 = .ok (.invokevirtual 408, 3) := dk_182 1 152 (dk_at dksX8_isQuiet_1 2 rfl rfl)
theorem dX8_isQuiet_29 : decode cX8_isQuiet 29 = .ok (.ifCond .ne 12, 3) := dk_154 0 12 (dk_at dksX8_isQuiet_1 5 rfl rfl)
theorem dX8_isQuiet_32 : decode cX8_isQuiet 32 = .ok (.aload_n 0, 1) := dk_42 (dk_at dksX8_isQuiet_1 8 rfl rfl)
theorem dX8_isQuiet_33 : decode cX8_isQuiet 33 = .ok (.iload_n 2, 1) := dk_28 (dk_at dksX8_isQuiet_1 9 rfl rfl)
theorem dX8_isQuiet_34 : decode cX8_isQuiet 34 = .ok (.invokevirtual 367, 3) := dk_182 1 111 (dk_at dksX8_isQuiet_1 10 rfl rfl)
theorem dX8_isQuiet_37 : decode cX8_isQuiet 37 = .ok (.iconst (-1), 1) := dk_2 (dk_at dksX8_isQuiet_1 13 rfl rfl)
theorem dX8_isQuiet_38 : decode cX8_isQuiet 38 = .ok (.if_icmp .ne 7, 3) := dk_160 0 7 (dk_at dksX8_isQuiet_1 14 rfl rfl)
theorem dX8_isQuiet_41 : decode cX8_isQuiet 41 = .ok (.iconst 1, 1) := dk_4 (dk_at dksX8_isQuiet_1 17 rfl rfl)
theorem dX8_isQuiet_42 : decode cX8_isQuiet 42 = .ok (.goto 4, 3) := dk_167 0 4 (dk_at dksX8_isQuiet_1 18 rfl rfl)
theorem dX8_isQuiet_45 : decode cX8_isQuiet 45 = .ok (.iconst 0, 1) := dk_3 (dk_at dksX8_isQuiet_1 21 rfl rfl)
theorem dX8_isQuiet_46 : decode cX8_isQuiet 46 = .ok (.istore_n 1, 1) := dk_60 (dk_at dksX8_isQuiet_1 22 rfl rfl)
theorem dX8_isQuiet_47 : decode cX8_isQuiet 47 = .ok (.iinc 2 1, 3) := dk_132 2 1 (dk_at dksX8_isQuiet_2 0 rfl rfl)
theorem dX8_isQuiet_50 : decode cX8_isQuiet 50 = .ok (.goto (-46), 3) := dk_167 255 210 (dk_at dksX8_isQuiet_2 3 rfl rfl)
theorem dX8_isQuiet_53 : decode cX8_isQuiet 53 = .ok (.iload_n 1, 1) := dk_27 (dk_at dksX8_isQuiet_2 6 rfl rfl)
theorem dX8_isQuiet_54 : decode cX8_isQuiet 54 = .ok (.ireturn, 1) := dk_172 (dk_at dksX8_isQuiet_2 7 rfl rfl)
abbrev cX8_cover : ByteArray := prog_18_method_111_code
def yX8_cover : MethodName := ⟨RX8, "cover", "()I"⟩
def dkwX8_cover_4 : List UInt8 := [60, 132, 3, 255, 167, 255, 220, 27, 172]
abbrev dktX8_cover_4 : List UInt8 := dkwX8_cover_4 ++ []
def dkwX8_cover_3 : List UInt8 := [27, 184, 0, 143, 163, 0, 19, 28, 42, 29, 182, 1, 169, 2, 130, 126, 154, 0, 7, 29, 167, 0, 4, 27]
abbrev dktX8_cover_3 : List UInt8 := dkwX8_cover_3 ++ dktX8_cover_4
def dkwX8_cover_2 : List UInt8 := [132, 3, 1, 167, 255, 224, 28, 42, 27, 182, 1, 169, 126, 61, 27, 62, 29, 155, 0, 38, 29, 184, 0, 143]
abbrev dktX8_cover_2 : List UInt8 := dkwX8_cover_2 ++ dktX8_cover_3
def dkwX8_cover_1 : List UInt8 := [162, 0, 30, 28, 42, 29, 182, 1, 99, 153, 0, 12, 42, 29, 3, 182, 0, 80, 167, 0, 4, 3, 128, 61]
abbrev dktX8_cover_1 : List UInt8 := dkwX8_cover_1 ++ dktX8_cover_2
def dkwX8_cover_0 : List UInt8 := [42, 3, 181, 0, 3, 4, 42, 182, 0, 83, 120, 4, 100, 60, 3, 61, 3, 62, 29, 42, 182, 0, 91]
abbrev dktX8_cover_0 : List UInt8 := dkwX8_cover_0 ++ dktX8_cover_1
theorem dksX8_cover_0 : cX8_cover.data.toList.drop 0 = dktX8_cover_0 := by decide +kernel
theorem dksX8_cover_1 : cX8_cover.data.toList.drop 23 = dktX8_cover_1 := dk_seg dksX8_cover_0 23 rfl rfl
theorem dksX8_cover_2 : cX8_cover.data.toList.drop 47 = dktX8_cover_2 := dk_seg dksX8_cover_1 24 rfl rfl
theorem dksX8_cover_3 : cX8_cover.data.toList.drop 71 = dktX8_cover_3 := dk_seg dksX8_cover_2 24 rfl rfl
theorem dksX8_cover_4 : cX8_cover.data.toList.drop 95 = dktX8_cover_4 := dk_seg dksX8_cover_3 24 rfl rfl
theorem dX8_cover_0 : decode cX8_cover 0 = .ok (.aload_n 0, 1) := dk_42 (dk_at dksX8_cover_0 0 rfl rfl)
theorem dX8_cover_1 : decode cX8_cover 1 = .ok (.iconst 0, 1) := dk_3 (dk_at dksX8_cover_0 1 rfl rfl)
theorem dX8_cover_2 : decode cX8_cover 2 = .ok (.putfield 3, 3) := dk_181 0 3 (dk_at dksX8_cover_0 2 rfl rfl)
theorem dX8_cover_5 : decode cX8_cover 5 = .ok (.iconst 1, 1) := dk_4 (dk_at dksX8_cover_0 5 rfl rfl)
theorem dX8_cover_6 : decode cX8_cover 6 = .ok (.aload_n 0, 1) := dk_42 (dk_at dksX8_cover_0 6 rfl rfl)
theorem dX8_cover_7 : decode cX8_cover 7 = .ok (.invokevirtual 83, 3) := dk_182 0 83 (dk_at dksX8_cover_0 7 rfl rfl)
theorem dX8_cover_10 : decode cX8_cover 10 = .ok (.ishl, 1) := dk_120 (dk_at dksX8_cover_0 10 rfl rfl)
theorem dX8_cover_11 : decode cX8_cover 11 = .ok (.iconst 1, 1) := dk_4 (dk_at dksX8_cover_0 11 rfl rfl)
theorem dX8_cover_12 : decode cX8_cover 12 = .ok (.isub, 1) := dk_100 (dk_at dksX8_cover_0 12 rfl rfl)
theorem dX8_cover_13 : decode cX8_cover 13 = .ok (.istore_n 1, 1) := dk_60 (dk_at dksX8_cover_0 13 rfl rfl)
theorem dX8_cover_14 : decode cX8_cover 14 = .ok (.iconst 0, 1) := dk_3 (dk_at dksX8_cover_0 14 rfl rfl)
theorem dX8_cover_15 : decode cX8_cover 15 = .ok (.istore_n 2, 1) := dk_61 (dk_at dksX8_cover_0 15 rfl rfl)
theorem dX8_cover_16 : decode cX8_cover 16 = .ok (.iconst 0, 1) := dk_3 (dk_at dksX8_cover_0 16 rfl rfl)
theorem dX8_cover_17 : decode cX8_cover 17 = .ok (.istore_n 3, 1) := dk_62 (dk_at dksX8_cover_0 17 rfl rfl)
theorem dX8_cover_18 : decode cX8_cover 18 = .ok (.iload_n 3, 1) := dk_29 (dk_at dksX8_cover_0 18 rfl rfl)
theorem dX8_cover_19 : decode cX8_cover 19 = .ok (.aload_n 0, 1) := dk_42 (dk_at dksX8_cover_0 19 rfl rfl)
theorem dX8_cover_20 : decode cX8_cover 20 = .ok (.invokevirtual 91, 3) := dk_182 0 91 (dk_at dksX8_cover_0 20 rfl rfl)
theorem dX8_cover_23 : decode cX8_cover 23 = .ok (.if_icmp .ge 30, 3) := dk_162 0 30 (dk_at dksX8_cover_1 0 rfl rfl)
theorem dX8_cover_26 : decode cX8_cover 26 = .ok (.iload_n 2, 1) := dk_28 (dk_at dksX8_cover_1 3 rfl rfl)
theorem dX8_cover_27 : decode cX8_cover 27 = .ok (.aload_n 0, 1) := dk_42 (dk_at dksX8_cover_1 4 rfl rfl)
theorem dX8_cover_28 : decode cX8_cover 28 = .ok (.iload_n 3, 1) := dk_29 (dk_at dksX8_cover_1 5 rfl rfl)
theorem dX8_cover_29 : decode cX8_cover 29 = .ok (.invokevirtual 355, 3) := dk_182 1 99 (dk_at dksX8_cover_1 6 rfl rfl)
theorem dX8_cover_32 : decode cX8_cover 32 = .ok (.ifCond .eq 12, 3) := dk_153 0 12 (dk_at dksX8_cover_1 9 rfl rfl)
theorem dX8_cover_35 : decode cX8_cover 35 = .ok (.aload_n 0, 1) := dk_42 (dk_at dksX8_cover_1 12 rfl rfl)
theorem dX8_cover_36 : decode cX8_cover 36 = .ok (.iload_n 3, 1) := dk_29 (dk_at dksX8_cover_1 13 rfl rfl)
theorem dX8_cover_37 : decode cX8_cover 37 = .ok (.iconst 0, 1) := dk_3 (dk_at dksX8_cover_1 14 rfl rfl)
theorem dX8_cover_38 : decode cX8_cover 38 = .ok (.invokevirtual 80, 3) := dk_182 0 80 (dk_at dksX8_cover_1 15 rfl rfl)
theorem dX8_cover_41 : decode cX8_cover 41 = .ok (.goto 4, 3) := dk_167 0 4 (dk_at dksX8_cover_1 18 rfl rfl)
theorem dX8_cover_44 : decode cX8_cover 44 = .ok (.iconst 0, 1) := dk_3 (dk_at dksX8_cover_1 21 rfl rfl)
theorem dX8_cover_45 : decode cX8_cover 45 = .ok (.ior, 1) := dk_128 (dk_at dksX8_cover_1 22 rfl rfl)
theorem dX8_cover_46 : decode cX8_cover 46 = .ok (.istore_n 2, 1) := dk_61 (dk_at dksX8_cover_1 23 rfl rfl)
theorem dX8_cover_47 : decode cX8_cover 47 = .ok (.iinc 3 1, 3) := dk_132 3 1 (dk_at dksX8_cover_2 0 rfl rfl)
theorem dX8_cover_50 : decode cX8_cover 50 = .ok (.goto (-32), 3) := dk_167 255 224 (dk_at dksX8_cover_2 3 rfl rfl)
theorem dX8_cover_53 : decode cX8_cover 53 = .ok (.iload_n 2, 1) := dk_28 (dk_at dksX8_cover_2 6 rfl rfl)
theorem dX8_cover_54 : decode cX8_cover 54 = .ok (.aload_n 0, 1) := dk_42 (dk_at dksX8_cover_2 7 rfl rfl)
theorem dX8_cover_55 : decode cX8_cover 55 = .ok (.iload_n 1, 1) := dk_27 (dk_at dksX8_cover_2 8 rfl rfl)
theorem dX8_cover_56 : decode cX8_cover 56 = .ok (.invokevirtual 425, 3) := dk_182 1 169 (dk_at dksX8_cover_2 9 rfl rfl)
theorem dX8_cover_59 : decode cX8_cover 59 = .ok (.iand, 1) := dk_126 (dk_at dksX8_cover_2 12 rfl rfl)
theorem dX8_cover_60 : decode cX8_cover 60 = .ok (.istore_n 2, 1) := dk_61 (dk_at dksX8_cover_2 13 rfl rfl)
theorem dX8_cover_61 : decode cX8_cover 61 = .ok (.iload_n 1, 1) := dk_27 (dk_at dksX8_cover_2 14 rfl rfl)
theorem dX8_cover_62 : decode cX8_cover 62 = .ok (.istore_n 3, 1) := dk_62 (dk_at dksX8_cover_2 15 rfl rfl)
theorem dX8_cover_63 : decode cX8_cover 63 = .ok (.iload_n 3, 1) := dk_29 (dk_at dksX8_cover_2 16 rfl rfl)
theorem dX8_cover_64 : decode cX8_cover 64 = .ok (.ifCond .lt 38, 3) := dk_155 0 38 (dk_at dksX8_cover_2 17 rfl rfl)
theorem dX8_cover_67 : decode cX8_cover 67 = .ok (.iload_n 3, 1) := dk_29 (dk_at dksX8_cover_2 20 rfl rfl)
theorem dX8_cover_68 : decode cX8_cover 68 = .ok (.invokestatic 143, 3) := dk_184 0 143 (dk_at dksX8_cover_2 21 rfl rfl)
theorem dX8_cover_71 : decode cX8_cover 71 = .ok (.iload_n 1, 1) := dk_27 (dk_at dksX8_cover_3 0 rfl rfl)
theorem dX8_cover_72 : decode cX8_cover 72 = .ok (.invokestatic 143, 3) := dk_184 0 143 (dk_at dksX8_cover_3 1 rfl rfl)
theorem dX8_cover_75 : decode cX8_cover 75 = .ok (.if_icmp .gt 19, 3) := dk_163 0 19 (dk_at dksX8_cover_3 4 rfl rfl)
theorem dX8_cover_78 : decode cX8_cover 78 = .ok (.iload_n 2, 1) := dk_28 (dk_at dksX8_cover_3 7 rfl rfl)
theorem dX8_cover_79 : decode cX8_cover 79 = .ok (.aload_n 0, 1) := dk_42 (dk_at dksX8_cover_3 8 rfl rfl)
theorem dX8_cover_80 : decode cX8_cover 80 = .ok (.iload_n 3, 1) := dk_29 (dk_at dksX8_cover_3 9 rfl rfl)
theorem dX8_cover_81 : decode cX8_cover 81 = .ok (.invokevirtual 425, 3) := dk_182 1 169 (dk_at dksX8_cover_3 10 rfl rfl)
theorem dX8_cover_84 : decode cX8_cover 84 = .ok (.iconst (-1), 1) := dk_2 (dk_at dksX8_cover_3 13 rfl rfl)
theorem dX8_cover_85 : decode cX8_cover 85 = .ok (.ixor, 1) := dk_130 (dk_at dksX8_cover_3 14 rfl rfl)
theorem dX8_cover_86 : decode cX8_cover 86 = .ok (.iand, 1) := dk_126 (dk_at dksX8_cover_3 15 rfl rfl)
theorem dX8_cover_87 : decode cX8_cover 87 = .ok (.ifCond .ne 7, 3) := dk_154 0 7 (dk_at dksX8_cover_3 16 rfl rfl)
theorem dX8_cover_90 : decode cX8_cover 90 = .ok (.iload_n 3, 1) := dk_29 (dk_at dksX8_cover_3 19 rfl rfl)
theorem dX8_cover_91 : decode cX8_cover 91 = .ok (.goto 4, 3) := dk_167 0 4 (dk_at dksX8_cover_3 20 rfl rfl)
theorem dX8_cover_94 : decode cX8_cover 94 = .ok (.iload_n 1, 1) := dk_27 (dk_at dksX8_cover_3 23 rfl rfl)
theorem dX8_cover_95 : decode cX8_cover 95 = .ok (.istore_n 1, 1) := dk_60 (dk_at dksX8_cover_4 0 rfl rfl)
theorem dX8_cover_96 : decode cX8_cover 96 = .ok (.iinc 3 (-1), 3) := dk_132 3 255 (dk_at dksX8_cover_4 1 rfl rfl)
theorem dX8_cover_99 : decode cX8_cover 99 = .ok (.goto (-36), 3) := dk_167 255 220 (dk_at dksX8_cover_4 4 rfl rfl)
theorem dX8_cover_102 : decode cX8_cover 102 = .ok (.iload_n 1, 1) := dk_27 (dk_at dksX8_cover_4 7 rfl rfl)
theorem dX8_cover_103 : decode cX8_cover 103 = .ok (.ireturn, 1) := dk_172 (dk_at dksX8_cover_4 8 rfl rfl)
abbrev cX8_shownBy : ByteArray := prog_18_method_110_code
def yX8_shownBy : MethodName := ⟨RX8, "shownBy", "(I)I"⟩
def dkwX8_shownBy_1 : List UInt8 := [3, 182, 0, 74, 120, 167, 0, 4, 3, 128, 61, 132, 3, 1, 167, 255, 222, 28, 172]
abbrev dktX8_shownBy_1 : List UInt8 := dkwX8_shownBy_1 ++ []
def dkwX8_shownBy_0 : List UInt8 := [3, 61, 3, 62, 29, 42, 182, 0, 83, 162, 0, 32, 28, 27, 29, 184, 0, 137, 153, 0, 14, 4, 42, 29]
abbrev dktX8_shownBy_0 : List UInt8 := dkwX8_shownBy_0 ++ dktX8_shownBy_1
theorem dksX8_shownBy_0 : cX8_shownBy.data.toList.drop 0 = dktX8_shownBy_0 := by decide +kernel
theorem dksX8_shownBy_1 : cX8_shownBy.data.toList.drop 24 = dktX8_shownBy_1 := dk_seg dksX8_shownBy_0 24 rfl rfl
theorem dX8_shownBy_0 : decode cX8_shownBy 0 = .ok (.iconst 0, 1) := dk_3 (dk_at dksX8_shownBy_0 0 rfl rfl)
theorem dX8_shownBy_1 : decode cX8_shownBy 1 = .ok (.istore_n 2, 1) := dk_61 (dk_at dksX8_shownBy_0 1 rfl rfl)
theorem dX8_shownBy_2 : decode cX8_shownBy 2 = .ok (.iconst 0, 1) := dk_3 (dk_at dksX8_shownBy_0 2 rfl rfl)
theorem dX8_shownBy_3 : decode cX8_shownBy 3 = .ok (.istore_n 3, 1) := dk_62 (dk_at dksX8_shownBy_0 3 rfl rfl)
theorem dX8_shownBy_4 : decode cX8_shownBy 4 = .ok (.iload_n 3, 1) := dk_29 (dk_at dksX8_shownBy_0 4 rfl rfl)
theorem dX8_shownBy_5 : decode cX8_shownBy 5 = .ok (.aload_n 0, 1) := dk_42 (dk_at dksX8_shownBy_0 5 rfl rfl)
theorem dX8_shownBy_6 : decode cX8_shownBy 6 = .ok (.invokevirtual 83, 3) := dk_182 0 83 (dk_at dksX8_shownBy_0 6 rfl rfl)
theorem dX8_shownBy_9 : decode cX8_shownBy 9 = .ok (.if_icmp .ge 32, 3) := dk_162 0 32 (dk_at dksX8_shownBy_0 9 rfl rfl)
theorem dX8_shownBy_12 : decode cX8_shownBy 12 = .ok (.iload_n 2, 1) := dk_28 (dk_at dksX8_shownBy_0 12 rfl rfl)
theorem dX8_shownBy_13 : decode cX8_shownBy 13 = .ok (.iload_n 1, 1) := dk_27 (dk_at dksX8_shownBy_0 13 rfl rfl)
theorem dX8_shownBy_14 : decode cX8_shownBy 14 = .ok (.iload_n 3, 1) := dk_29 (dk_at dksX8_shownBy_0 14 rfl rfl)
theorem dX8_shownBy_15 : decode cX8_shownBy 15 = .ok (.invokestatic 137, 3) := dk_184 0 137 (dk_at dksX8_shownBy_0 15 rfl rfl)
theorem dX8_shownBy_18 : decode cX8_shownBy 18 = .ok (.ifCond .eq 14, 3) := dk_153 0 14 (dk_at dksX8_shownBy_0 18 rfl rfl)
theorem dX8_shownBy_21 : decode cX8_shownBy 21 = .ok (.iconst 1, 1) := dk_4 (dk_at dksX8_shownBy_0 21 rfl rfl)
theorem dX8_shownBy_22 : decode cX8_shownBy 22 = .ok (.aload_n 0, 1) := dk_42 (dk_at dksX8_shownBy_0 22 rfl rfl)
theorem dX8_shownBy_23 : decode cX8_shownBy 23 = .ok (.iload_n 3, 1) := dk_29 (dk_at dksX8_shownBy_0 23 rfl rfl)
theorem dX8_shownBy_24 : decode cX8_shownBy 24 = .ok (.iconst 0, 1) := dk_3 (dk_at dksX8_shownBy_1 0 rfl rfl)
theorem dX8_shownBy_25 : decode cX8_shownBy 25 = .ok (.invokevirtual 74, 3) := dk_182 0 74 (dk_at dksX8_shownBy_1 1 rfl rfl)
theorem dX8_shownBy_28 : decode cX8_shownBy 28 = .ok (.ishl, 1) := dk_120 (dk_at dksX8_shownBy_1 4 rfl rfl)
theorem dX8_shownBy_29 : decode cX8_shownBy 29 = .ok (.goto 4, 3) := dk_167 0 4 (dk_at dksX8_shownBy_1 5 rfl rfl)
theorem dX8_shownBy_32 : decode cX8_shownBy 32 = .ok (.iconst 0, 1) := dk_3 (dk_at dksX8_shownBy_1 8 rfl rfl)
theorem dX8_shownBy_33 : decode cX8_shownBy 33 = .ok (.ior, 1) := dk_128 (dk_at dksX8_shownBy_1 9 rfl rfl)
theorem dX8_shownBy_34 : decode cX8_shownBy 34 = .ok (.istore_n 2, 1) := dk_61 (dk_at dksX8_shownBy_1 10 rfl rfl)
theorem dX8_shownBy_35 : decode cX8_shownBy 35 = .ok (.iinc 3 1, 3) := dk_132 3 1 (dk_at dksX8_shownBy_1 11 rfl rfl)
theorem dX8_shownBy_38 : decode cX8_shownBy 38 = .ok (.goto (-34), 3) := dk_167 255 222 (dk_at dksX8_shownBy_1 14 rfl rfl)
theorem dX8_shownBy_41 : decode cX8_shownBy 41 = .ok (.iload_n 2, 1) := dk_28 (dk_at dksX8_shownBy_1 17 rfl rfl)
theorem dX8_shownBy_42 : decode cX8_shownBy 42 = .ok (.ireturn, 1) := dk_172 (dk_at dksX8_shownBy_1 18 rfl rfl)
abbrev cX8_usher : ByteArray := prog_18_method_115_code
def yX8_usher : MethodName := ⟨RX8, "usher", "(I)I"⟩
def dkwX8_usher_3 : List UInt8 := [167, 255, 212, 28, 172]
abbrev dktX8_usher_3 : List UInt8 := dkwX8_usher_3 ++ []
def dkwX8_usher_2 : List UInt8 := [182, 1, 178, 153, 0, 7, 4, 167, 0, 4, 3, 96, 61, 132, 4, 1, 167, 255, 227, 132, 3, 1]
abbrev dktX8_usher_2 : List UInt8 := dkwX8_usher_2 ++ dktX8_usher_3
def dkwX8_usher_1 : List UInt8 := [29, 16, 8, 163, 0, 44, 3, 54, 4, 21, 4, 16, 8, 163, 0, 28, 28, 42, 27, 29, 21, 4]
abbrev dktX8_usher_1 : List UInt8 := dkwX8_usher_1 ++ dktX8_usher_2
def dkwX8_usher_0 : List UInt8 := [42, 3, 181, 0, 3, 42, 42, 27, 182, 1, 44, 4, 182, 1, 6, 153, 0, 5, 3, 172, 3, 61, 3, 62]
abbrev dktX8_usher_0 : List UInt8 := dkwX8_usher_0 ++ dktX8_usher_1
theorem dksX8_usher_0 : cX8_usher.data.toList.drop 0 = dktX8_usher_0 := by decide +kernel
theorem dksX8_usher_1 : cX8_usher.data.toList.drop 24 = dktX8_usher_1 := dk_seg dksX8_usher_0 24 rfl rfl
theorem dksX8_usher_2 : cX8_usher.data.toList.drop 46 = dktX8_usher_2 := dk_seg dksX8_usher_1 22 rfl rfl
theorem dksX8_usher_3 : cX8_usher.data.toList.drop 68 = dktX8_usher_3 := dk_seg dksX8_usher_2 22 rfl rfl
theorem dX8_usher_0 : decode cX8_usher 0 = .ok (.aload_n 0, 1) := dk_42 (dk_at dksX8_usher_0 0 rfl rfl)
theorem dX8_usher_1 : decode cX8_usher 1 = .ok (.iconst 0, 1) := dk_3 (dk_at dksX8_usher_0 1 rfl rfl)
theorem dX8_usher_2 : decode cX8_usher 2 = .ok (.putfield 3, 3) := dk_181 0 3 (dk_at dksX8_usher_0 2 rfl rfl)
theorem dX8_usher_5 : decode cX8_usher 5 = .ok (.aload_n 0, 1) := dk_42 (dk_at dksX8_usher_0 5 rfl rfl)
theorem dX8_usher_6 : decode cX8_usher 6 = .ok (.aload_n 0, 1) := dk_42 (dk_at dksX8_usher_0 6 rfl rfl)
theorem dX8_usher_7 : decode cX8_usher 7 = .ok (.iload_n 1, 1) := dk_27 (dk_at dksX8_usher_0 7 rfl rfl)
theorem dX8_usher_8 : decode cX8_usher 8 = .ok (.invokevirtual 300, 3) := dk_182 1 44 (dk_at dksX8_usher_0 8 rfl rfl)
theorem dX8_usher_11 : decode cX8_usher 11 = .ok (.iconst 1, 1) := dk_4 (dk_at dksX8_usher_0 11 rfl rfl)
theorem dX8_usher_12 : decode cX8_usher 12 = .ok (.invokevirtual 262, 3) := dk_182 1 6 (dk_at dksX8_usher_0 12 rfl rfl)
theorem dX8_usher_15 : decode cX8_usher 15 = .ok (.ifCond .eq 5, 3) := dk_153 0 5 (dk_at dksX8_usher_0 15 rfl rfl)
theorem dX8_usher_18 : decode cX8_usher 18 = .ok (.iconst 0, 1) := dk_3 (dk_at dksX8_usher_0 18 rfl rfl)
theorem dX8_usher_19 : decode cX8_usher 19 = .ok (.ireturn, 1) := dk_172 (dk_at dksX8_usher_0 19 rfl rfl)
theorem dX8_usher_20 : decode cX8_usher 20 = .ok (.iconst 0, 1) := dk_3 (dk_at dksX8_usher_0 20 rfl rfl)
theorem dX8_usher_21 : decode cX8_usher 21 = .ok (.istore_n 2, 1) := dk_61 (dk_at dksX8_usher_0 21 rfl rfl)
theorem dX8_usher_22 : decode cX8_usher 22 = .ok (.iconst 0, 1) := dk_3 (dk_at dksX8_usher_0 22 rfl rfl)
theorem dX8_usher_23 : decode cX8_usher 23 = .ok (.istore_n 3, 1) := dk_62 (dk_at dksX8_usher_0 23 rfl rfl)
theorem dX8_usher_24 : decode cX8_usher 24 = .ok (.iload_n 3, 1) := dk_29 (dk_at dksX8_usher_1 0 rfl rfl)
theorem dX8_usher_25 : decode cX8_usher 25 = .ok (.bipush 8, 2) := dk_16 8 (dk_at dksX8_usher_1 1 rfl rfl)
theorem dX8_usher_27 : decode cX8_usher 27 = .ok (.if_icmp .gt 44, 3) := dk_163 0 44 (dk_at dksX8_usher_1 3 rfl rfl)
theorem dX8_usher_30 : decode cX8_usher 30 = .ok (.iconst 0, 1) := dk_3 (dk_at dksX8_usher_1 6 rfl rfl)
theorem dX8_usher_31 : decode cX8_usher 31 = .ok (.istore 4, 2) := dk_54 4 (dk_at dksX8_usher_1 7 rfl rfl)
theorem dX8_usher_33 : decode cX8_usher 33 = .ok (.iload 4, 2) := dk_21 4 (dk_at dksX8_usher_1 9 rfl rfl)
theorem dX8_usher_35 : decode cX8_usher 35 = .ok (.bipush 8, 2) := dk_16 8 (dk_at dksX8_usher_1 11 rfl rfl)
theorem dX8_usher_37 : decode cX8_usher 37 = .ok (.if_icmp .gt 28, 3) := dk_163 0 28 (dk_at dksX8_usher_1 13 rfl rfl)
theorem dX8_usher_40 : decode cX8_usher 40 = .ok (.iload_n 2, 1) := dk_28 (dk_at dksX8_usher_1 16 rfl rfl)
theorem dX8_usher_41 : decode cX8_usher 41 = .ok (.aload_n 0, 1) := dk_42 (dk_at dksX8_usher_1 17 rfl rfl)
theorem dX8_usher_42 : decode cX8_usher 42 = .ok (.iload_n 1, 1) := dk_27 (dk_at dksX8_usher_1 18 rfl rfl)
theorem dX8_usher_43 : decode cX8_usher 43 = .ok (.iload_n 3, 1) := dk_29 (dk_at dksX8_usher_1 19 rfl rfl)
theorem dX8_usher_44 : decode cX8_usher 44 = .ok (.iload 4, 2) := dk_21 4 (dk_at dksX8_usher_1 20 rfl rfl)
theorem dX8_usher_46 : decode cX8_usher 46 = .ok (.invokevirtual 434, 3) := dk_182 1 178 (dk_at dksX8_usher_2 0 rfl rfl)
theorem dX8_usher_49 : decode cX8_usher 49 = .ok (.ifCond .eq 7, 3) := dk_153 0 7 (dk_at dksX8_usher_2 3 rfl rfl)
theorem dX8_usher_52 : decode cX8_usher 52 = .ok (.iconst 1, 1) := dk_4 (dk_at dksX8_usher_2 6 rfl rfl)
theorem dX8_usher_53 : decode cX8_usher 53 = .ok (.goto 4, 3) := dk_167 0 4 (dk_at dksX8_usher_2 7 rfl rfl)
theorem dX8_usher_56 : decode cX8_usher 56 = .ok (.iconst 0, 1) := dk_3 (dk_at dksX8_usher_2 10 rfl rfl)
theorem dX8_usher_57 : decode cX8_usher 57 = .ok (.iadd, 1) := dk_96 (dk_at dksX8_usher_2 11 rfl rfl)
theorem dX8_usher_58 : decode cX8_usher 58 = .ok (.istore_n 2, 1) := dk_61 (dk_at dksX8_usher_2 12 rfl rfl)
theorem dX8_usher_59 : decode cX8_usher 59 = .ok (.iinc 4 1, 3) := dk_132 4 1 (dk_at dksX8_usher_2 13 rfl rfl)
theorem dX8_usher_62 : decode cX8_usher 62 = .ok (.goto (-29), 3) := dk_167 255 227 (dk_at dksX8_usher_2 16 rfl rfl)
theorem dX8_usher_65 : decode cX8_usher 65 = .ok (.iinc 3 1, 3) := dk_132 3 1 (dk_at dksX8_usher_2 19 rfl rfl)
theorem dX8_usher_68 : decode cX8_usher 68 = .ok (.goto (-44), 3) := dk_167 255 212 (dk_at dksX8_usher_3 0 rfl rfl)
theorem dX8_usher_71 : decode cX8_usher 71 = .ok (.iload_n 2, 1) := dk_28 (dk_at dksX8_usher_3 3 rfl rfl)
theorem dX8_usher_72 : decode cX8_usher 72 = .ok (.ireturn, 1) := dk_172 (dk_at dksX8_usher_3 4 rfl rfl)
abbrev cX8_rests : ByteArray := prog_18_method_114_code
def yX8_rests : MethodName := ⟨RX8, "rests", "(III)Z"⟩
def dkwX8_rests_4 : List UInt8 := [182, 1, 175, 154, 0, 7, 4, 167, 0, 4, 3, 54, 4, 132, 6, 1, 167, 255, 195, 21, 4, 172]
abbrev dktX8_rests_4 : List UInt8 := dkwX8_rests_4 ++ []
def dkwX8_rests_3 : List UInt8 := [21, 5, 153, 0, 17, 42, 27, 28, 21, 6, 182, 1, 175, 153, 0, 21, 167, 0, 14, 42, 27, 21, 6, 29]
abbrev dktX8_rests_3 : List UInt8 := dkwX8_rests_3 ++ dktX8_rests_4
def dkwX8_rests_2 : List UInt8 := [54, 6, 21, 6, 16, 8, 163, 0, 60, 21, 4, 153, 0, 55, 42, 21, 6, 182, 1, 172, 153, 0, 33]
abbrev dktX8_rests_2 : List UInt8 := dkwX8_rests_2 ++ dktX8_rests_3
def dkwX8_rests_1 : List UInt8 := [21, 4, 153, 0, 17, 42, 27, 28, 29, 182, 1, 175, 153, 0, 7, 4, 167, 0, 4, 3, 54, 5, 3]
abbrev dktX8_rests_1 : List UInt8 := dkwX8_rests_1 ++ dktX8_rests_2
def dkwX8_rests_0 : List UInt8 := [42, 28, 182, 1, 172, 153, 0, 15, 42, 29, 182, 1, 172, 153, 0, 7, 4, 167, 0, 4, 3, 54, 4]
abbrev dktX8_rests_0 : List UInt8 := dkwX8_rests_0 ++ dktX8_rests_1
theorem dksX8_rests_0 : cX8_rests.data.toList.drop 0 = dktX8_rests_0 := by decide +kernel
theorem dksX8_rests_1 : cX8_rests.data.toList.drop 23 = dktX8_rests_1 := dk_seg dksX8_rests_0 23 rfl rfl
theorem dksX8_rests_2 : cX8_rests.data.toList.drop 46 = dktX8_rests_2 := dk_seg dksX8_rests_1 23 rfl rfl
theorem dksX8_rests_3 : cX8_rests.data.toList.drop 69 = dktX8_rests_3 := dk_seg dksX8_rests_2 23 rfl rfl
theorem dksX8_rests_4 : cX8_rests.data.toList.drop 93 = dktX8_rests_4 := dk_seg dksX8_rests_3 24 rfl rfl
theorem dX8_rests_0 : decode cX8_rests 0 = .ok (.aload_n 0, 1) := dk_42 (dk_at dksX8_rests_0 0 rfl rfl)
theorem dX8_rests_1 : decode cX8_rests 1 = .ok (.iload_n 2, 1) := dk_28 (dk_at dksX8_rests_0 1 rfl rfl)
theorem dX8_rests_2 : decode cX8_rests 2 = .ok (.invokevirtual 428, 3) := dk_182 1 172 (dk_at dksX8_rests_0 2 rfl rfl)
theorem dX8_rests_5 : decode cX8_rests 5 = .ok (.ifCond .eq 15, 3) := dk_153 0 15 (dk_at dksX8_rests_0 5 rfl rfl)
theorem dX8_rests_8 : decode cX8_rests 8 = .ok (.aload_n 0, 1) := dk_42 (dk_at dksX8_rests_0 8 rfl rfl)
theorem dX8_rests_9 : decode cX8_rests 9 = .ok (.iload_n 3, 1) := dk_29 (dk_at dksX8_rests_0 9 rfl rfl)
theorem dX8_rests_10 : decode cX8_rests 10 = .ok (.invokevirtual 428, 3) := dk_182 1 172 (dk_at dksX8_rests_0 10 rfl rfl)
theorem dX8_rests_13 : decode cX8_rests 13 = .ok (.ifCond .eq 7, 3) := dk_153 0 7 (dk_at dksX8_rests_0 13 rfl rfl)
theorem dX8_rests_16 : decode cX8_rests 16 = .ok (.iconst 1, 1) := dk_4 (dk_at dksX8_rests_0 16 rfl rfl)
theorem dX8_rests_17 : decode cX8_rests 17 = .ok (.goto 4, 3) := dk_167 0 4 (dk_at dksX8_rests_0 17 rfl rfl)
theorem dX8_rests_20 : decode cX8_rests 20 = .ok (.iconst 0, 1) := dk_3 (dk_at dksX8_rests_0 20 rfl rfl)
theorem dX8_rests_21 : decode cX8_rests 21 = .ok (.istore 4, 2) := dk_54 4 (dk_at dksX8_rests_0 21 rfl rfl)
theorem dX8_rests_23 : decode cX8_rests 23 = .ok (.iload 4, 2) := dk_21 4 (dk_at dksX8_rests_1 0 rfl rfl)
theorem dX8_rests_25 : decode cX8_rests 25 = .ok (.ifCond .eq 17, 3) := dk_153 0 17 (dk_at dksX8_rests_1 2 rfl rfl)
theorem dX8_rests_28 : decode cX8_rests 28 = .ok (.aload_n 0, 1) := dk_42 (dk_at dksX8_rests_1 5 rfl rfl)
theorem dX8_rests_29 : decode cX8_rests 29 = .ok (.iload_n 1, 1) := dk_27 (dk_at dksX8_rests_1 6 rfl rfl)
theorem dX8_rests_30 : decode cX8_rests 30 = .ok (.iload_n 2, 1) := dk_28 (dk_at dksX8_rests_1 7 rfl rfl)
theorem dX8_rests_31 : decode cX8_rests 31 = .ok (.iload_n 3, 1) := dk_29 (dk_at dksX8_rests_1 8 rfl rfl)
theorem dX8_rests_32 : decode cX8_rests 32 = .ok (.invokevirtual 431, 3) := dk_182 1 175 (dk_at dksX8_rests_1 9 rfl rfl)
theorem dX8_rests_35 : decode cX8_rests 35 = .ok (.ifCond .eq 7, 3) := dk_153 0 7 (dk_at dksX8_rests_1 12 rfl rfl)
theorem dX8_rests_38 : decode cX8_rests 38 = .ok (.iconst 1, 1) := dk_4 (dk_at dksX8_rests_1 15 rfl rfl)
theorem dX8_rests_39 : decode cX8_rests 39 = .ok (.goto 4, 3) := dk_167 0 4 (dk_at dksX8_rests_1 16 rfl rfl)
theorem dX8_rests_42 : decode cX8_rests 42 = .ok (.iconst 0, 1) := dk_3 (dk_at dksX8_rests_1 19 rfl rfl)
theorem dX8_rests_43 : decode cX8_rests 43 = .ok (.istore 5, 2) := dk_54 5 (dk_at dksX8_rests_1 20 rfl rfl)
theorem dX8_rests_45 : decode cX8_rests 45 = .ok (.iconst 0, 1) := dk_3 (dk_at dksX8_rests_1 22 rfl rfl)
theorem dX8_rests_46 : decode cX8_rests 46 = .ok (.istore 6, 2) := dk_54 6 (dk_at dksX8_rests_2 0 rfl rfl)
theorem dX8_rests_48 : decode cX8_rests 48 = .ok (.iload 6, 2) := dk_21 6 (dk_at dksX8_rests_2 2 rfl rfl)
theorem dX8_rests_50 : decode cX8_rests 50 = .ok (.bipush 8, 2) := dk_16 8 (dk_at dksX8_rests_2 4 rfl rfl)
theorem dX8_rests_52 : decode cX8_rests 52 = .ok (.if_icmp .gt 60, 3) := dk_163 0 60 (dk_at dksX8_rests_2 6 rfl rfl)
theorem dX8_rests_55 : decode cX8_rests 55 = .ok (.iload 4, 2) := dk_21 4 (dk_at dksX8_rests_2 9 rfl rfl)
theorem dX8_rests_57 : decode cX8_rests 57 = .ok (.ifCond .eq 55, 3) := dk_153 0 55 (dk_at dksX8_rests_2 11 rfl rfl)
theorem dX8_rests_60 : decode cX8_rests 60 = .ok (.aload_n 0, 1) := dk_42 (dk_at dksX8_rests_2 14 rfl rfl)
theorem dX8_rests_61 : decode cX8_rests 61 = .ok (.iload 6, 2) := dk_21 6 (dk_at dksX8_rests_2 15 rfl rfl)
theorem dX8_rests_63 : decode cX8_rests 63 = .ok (.invokevirtual 428, 3) := dk_182 1 172 (dk_at dksX8_rests_2 17 rfl rfl)
theorem dX8_rests_66 : decode cX8_rests 66 = .ok (.ifCond .eq 33, 3) := dk_153 0 33 (dk_at dksX8_rests_2 20 rfl rfl)
theorem dX8_rests_69 : decode cX8_rests 69 = .ok (.iload 5, 2) := dk_21 5 (dk_at dksX8_rests_3 0 rfl rfl)
theorem dX8_rests_71 : decode cX8_rests 71 = .ok (.ifCond .eq 17, 3) := dk_153 0 17 (dk_at dksX8_rests_3 2 rfl rfl)
theorem dX8_rests_74 : decode cX8_rests 74 = .ok (.aload_n 0, 1) := dk_42 (dk_at dksX8_rests_3 5 rfl rfl)
theorem dX8_rests_75 : decode cX8_rests 75 = .ok (.iload_n 1, 1) := dk_27 (dk_at dksX8_rests_3 6 rfl rfl)
theorem dX8_rests_76 : decode cX8_rests 76 = .ok (.iload_n 2, 1) := dk_28 (dk_at dksX8_rests_3 7 rfl rfl)
theorem dX8_rests_77 : decode cX8_rests 77 = .ok (.iload 6, 2) := dk_21 6 (dk_at dksX8_rests_3 8 rfl rfl)
theorem dX8_rests_79 : decode cX8_rests 79 = .ok (.invokevirtual 431, 3) := dk_182 1 175 (dk_at dksX8_rests_3 10 rfl rfl)
theorem dX8_rests_82 : decode cX8_rests 82 = .ok (.ifCond .eq 21, 3) := dk_153 0 21 (dk_at dksX8_rests_3 13 rfl rfl)
theorem dX8_rests_85 : decode cX8_rests 85 = .ok (.goto 14, 3) := dk_167 0 14 (dk_at dksX8_rests_3 16 rfl rfl)
theorem dX8_rests_88 : decode cX8_rests 88 = .ok (.aload_n 0, 1) := dk_42 (dk_at dksX8_rests_3 19 rfl rfl)
theorem dX8_rests_89 : decode cX8_rests 89 = .ok (.iload_n 1, 1) := dk_27 (dk_at dksX8_rests_3 20 rfl rfl)
theorem dX8_rests_90 : decode cX8_rests 90 = .ok (.iload 6, 2) := dk_21 6 (dk_at dksX8_rests_3 21 rfl rfl)
theorem dX8_rests_92 : decode cX8_rests 92 = .ok (.iload_n 3, 1) := dk_29 (dk_at dksX8_rests_3 23 rfl rfl)
theorem dX8_rests_93 : decode cX8_rests 93 = .ok (.invokevirtual 431, 3) := dk_182 1 175 (dk_at dksX8_rests_4 0 rfl rfl)
theorem dX8_rests_96 : decode cX8_rests 96 = .ok (.ifCond .ne 7, 3) := dk_154 0 7 (dk_at dksX8_rests_4 3 rfl rfl)
theorem dX8_rests_99 : decode cX8_rests 99 = .ok (.iconst 1, 1) := dk_4 (dk_at dksX8_rests_4 6 rfl rfl)
theorem dX8_rests_100 : decode cX8_rests 100 = .ok (.goto 4, 3) := dk_167 0 4 (dk_at dksX8_rests_4 7 rfl rfl)
theorem dX8_rests_103 : decode cX8_rests 103 = .ok (.iconst 0, 1) := dk_3 (dk_at dksX8_rests_4 10 rfl rfl)
theorem dX8_rests_104 : decode cX8_rests 104 = .ok (.istore 4, 2) := dk_54 4 (dk_at dksX8_rests_4 11 rfl rfl)
theorem dX8_rests_106 : decode cX8_rests 106 = .ok (.iinc 6 1, 3) := dk_132 6 1 (dk_at dksX8_rests_4 13 rfl rfl)
theorem dX8_rests_109 : decode cX8_rests 109 = .ok (.goto (-61), 3) := dk_167 255 195 (dk_at dksX8_rests_4 16 rfl rfl)
theorem dX8_rests_112 : decode cX8_rests 112 = .ok (.iload 4, 2) := dk_21 4 (dk_at dksX8_rests_4 19 rfl rfl)
theorem dX8_rests_114 : decode cX8_rests 114 = .ok (.ireturn, 1) := dk_172 (dk_at dksX8_rests_4 21 rfl rfl)
abbrev cX8_canBe : ByteArray := prog_18_method_113_code
def yX8_canBe : MethodName := ⟨RX8, "canBe", "(I)Z"⟩
def dkwX8_canBe_1 : List UInt8 := [167, 0, 4, 3, 172]
abbrev dktX8_canBe_1 : List UInt8 := dkwX8_canBe_1 ++ []
def dkwX8_canBe_0 : List UInt8 := [27, 16, 8, 159, 0, 19, 27, 42, 182, 0, 83, 162, 0, 15, 42, 27, 182, 0, 94, 153, 0, 7, 4]
abbrev dktX8_canBe_0 : List UInt8 := dkwX8_canBe_0 ++ dktX8_canBe_1
theorem dksX8_canBe_0 : cX8_canBe.data.toList.drop 0 = dktX8_canBe_0 := by decide +kernel
theorem dksX8_canBe_1 : cX8_canBe.data.toList.drop 23 = dktX8_canBe_1 := dk_seg dksX8_canBe_0 23 rfl rfl
theorem dX8_canBe_0 : decode cX8_canBe 0 = .ok (.iload_n 1, 1) := dk_27 (dk_at dksX8_canBe_0 0 rfl rfl)
theorem dX8_canBe_1 : decode cX8_canBe 1 = .ok (.bipush 8, 2) := dk_16 8 (dk_at dksX8_canBe_0 1 rfl rfl)
theorem dX8_canBe_3 : decode cX8_canBe 3 = .ok (.if_icmp .eq 19, 3) := dk_159 0 19 (dk_at dksX8_canBe_0 3 rfl rfl)
theorem dX8_canBe_6 : decode cX8_canBe 6 = .ok (.iload_n 1, 1) := dk_27 (dk_at dksX8_canBe_0 6 rfl rfl)
theorem dX8_canBe_7 : decode cX8_canBe 7 = .ok (.aload_n 0, 1) := dk_42 (dk_at dksX8_canBe_0 7 rfl rfl)
theorem dX8_canBe_8 : decode cX8_canBe 8 = .ok (.invokevirtual 83, 3) := dk_182 0 83 (dk_at dksX8_canBe_0 8 rfl rfl)
theorem dX8_canBe_11 : decode cX8_canBe 11 = .ok (.if_icmp .ge 15, 3) := dk_162 0 15 (dk_at dksX8_canBe_0 11 rfl rfl)
theorem dX8_canBe_14 : decode cX8_canBe 14 = .ok (.aload_n 0, 1) := dk_42 (dk_at dksX8_canBe_0 14 rfl rfl)
theorem dX8_canBe_15 : decode cX8_canBe 15 = .ok (.iload_n 1, 1) := dk_27 (dk_at dksX8_canBe_0 15 rfl rfl)
theorem dX8_canBe_16 : decode cX8_canBe 16 = .ok (.invokevirtual 94, 3) := dk_182 0 94 (dk_at dksX8_canBe_0 16 rfl rfl)
theorem dX8_canBe_19 : decode cX8_canBe 19 = .ok (.ifCond .eq 7, 3) := dk_153 0 7 (dk_at dksX8_canBe_0 19 rfl rfl)
theorem dX8_canBe_22 : decode cX8_canBe 22 = .ok (.iconst 1, 1) := dk_4 (dk_at dksX8_canBe_0 22 rfl rfl)
theorem dX8_canBe_23 : decode cX8_canBe 23 = .ok (.goto 4, 3) := dk_167 0 4 (dk_at dksX8_canBe_1 0 rfl rfl)
theorem dX8_canBe_26 : decode cX8_canBe 26 = .ok (.iconst 0, 1) := dk_3 (dk_at dksX8_canBe_1 3 rfl rfl)
theorem dX8_canBe_27 : decode cX8_canBe 27 = .ok (.ireturn, 1) := dk_172 (dk_at dksX8_canBe_1 4 rfl rfl)
abbrev cX8_isHeard : ByteArray := prog_18_method_112_code
def yX8_isHeard : MethodName := ⟨RX8, "isHeard", "(III)Z"⟩
def dkwX8_isHeard_2 : List UInt8 := [54, 4, 42, 3, 181, 1, 57, 42, 3, 181, 1, 63, 21, 4, 172]
abbrev dktX8_isHeard_2 : List UInt8 := dkwX8_isHeard_2 ++ []
def dkwX8_isHeard_1 : List UInt8 := [3, 167, 0, 6, 4, 29, 120, 181, 1, 63, 42, 27, 182, 1, 111, 2, 159, 0, 7, 4, 167, 0, 4, 3]
abbrev dktX8_isHeard_1 : List UInt8 := dkwX8_isHeard_1 ++ dktX8_isHeard_2
def dkwX8_isHeard_0 : List UInt8 := [42, 28, 16, 8, 160, 0, 7, 3, 167, 0, 6, 4, 28, 120, 181, 1, 57, 42, 29, 16, 8, 160, 0, 7]
abbrev dktX8_isHeard_0 : List UInt8 := dkwX8_isHeard_0 ++ dktX8_isHeard_1
theorem dksX8_isHeard_0 : cX8_isHeard.data.toList.drop 0 = dktX8_isHeard_0 := by decide +kernel
theorem dksX8_isHeard_1 : cX8_isHeard.data.toList.drop 24 = dktX8_isHeard_1 := dk_seg dksX8_isHeard_0 24 rfl rfl
theorem dksX8_isHeard_2 : cX8_isHeard.data.toList.drop 48 = dktX8_isHeard_2 := dk_seg dksX8_isHeard_1 24 rfl rfl
theorem dX8_isHeard_0 : decode cX8_isHeard 0 = .ok (.aload_n 0, 1) := dk_42 (dk_at dksX8_isHeard_0 0 rfl rfl)
theorem dX8_isHeard_1 : decode cX8_isHeard 1 = .ok (.iload_n 2, 1) := dk_28 (dk_at dksX8_isHeard_0 1 rfl rfl)
theorem dX8_isHeard_2 : decode cX8_isHeard 2 = .ok (.bipush 8, 2) := dk_16 8 (dk_at dksX8_isHeard_0 2 rfl rfl)
theorem dX8_isHeard_4 : decode cX8_isHeard 4 = .ok (.if_icmp .ne 7, 3) := dk_160 0 7 (dk_at dksX8_isHeard_0 4 rfl rfl)
theorem dX8_isHeard_7 : decode cX8_isHeard 7 = .ok (.iconst 0, 1) := dk_3 (dk_at dksX8_isHeard_0 7 rfl rfl)
theorem dX8_isHeard_8 : decode cX8_isHeard 8 = .ok (.goto 6, 3) := dk_167 0 6 (dk_at dksX8_isHeard_0 8 rfl rfl)
theorem dX8_isHeard_11 : decode cX8_isHeard 11 = .ok (.iconst 1, 1) := dk_4 (dk_at dksX8_isHeard_0 11 rfl rfl)
theorem dX8_isHeard_12 : decode cX8_isHeard 12 = .ok (.iload_n 2, 1) := dk_28 (dk_at dksX8_isHeard_0 12 rfl rfl)
theorem dX8_isHeard_13 : decode cX8_isHeard 13 = .ok (.ishl, 1) := dk_120 (dk_at dksX8_isHeard_0 13 rfl rfl)
theorem dX8_isHeard_14 : decode cX8_isHeard 14 = .ok (.putfield 313, 3) := dk_181 1 57 (dk_at dksX8_isHeard_0 14 rfl rfl)
theorem dX8_isHeard_17 : decode cX8_isHeard 17 = .ok (.aload_n 0, 1) := dk_42 (dk_at dksX8_isHeard_0 17 rfl rfl)
theorem dX8_isHeard_18 : decode cX8_isHeard 18 = .ok (.iload_n 3, 1) := dk_29 (dk_at dksX8_isHeard_0 18 rfl rfl)
theorem dX8_isHeard_19 : decode cX8_isHeard 19 = .ok (.bipush 8, 2) := dk_16 8 (dk_at dksX8_isHeard_0 19 rfl rfl)
theorem dX8_isHeard_21 : decode cX8_isHeard 21 = .ok (.if_icmp .ne 7, 3) := dk_160 0 7 (dk_at dksX8_isHeard_0 21 rfl rfl)
theorem dX8_isHeard_24 : decode cX8_isHeard 24 = .ok (.iconst 0, 1) := dk_3 (dk_at dksX8_isHeard_1 0 rfl rfl)
theorem dX8_isHeard_25 : decode cX8_isHeard 25 = .ok (.goto 6, 3) := dk_167 0 6 (dk_at dksX8_isHeard_1 1 rfl rfl)
theorem dX8_isHeard_28 : decode cX8_isHeard 28 = .ok (.iconst 1, 1) := dk_4 (dk_at dksX8_isHeard_1 4 rfl rfl)
theorem dX8_isHeard_29 : decode cX8_isHeard 29 = .ok (.iload_n 3, 1) := dk_29 (dk_at dksX8_isHeard_1 5 rfl rfl)
theorem dX8_isHeard_30 : decode cX8_isHeard 30 = .ok (.ishl, 1) := dk_120 (dk_at dksX8_isHeard_1 6 rfl rfl)
theorem dX8_isHeard_31 : decode cX8_isHeard 31 = .ok (.putfield 319, 3) := dk_181 1 63 (dk_at dksX8_isHeard_1 7 rfl rfl)
theorem dX8_isHeard_34 : decode cX8_isHeard 34 = .ok (.aload_n 0, 1) := dk_42 (dk_at dksX8_isHeard_1 10 rfl rfl)
theorem dX8_isHeard_35 : decode cX8_isHeard 35 = .ok (.iload_n 1, 1) := dk_27 (dk_at dksX8_isHeard_1 11 rfl rfl)
theorem dX8_isHeard_36 : decode cX8_isHeard 36 = .ok (.invokevirtual 367, 3) := dk_182 1 111 (dk_at dksX8_isHeard_1 12 rfl rfl)
theorem dX8_isHeard_39 : decode cX8_isHeard 39 = .ok (.iconst (-1), 1) := dk_2 (dk_at dksX8_isHeard_1 15 rfl rfl)
theorem dX8_isHeard_40 : decode cX8_isHeard 40 = .ok (.if_icmp .eq 7, 3) := dk_159 0 7 (dk_at dksX8_isHeard_1 16 rfl rfl)
theorem dX8_isHeard_43 : decode cX8_isHeard 43 = .ok (.iconst 1, 1) := dk_4 (dk_at dksX8_isHeard_1 19 rfl rfl)
theorem dX8_isHeard_44 : decode cX8_isHeard 44 = .ok (.goto 4, 3) := dk_167 0 4 (dk_at dksX8_isHeard_1 20 rfl rfl)
theorem dX8_isHeard_47 : decode cX8_isHeard 47 = .ok (.iconst 0, 1) := dk_3 (dk_at dksX8_isHeard_1 23 rfl rfl)
theorem dX8_isHeard_48 : decode cX8_isHeard 48 = .ok (.istore 4, 2) := dk_54 4 (dk_at dksX8_isHeard_2 0 rfl rfl)
theorem dX8_isHeard_50 : decode cX8_isHeard 50 = .ok (.aload_n 0, 1) := dk_42 (dk_at dksX8_isHeard_2 2 rfl rfl)
theorem dX8_isHeard_51 : decode cX8_isHeard 51 = .ok (.iconst 0, 1) := dk_3 (dk_at dksX8_isHeard_2 3 rfl rfl)
theorem dX8_isHeard_52 : decode cX8_isHeard 52 = .ok (.putfield 313, 3) := dk_181 1 57 (dk_at dksX8_isHeard_2 4 rfl rfl)
theorem dX8_isHeard_55 : decode cX8_isHeard 55 = .ok (.aload_n 0, 1) := dk_42 (dk_at dksX8_isHeard_2 7 rfl rfl)
theorem dX8_isHeard_56 : decode cX8_isHeard 56 = .ok (.iconst 0, 1) := dk_3 (dk_at dksX8_isHeard_2 8 rfl rfl)
theorem dX8_isHeard_57 : decode cX8_isHeard 57 = .ok (.putfield 319, 3) := dk_181 1 63 (dk_at dksX8_isHeard_2 9 rfl rfl)
theorem dX8_isHeard_60 : decode cX8_isHeard 60 = .ok (.iload 4, 2) := dk_21 4 (dk_at dksX8_isHeard_2 12 rfl rfl)
theorem dX8_isHeard_62 : decode cX8_isHeard 62 = .ok (.ireturn, 1) := dk_172 (dk_at dksX8_isHeard_2 14 rfl rfl)
abbrev cX8_alike : ByteArray := prog_18_method_116_code
def yX8_alike : MethodName := ⟨RX8, "alike", "()I"⟩
def dkwX8_alike_3 : List UInt8 := [167, 255, 194, 27, 172]
abbrev dktX8_alike_3 : List UInt8 := dkwX8_alike_3 ++ []
def dkwX8_alike_2 : List UInt8 := [4, 182, 0, 80, 160, 0, 7, 4, 167, 0, 4, 3, 96, 60, 132, 3, 1, 167, 255, 210, 132, 2, 1]
abbrev dktX8_alike_2 : List UInt8 := dkwX8_alike_2 ++ dktX8_alike_3
def dkwX8_alike_1 : List UInt8 := [27, 42, 28, 3, 182, 0, 80, 42, 29, 3, 182, 0, 80, 160, 0, 22, 42, 28, 4, 182, 0, 80, 42, 29]
abbrev dktX8_alike_1 : List UInt8 := dkwX8_alike_1 ++ dktX8_alike_2
def dkwX8_alike_0 : List UInt8 := [42, 3, 181, 0, 3, 3, 60, 3, 61, 28, 42, 182, 0, 91, 162, 0, 60, 3, 62, 29, 28, 162, 0, 47]
abbrev dktX8_alike_0 : List UInt8 := dkwX8_alike_0 ++ dktX8_alike_1
theorem dksX8_alike_0 : cX8_alike.data.toList.drop 0 = dktX8_alike_0 := by decide +kernel
theorem dksX8_alike_1 : cX8_alike.data.toList.drop 24 = dktX8_alike_1 := dk_seg dksX8_alike_0 24 rfl rfl
theorem dksX8_alike_2 : cX8_alike.data.toList.drop 48 = dktX8_alike_2 := dk_seg dksX8_alike_1 24 rfl rfl
theorem dksX8_alike_3 : cX8_alike.data.toList.drop 71 = dktX8_alike_3 := dk_seg dksX8_alike_2 23 rfl rfl
theorem dX8_alike_0 : decode cX8_alike 0 = .ok (.aload_n 0, 1) := dk_42 (dk_at dksX8_alike_0 0 rfl rfl)
theorem dX8_alike_1 : decode cX8_alike 1 = .ok (.iconst 0, 1) := dk_3 (dk_at dksX8_alike_0 1 rfl rfl)
theorem dX8_alike_2 : decode cX8_alike 2 = .ok (.putfield 3, 3) := dk_181 0 3 (dk_at dksX8_alike_0 2 rfl rfl)
theorem dX8_alike_5 : decode cX8_alike 5 = .ok (.iconst 0, 1) := dk_3 (dk_at dksX8_alike_0 5 rfl rfl)
theorem dX8_alike_6 : decode cX8_alike 6 = .ok (.istore_n 1, 1) := dk_60 (dk_at dksX8_alike_0 6 rfl rfl)
theorem dX8_alike_7 : decode cX8_alike 7 = .ok (.iconst 0, 1) := dk_3 (dk_at dksX8_alike_0 7 rfl rfl)
theorem dX8_alike_8 : decode cX8_alike 8 = .ok (.istore_n 2, 1) := dk_61 (dk_at dksX8_alike_0 8 rfl rfl)
theorem dX8_alike_9 : decode cX8_alike 9 = .ok (.iload_n 2, 1) := dk_28 (dk_at dksX8_alike_0 9 rfl rfl)
theorem dX8_alike_10 : decode cX8_alike 10 = .ok (.aload_n 0, 1) := dk_42 (dk_at dksX8_alike_0 10 rfl rfl)
theorem dX8_alike_11 : decode cX8_alike 11 = .ok (.invokevirtual 91, 3) := dk_182 0 91 (dk_at dksX8_alike_0 11 rfl rfl)
theorem dX8_alike_14 : decode cX8_alike 14 = .ok (.if_icmp .ge 60, 3) := dk_162 0 60 (dk_at dksX8_alike_0 14 rfl rfl)
theorem dX8_alike_17 : decode cX8_alike 17 = .ok (.iconst 0, 1) := dk_3 (dk_at dksX8_alike_0 17 rfl rfl)
theorem dX8_alike_18 : decode cX8_alike 18 = .ok (.istore_n 3, 1) := dk_62 (dk_at dksX8_alike_0 18 rfl rfl)
theorem dX8_alike_19 : decode cX8_alike 19 = .ok (.iload_n 3, 1) := dk_29 (dk_at dksX8_alike_0 19 rfl rfl)
theorem dX8_alike_20 : decode cX8_alike 20 = .ok (.iload_n 2, 1) := dk_28 (dk_at dksX8_alike_0 20 rfl rfl)
theorem dX8_alike_21 : decode cX8_alike 21 = .ok (.if_icmp .ge 47, 3) := dk_162 0 47 (dk_at dksX8_alike_0 21 rfl rfl)
theorem dX8_alike_24 : decode cX8_alike 24 = .ok (.iload_n 1, 1) := dk_27 (dk_at dksX8_alike_1 0 rfl rfl)
theorem dX8_alike_25 : decode cX8_alike 25 = .ok (.aload_n 0, 1) := dk_42 (dk_at dksX8_alike_1 1 rfl rfl)
theorem dX8_alike_26 : decode cX8_alike 26 = .ok (.iload_n 2, 1) := dk_28 (dk_at dksX8_alike_1 2 rfl rfl)
theorem dX8_alike_27 : decode cX8_alike 27 = .ok (.iconst 0, 1) := dk_3 (dk_at dksX8_alike_1 3 rfl rfl)
theorem dX8_alike_28 : decode cX8_alike 28 = .ok (.invokevirtual 80, 3) := dk_182 0 80 (dk_at dksX8_alike_1 4 rfl rfl)
theorem dX8_alike_31 : decode cX8_alike 31 = .ok (.aload_n 0, 1) := dk_42 (dk_at dksX8_alike_1 7 rfl rfl)
theorem dX8_alike_32 : decode cX8_alike 32 = .ok (.iload_n 3, 1) := dk_29 (dk_at dksX8_alike_1 8 rfl rfl)
theorem dX8_alike_33 : decode cX8_alike 33 = .ok (.iconst 0, 1) := dk_3 (dk_at dksX8_alike_1 9 rfl rfl)
theorem dX8_alike_34 : decode cX8_alike 34 = .ok (.invokevirtual 80, 3) := dk_182 0 80 (dk_at dksX8_alike_1 10 rfl rfl)
theorem dX8_alike_37 : decode cX8_alike 37 = .ok (.if_icmp .ne 22, 3) := dk_160 0 22 (dk_at dksX8_alike_1 13 rfl rfl)
theorem dX8_alike_40 : decode cX8_alike 40 = .ok (.aload_n 0, 1) := dk_42 (dk_at dksX8_alike_1 16 rfl rfl)
theorem dX8_alike_41 : decode cX8_alike 41 = .ok (.iload_n 2, 1) := dk_28 (dk_at dksX8_alike_1 17 rfl rfl)
theorem dX8_alike_42 : decode cX8_alike 42 = .ok (.iconst 1, 1) := dk_4 (dk_at dksX8_alike_1 18 rfl rfl)
theorem dX8_alike_43 : decode cX8_alike 43 = .ok (.invokevirtual 80, 3) := dk_182 0 80 (dk_at dksX8_alike_1 19 rfl rfl)
theorem dX8_alike_46 : decode cX8_alike 46 = .ok (.aload_n 0, 1) := dk_42 (dk_at dksX8_alike_1 22 rfl rfl)
theorem dX8_alike_47 : decode cX8_alike 47 = .ok (.iload_n 3, 1) := dk_29 (dk_at dksX8_alike_1 23 rfl rfl)
theorem dX8_alike_48 : decode cX8_alike 48 = .ok (.iconst 1, 1) := dk_4 (dk_at dksX8_alike_2 0 rfl rfl)
theorem dX8_alike_49 : decode cX8_alike 49 = .ok (.invokevirtual 80, 3) := dk_182 0 80 (dk_at dksX8_alike_2 1 rfl rfl)
theorem dX8_alike_52 : decode cX8_alike 52 = .ok (.if_icmp .ne 7, 3) := dk_160 0 7 (dk_at dksX8_alike_2 4 rfl rfl)
theorem dX8_alike_55 : decode cX8_alike 55 = .ok (.iconst 1, 1) := dk_4 (dk_at dksX8_alike_2 7 rfl rfl)
theorem dX8_alike_56 : decode cX8_alike 56 = .ok (.goto 4, 3) := dk_167 0 4 (dk_at dksX8_alike_2 8 rfl rfl)
theorem dX8_alike_59 : decode cX8_alike 59 = .ok (.iconst 0, 1) := dk_3 (dk_at dksX8_alike_2 11 rfl rfl)
theorem dX8_alike_60 : decode cX8_alike 60 = .ok (.iadd, 1) := dk_96 (dk_at dksX8_alike_2 12 rfl rfl)
theorem dX8_alike_61 : decode cX8_alike 61 = .ok (.istore_n 1, 1) := dk_60 (dk_at dksX8_alike_2 13 rfl rfl)
theorem dX8_alike_62 : decode cX8_alike 62 = .ok (.iinc 3 1, 3) := dk_132 3 1 (dk_at dksX8_alike_2 14 rfl rfl)
theorem dX8_alike_65 : decode cX8_alike 65 = .ok (.goto (-46), 3) := dk_167 255 210 (dk_at dksX8_alike_2 17 rfl rfl)
theorem dX8_alike_68 : decode cX8_alike 68 = .ok (.iinc 2 1, 3) := dk_132 2 1 (dk_at dksX8_alike_2 20 rfl rfl)
theorem dX8_alike_71 : decode cX8_alike 71 = .ok (.goto (-62), 3) := dk_167 255 194 (dk_at dksX8_alike_3 0 rfl rfl)
theorem dX8_alike_74 : decode cX8_alike 74 = .ok (.iload_n 1, 1) := dk_27 (dk_at dksX8_alike_3 3 rfl rfl)
theorem dX8_alike_75 : decode cX8_alike 75 = .ok (.ireturn, 1) := dk_172 (dk_at dksX8_alike_3 4 rfl rfl)
abbrev cX8_found : ByteArray := prog_18_method_119_code
def yX8_found : MethodName := ⟨RX8, "found", "(IZ)I"⟩
def dkwX8_found_3 : List UInt8 := [167, 255, 223, 28, 154, 0, 7, 29, 167, 0, 13, 29, 154, 0, 7, 3, 167, 0, 5, 21, 4, 172]
abbrev dktX8_found_3 : List UInt8 := dkwX8_found_3 ++ []
def dkwX8_found_2 : List UInt8 := [27, 182, 1, 184, 154, 0, 6, 167, 0, 13, 132, 3, 1, 21, 4, 21, 5, 126, 54, 4, 132, 5, 1]
abbrev dktX8_found_2 : List UInt8 := dkwX8_found_2 ++ dktX8_found_3
def dkwX8_found_1 : List UInt8 := [153, 0, 5, 3, 172, 3, 62, 16, 63, 54, 4, 3, 54, 5, 21, 5, 16, 64, 162, 0, 32, 42, 21, 5]
abbrev dktX8_found_1 : List UInt8 := dkwX8_found_1 ++ dktX8_found_2
def dkwX8_found_0 : List UInt8 := [42, 182, 0, 251, 42, 42, 27, 182, 1, 181, 154, 0, 7, 4, 167, 0, 4, 3, 4, 182, 1, 6]
abbrev dktX8_found_0 : List UInt8 := dkwX8_found_0 ++ dktX8_found_1
theorem dksX8_found_0 : cX8_found.data.toList.drop 0 = dktX8_found_0 := by decide +kernel
theorem dksX8_found_1 : cX8_found.data.toList.drop 22 = dktX8_found_1 := dk_seg dksX8_found_0 22 rfl rfl
theorem dksX8_found_2 : cX8_found.data.toList.drop 46 = dktX8_found_2 := dk_seg dksX8_found_1 24 rfl rfl
theorem dksX8_found_3 : cX8_found.data.toList.drop 69 = dktX8_found_3 := dk_seg dksX8_found_2 23 rfl rfl
theorem dX8_found_0 : decode cX8_found 0 = .ok (.aload_n 0, 1) := dk_42 (dk_at dksX8_found_0 0 rfl rfl)
theorem dX8_found_1 : decode cX8_found 1 = .ok (.invokevirtual 251, 3) := dk_182 0 251 (dk_at dksX8_found_0 1 rfl rfl)
theorem dX8_found_4 : decode cX8_found 4 = .ok (.aload_n 0, 1) := dk_42 (dk_at dksX8_found_0 4 rfl rfl)
theorem dX8_found_5 : decode cX8_found 5 = .ok (.aload_n 0, 1) := dk_42 (dk_at dksX8_found_0 5 rfl rfl)
theorem dX8_found_6 : decode cX8_found 6 = .ok (.iload_n 1, 1) := dk_27 (dk_at dksX8_found_0 6 rfl rfl)
theorem dX8_found_7 : decode cX8_found 7 = .ok (.invokevirtual 437, 3) := dk_182 1 181 (dk_at dksX8_found_0 7 rfl rfl)
theorem dX8_found_10 : decode cX8_found 10 = .ok (.ifCond .ne 7, 3) := dk_154 0 7 (dk_at dksX8_found_0 10 rfl rfl)
theorem dX8_found_13 : decode cX8_found 13 = .ok (.iconst 1, 1) := dk_4 (dk_at dksX8_found_0 13 rfl rfl)
theorem dX8_found_14 : decode cX8_found 14 = .ok (.goto 4, 3) := dk_167 0 4 (dk_at dksX8_found_0 14 rfl rfl)
theorem dX8_found_17 : decode cX8_found 17 = .ok (.iconst 0, 1) := dk_3 (dk_at dksX8_found_0 17 rfl rfl)
theorem dX8_found_18 : decode cX8_found 18 = .ok (.iconst 1, 1) := dk_4 (dk_at dksX8_found_0 18 rfl rfl)
theorem dX8_found_19 : decode cX8_found 19 = .ok (.invokevirtual 262, 3) := dk_182 1 6 (dk_at dksX8_found_0 19 rfl rfl)
theorem dX8_found_22 : decode cX8_found 22 = .ok (.ifCond .eq 5, 3) := dk_153 0 5 (dk_at dksX8_found_1 0 rfl rfl)
theorem dX8_found_25 : decode cX8_found 25 = .ok (.iconst 0, 1) := dk_3 (dk_at dksX8_found_1 3 rfl rfl)
theorem dX8_found_26 : decode cX8_found 26 = .ok (.ireturn, 1) := dk_172 (dk_at dksX8_found_1 4 rfl rfl)
theorem dX8_found_27 : decode cX8_found 27 = .ok (.iconst 0, 1) := dk_3 (dk_at dksX8_found_1 5 rfl rfl)
theorem dX8_found_28 : decode cX8_found 28 = .ok (.istore_n 3, 1) := dk_62 (dk_at dksX8_found_1 6 rfl rfl)
theorem dX8_found_29 : decode cX8_found 29 = .ok (.bipush 63, 2) := dk_16 63 (dk_at dksX8_found_1 7 rfl rfl)
theorem dX8_found_31 : decode cX8_found 31 = .ok (.istore 4, 2) := dk_54 4 (dk_at dksX8_found_1 9 rfl rfl)
theorem dX8_found_33 : decode cX8_found 33 = .ok (.iconst 0, 1) := dk_3 (dk_at dksX8_found_1 11 rfl rfl)
theorem dX8_found_34 : decode cX8_found 34 = .ok (.istore 5, 2) := dk_54 5 (dk_at dksX8_found_1 12 rfl rfl)
theorem dX8_found_36 : decode cX8_found 36 = .ok (.iload 5, 2) := dk_21 5 (dk_at dksX8_found_1 14 rfl rfl)
theorem dX8_found_38 : decode cX8_found 38 = .ok (.bipush 64, 2) := dk_16 64 (dk_at dksX8_found_1 16 rfl rfl)
theorem dX8_found_40 : decode cX8_found 40 = .ok (.if_icmp .ge 32, 3) := dk_162 0 32 (dk_at dksX8_found_1 18 rfl rfl)
theorem dX8_found_43 : decode cX8_found 43 = .ok (.aload_n 0, 1) := dk_42 (dk_at dksX8_found_1 21 rfl rfl)
theorem dX8_found_44 : decode cX8_found 44 = .ok (.iload 5, 2) := dk_21 5 (dk_at dksX8_found_1 22 rfl rfl)
theorem dX8_found_46 : decode cX8_found 46 = .ok (.iload_n 1, 1) := dk_27 (dk_at dksX8_found_2 0 rfl rfl)
theorem dX8_found_47 : decode cX8_found 47 = .ok (.invokevirtual 440, 3) := dk_182 1 184 (dk_at dksX8_found_2 1 rfl rfl)
theorem dX8_found_50 : decode cX8_found 50 = .ok (.ifCond .ne 6, 3) := dk_154 0 6 (dk_at dksX8_found_2 4 rfl rfl)
theorem dX8_found_53 : decode cX8_found 53 = .ok (.goto 13, 3) := dk_167 0 13 (dk_at dksX8_found_2 7 rfl rfl)
theorem dX8_found_56 : decode cX8_found 56 = .ok (.iinc 3 1, 3) := dk_132 3 1 (dk_at dksX8_found_2 10 rfl rfl)
theorem dX8_found_59 : decode cX8_found 59 = .ok (.iload 4, 2) := dk_21 4 (dk_at dksX8_found_2 13 rfl rfl)
theorem dX8_found_61 : decode cX8_found 61 = .ok (.iload 5, 2) := dk_21 5 (dk_at dksX8_found_2 15 rfl rfl)
theorem dX8_found_63 : decode cX8_found 63 = .ok (.iand, 1) := dk_126 (dk_at dksX8_found_2 17 rfl rfl)
theorem dX8_found_64 : decode cX8_found 64 = .ok (.istore 4, 2) := dk_54 4 (dk_at dksX8_found_2 18 rfl rfl)
theorem dX8_found_66 : decode cX8_found 66 = .ok (.iinc 5 1, 3) := dk_132 5 1 (dk_at dksX8_found_2 20 rfl rfl)
theorem dX8_found_69 : decode cX8_found 69 = .ok (.goto (-33), 3) := dk_167 255 223 (dk_at dksX8_found_3 0 rfl rfl)
theorem dX8_found_72 : decode cX8_found 72 = .ok (.iload_n 2, 1) := dk_28 (dk_at dksX8_found_3 3 rfl rfl)
theorem dX8_found_73 : decode cX8_found 73 = .ok (.ifCond .ne 7, 3) := dk_154 0 7 (dk_at dksX8_found_3 4 rfl rfl)
theorem dX8_found_76 : decode cX8_found 76 = .ok (.iload_n 3, 1) := dk_29 (dk_at dksX8_found_3 7 rfl rfl)
theorem dX8_found_77 : decode cX8_found 77 = .ok (.goto 13, 3) := dk_167 0 13 (dk_at dksX8_found_3 8 rfl rfl)
theorem dX8_found_80 : decode cX8_found 80 = .ok (.iload_n 3, 1) := dk_29 (dk_at dksX8_found_3 11 rfl rfl)
theorem dX8_found_81 : decode cX8_found 81 = .ok (.ifCond .ne 7, 3) := dk_154 0 7 (dk_at dksX8_found_3 12 rfl rfl)
theorem dX8_found_84 : decode cX8_found 84 = .ok (.iconst 0, 1) := dk_3 (dk_at dksX8_found_3 15 rfl rfl)
theorem dX8_found_85 : decode cX8_found 85 = .ok (.goto 5, 3) := dk_167 0 5 (dk_at dksX8_found_3 16 rfl rfl)
theorem dX8_found_88 : decode cX8_found 88 = .ok (.iload 4, 2) := dk_21 4 (dk_at dksX8_found_3 19 rfl rfl)
theorem dX8_found_90 : decode cX8_found 90 = .ok (.ireturn, 1) := dk_172 (dk_at dksX8_found_3 21 rfl rfl)
abbrev cX8_isTold : ByteArray := prog_18_method_117_code
def yX8_isTold : MethodName := ⟨RX8, "isTold", "(I)Z"⟩
def dkwX8_isTold_3 : List UInt8 := [167, 255, 223, 28, 172]
abbrev dktX8_isTold_3 : List UInt8 := dkwX8_isTold_3 ++ []
def dkwX8_isTold_2 : List UInt8 := [153, 0, 27, 42, 180, 0, 29, 29, 51, 184, 1, 41, 154, 0, 7, 4, 167, 0, 4, 3, 61, 132, 3, 2]
abbrev dktX8_isTold_2 : List UInt8 := dkwX8_isTold_2 ++ dktX8_isTold_3
def dkwX8_isTold_1 : List UInt8 := [184, 0, 87, 153, 0, 7, 4, 167, 0, 4, 3, 61, 3, 62, 29, 42, 180, 0, 105, 162, 0, 31, 28]
abbrev dktX8_isTold_1 : List UInt8 := dkwX8_isTold_1 ++ dktX8_isTold_2
def dkwX8_isTold_0 : List UInt8 := [42, 180, 0, 105, 5, 112, 154, 0, 26, 42, 180, 0, 105, 16, 40, 163, 0, 17, 27, 4, 16, 60]
abbrev dktX8_isTold_0 : List UInt8 := dkwX8_isTold_0 ++ dktX8_isTold_1
theorem dksX8_isTold_0 : cX8_isTold.data.toList.drop 0 = dktX8_isTold_0 := by decide +kernel
theorem dksX8_isTold_1 : cX8_isTold.data.toList.drop 22 = dktX8_isTold_1 := dk_seg dksX8_isTold_0 22 rfl rfl
theorem dksX8_isTold_2 : cX8_isTold.data.toList.drop 45 = dktX8_isTold_2 := dk_seg dksX8_isTold_1 23 rfl rfl
theorem dksX8_isTold_3 : cX8_isTold.data.toList.drop 69 = dktX8_isTold_3 := dk_seg dksX8_isTold_2 24 rfl rfl
theorem dX8_isTold_0 : decode cX8_isTold 0 = .ok (.aload_n 0, 1) := dk_42 (dk_at dksX8_isTold_0 0 rfl rfl)
theorem dX8_isTold_1 : decode cX8_isTold 1 = .ok (.getfield 105, 3) := dk_180 0 105 (dk_at dksX8_isTold_0 1 rfl rfl)
theorem dX8_isTold_4 : decode cX8_isTold 4 = .ok (.iconst 2, 1) := dk_5 (dk_at dksX8_isTold_0 4 rfl rfl)
theorem dX8_isTold_5 : decode cX8_isTold 5 = .ok (.irem, 1) := dk_112 (dk_at dksX8_isTold_0 5 rfl rfl)
theorem dX8_isTold_6 : decode cX8_isTold 6 = .ok (.ifCond .ne 26, 3) := dk_154 0 26 (dk_at dksX8_isTold_0 6 rfl rfl)
theorem dX8_isTold_9 : decode cX8_isTold 9 = .ok (.aload_n 0, 1) := dk_42 (dk_at dksX8_isTold_0 9 rfl rfl)
theorem dX8_isTold_10 : decode cX8_isTold 10 = .ok (.getfield 105, 3) := dk_180 0 105 (dk_at dksX8_isTold_0 10 rfl rfl)
theorem dX8_isTold_13 : decode cX8_isTold 13 = .ok (.bipush 40, 2) := dk_16 40 (dk_at dksX8_isTold_0 13 rfl rfl)
theorem dX8_isTold_15 : decode cX8_isTold 15 = .ok (.if_icmp .gt 17, 3) := dk_163 0 17 (dk_at dksX8_isTold_0 15 rfl rfl)
theorem dX8_isTold_18 : decode cX8_isTold 18 = .ok (.iload_n 1, 1) := dk_27 (dk_at dksX8_isTold_0 18 rfl rfl)
theorem dX8_isTold_19 : decode cX8_isTold 19 = .ok (.iconst 1, 1) := dk_4 (dk_at dksX8_isTold_0 19 rfl rfl)
theorem dX8_isTold_20 : decode cX8_isTold 20 = .ok (.bipush 60, 2) := dk_16 60 (dk_at dksX8_isTold_0 20 rfl rfl)
theorem dX8_isTold_22 : decode cX8_isTold 22 = .ok (.invokestatic 87, 3) := dk_184 0 87 (dk_at dksX8_isTold_1 0 rfl rfl)
theorem dX8_isTold_25 : decode cX8_isTold 25 = .ok (.ifCond .eq 7, 3) := dk_153 0 7 (dk_at dksX8_isTold_1 3 rfl rfl)
theorem dX8_isTold_28 : decode cX8_isTold 28 = .ok (.iconst 1, 1) := dk_4 (dk_at dksX8_isTold_1 6 rfl rfl)
theorem dX8_isTold_29 : decode cX8_isTold 29 = .ok (.goto 4, 3) := dk_167 0 4 (dk_at dksX8_isTold_1 7 rfl rfl)
theorem dX8_isTold_32 : decode cX8_isTold 32 = .ok (.iconst 0, 1) := dk_3 (dk_at dksX8_isTold_1 10 rfl rfl)
theorem dX8_isTold_33 : decode cX8_isTold 33 = .ok (.istore_n 2, 1) := dk_61 (dk_at dksX8_isTold_1 11 rfl rfl)
theorem dX8_isTold_34 : decode cX8_isTold 34 = .ok (.iconst 0, 1) := dk_3 (dk_at dksX8_isTold_1 12 rfl rfl)
theorem dX8_isTold_35 : decode cX8_isTold 35 = .ok (.istore_n 3, 1) := dk_62 (dk_at dksX8_isTold_1 13 rfl rfl)
theorem dX8_isTold_36 : decode cX8_isTold 36 = .ok (.iload_n 3, 1) := dk_29 (dk_at dksX8_isTold_1 14 rfl rfl)
theorem dX8_isTold_37 : decode cX8_isTold 37 = .ok (.aload_n 0, 1) := dk_42 (dk_at dksX8_isTold_1 15 rfl rfl)
theorem dX8_isTold_38 : decode cX8_isTold 38 = .ok (.getfield 105, 3) := dk_180 0 105 (dk_at dksX8_isTold_1 16 rfl rfl)
theorem dX8_isTold_41 : decode cX8_isTold 41 = .ok (.if_icmp .ge 31, 3) := dk_162 0 31 (dk_at dksX8_isTold_1 19 rfl rfl)
theorem dX8_isTold_44 : decode cX8_isTold 44 = .ok (.iload_n 2, 1) := dk_28 (dk_at dksX8_isTold_1 22 rfl rfl)
theorem dX8_isTold_45 : decode cX8_isTold 45 = .ok (.ifCond .eq 27, 3) := dk_153 0 27 (dk_at dksX8_isTold_2 0 rfl rfl)
theorem dX8_isTold_48 : decode cX8_isTold 48 = .ok (.aload_n 0, 1) := dk_42 (dk_at dksX8_isTold_2 3 rfl rfl)
theorem dX8_isTold_49 : decode cX8_isTold 49 = .ok (.getfield 29, 3) := dk_180 0 29 (dk_at dksX8_isTold_2 4 rfl rfl)
theorem dX8_isTold_52 : decode cX8_isTold 52 = .ok (.iload_n 3, 1) := dk_29 (dk_at dksX8_isTold_2 7 rfl rfl)
theorem dX8_isTold_53 : decode cX8_isTold 53 = .ok (.baload, 1) := dk_51 (dk_at dksX8_isTold_2 8 rfl rfl)
theorem dX8_isTold_54 : decode cX8_isTold 54 = .ok (.invokestatic 297, 3) := dk_184 1 41 (dk_at dksX8_isTold_2 9 rfl rfl)
theorem dX8_isTold_57 : decode cX8_isTold 57 = .ok (.ifCond .ne 7, 3) := dk_154 0 7 (dk_at dksX8_isTold_2 12 rfl rfl)
theorem dX8_isTold_60 : decode cX8_isTold 60 = .ok (.iconst 1, 1) := dk_4 (dk_at dksX8_isTold_2 15 rfl rfl)
theorem dX8_isTold_61 : decode cX8_isTold 61 = .ok (.goto 4, 3) := dk_167 0 4 (dk_at dksX8_isTold_2 16 rfl rfl)
theorem dX8_isTold_64 : decode cX8_isTold 64 = .ok (.iconst 0, 1) := dk_3 (dk_at dksX8_isTold_2 19 rfl rfl)
theorem dX8_isTold_65 : decode cX8_isTold 65 = .ok (.istore_n 2, 1) := dk_61 (dk_at dksX8_isTold_2 20 rfl rfl)
theorem dX8_isTold_66 : decode cX8_isTold 66 = .ok (.iinc 3 2, 3) := dk_132 3 2 (dk_at dksX8_isTold_2 21 rfl rfl)
theorem dX8_isTold_69 : decode cX8_isTold 69 = .ok (.goto (-33), 3) := dk_167 255 223 (dk_at dksX8_isTold_3 0 rfl rfl)
theorem dX8_isTold_72 : decode cX8_isTold 72 = .ok (.iload_n 2, 1) := dk_28 (dk_at dksX8_isTold_3 3 rfl rfl)
theorem dX8_isTold_73 : decode cX8_isTold 73 = .ok (.ireturn, 1) := dk_172 (dk_at dksX8_isTold_3 4 rfl rfl)
abbrev cX8_fits : ByteArray := prog_18_method_118_code
def yX8_fits : MethodName := ⟨RX8, "fits", "(II)Z"⟩
def dkwX8_fits_3 : List UInt8 := [3, 62, 132, 4, 2, 167, 255, 206, 29, 172]
abbrev dktX8_fits_3 : List UInt8 := dkwX8_fits_3 ++ []
def dkwX8_fits_2 : List UInt8 := [21, 4, 51, 46, 42, 180, 0, 29, 21, 4, 4, 96, 51, 17, 0, 255, 126, 160, 0, 7, 4, 167, 0, 4]
abbrev dktX8_fits_2 : List UInt8 := dkwX8_fits_2 ++ dktX8_fits_3
def dkwX8_fits_1 : List UInt8 := [3, 54, 4, 21, 4, 42, 180, 0, 105, 162, 0, 47, 29, 153, 0, 35, 42, 180, 0, 45, 42, 180, 0, 29]
abbrev dktX8_fits_1 : List UInt8 := dkwX8_fits_1 ++ dktX8_fits_2
def dkwX8_fits_0 : List UInt8 := [42, 27, 181, 1, 9, 42, 28, 181, 1, 12, 42, 3, 181, 1, 15, 42, 3, 4, 182, 1, 92, 87, 4, 62]
abbrev dktX8_fits_0 : List UInt8 := dkwX8_fits_0 ++ dktX8_fits_1
theorem dksX8_fits_0 : cX8_fits.data.toList.drop 0 = dktX8_fits_0 := by decide +kernel
theorem dksX8_fits_1 : cX8_fits.data.toList.drop 24 = dktX8_fits_1 := dk_seg dksX8_fits_0 24 rfl rfl
theorem dksX8_fits_2 : cX8_fits.data.toList.drop 48 = dktX8_fits_2 := dk_seg dksX8_fits_1 24 rfl rfl
theorem dksX8_fits_3 : cX8_fits.data.toList.drop 72 = dktX8_fits_3 := dk_seg dksX8_fits_2 24 rfl rfl
theorem dX8_fits_0 : decode cX8_fits 0 = .ok (.aload_n 0, 1) := dk_42 (dk_at dksX8_fits_0 0 rfl rfl)
theorem dX8_fits_1 : decode cX8_fits 1 = .ok (.iload_n 1, 1) := dk_27 (dk_at dksX8_fits_0 1 rfl rfl)
theorem dX8_fits_2 : decode cX8_fits 2 = .ok (.putfield 265, 3) := dk_181 1 9 (dk_at dksX8_fits_0 2 rfl rfl)
theorem dX8_fits_5 : decode cX8_fits 5 = .ok (.aload_n 0, 1) := dk_42 (dk_at dksX8_fits_0 5 rfl rfl)
theorem dX8_fits_6 : decode cX8_fits 6 = .ok (.iload_n 2, 1) := dk_28 (dk_at dksX8_fits_0 6 rfl rfl)
theorem dX8_fits_7 : decode cX8_fits 7 = .ok (.putfield 268, 3) := dk_181 1 12 (dk_at dksX8_fits_0 7 rfl rfl)
theorem dX8_fits_10 : decode cX8_fits 10 = .ok (.aload_n 0, 1) := dk_42 (dk_at dksX8_fits_0 10 rfl rfl)
theorem dX8_fits_11 : decode cX8_fits 11 = .ok (.iconst 0, 1) := dk_3 (dk_at dksX8_fits_0 11 rfl rfl)
theorem dX8_fits_12 : decode cX8_fits 12 = .ok (.putfield 271, 3) := dk_181 1 15 (dk_at dksX8_fits_0 12 rfl rfl)
theorem dX8_fits_15 : decode cX8_fits 15 = .ok (.aload_n 0, 1) := dk_42 (dk_at dksX8_fits_0 15 rfl rfl)
theorem dX8_fits_16 : decode cX8_fits 16 = .ok (.iconst 0, 1) := dk_3 (dk_at dksX8_fits_0 16 rfl rfl)
theorem dX8_fits_17 : decode cX8_fits 17 = .ok (.iconst 1, 1) := dk_4 (dk_at dksX8_fits_0 17 rfl rfl)
theorem dX8_fits_18 : decode cX8_fits 18 = .ok (.invokevirtual 348, 3) := dk_182 1 92 (dk_at dksX8_fits_0 18 rfl rfl)
theorem dX8_fits_21 : decode cX8_fits 21 = .ok (.pop, 1) := dk_87 (dk_at dksX8_fits_0 21 rfl rfl)
theorem dX8_fits_22 : decode cX8_fits 22 = .ok (.iconst 1, 1) := dk_4 (dk_at dksX8_fits_0 22 rfl rfl)
theorem dX8_fits_23 : decode cX8_fits 23 = .ok (.istore_n 3, 1) := dk_62 (dk_at dksX8_fits_0 23 rfl rfl)
theorem dX8_fits_24 : decode cX8_fits 24 = .ok (.iconst 0, 1) := dk_3 (dk_at dksX8_fits_1 0 rfl rfl)
theorem dX8_fits_25 : decode cX8_fits 25 = .ok (.istore 4, 2) := dk_54 4 (dk_at dksX8_fits_1 1 rfl rfl)
theorem dX8_fits_27 : decode cX8_fits 27 = .ok (.iload 4, 2) := dk_21 4 (dk_at dksX8_fits_1 3 rfl rfl)
theorem dX8_fits_29 : decode cX8_fits 29 = .ok (.aload_n 0, 1) := dk_42 (dk_at dksX8_fits_1 5 rfl rfl)
theorem dX8_fits_30 : decode cX8_fits 30 = .ok (.getfield 105, 3) := dk_180 0 105 (dk_at dksX8_fits_1 6 rfl rfl)
theorem dX8_fits_33 : decode cX8_fits 33 = .ok (.if_icmp .ge 47, 3) := dk_162 0 47 (dk_at dksX8_fits_1 9 rfl rfl)
theorem dX8_fits_36 : decode cX8_fits 36 = .ok (.iload_n 3, 1) := dk_29 (dk_at dksX8_fits_1 12 rfl rfl)
theorem dX8_fits_37 : decode cX8_fits 37 = .ok (.ifCond .eq 35, 3) := dk_153 0 35 (dk_at dksX8_fits_1 13 rfl rfl)
theorem dX8_fits_40 : decode cX8_fits 40 = .ok (.aload_n 0, 1) := dk_42 (dk_at dksX8_fits_1 16 rfl rfl)
theorem dX8_fits_41 : decode cX8_fits 41 = .ok (.getfield 45, 3) := dk_180 0 45 (dk_at dksX8_fits_1 17 rfl rfl)
theorem dX8_fits_44 : decode cX8_fits 44 = .ok (.aload_n 0, 1) := dk_42 (dk_at dksX8_fits_1 20 rfl rfl)
theorem dX8_fits_45 : decode cX8_fits 45 = .ok (.getfield 29, 3) := dk_180 0 29 (dk_at dksX8_fits_1 21 rfl rfl)
theorem dX8_fits_48 : decode cX8_fits 48 = .ok (.iload 4, 2) := dk_21 4 (dk_at dksX8_fits_2 0 rfl rfl)
theorem dX8_fits_50 : decode cX8_fits 50 = .ok (.baload, 1) := dk_51 (dk_at dksX8_fits_2 2 rfl rfl)
theorem dX8_fits_51 : decode cX8_fits 51 = .ok (.iaload, 1) := dk_46 (dk_at dksX8_fits_2 3 rfl rfl)
theorem dX8_fits_52 : decode cX8_fits 52 = .ok (.aload_n 0, 1) := dk_42 (dk_at dksX8_fits_2 4 rfl rfl)
theorem dX8_fits_53 : decode cX8_fits 53 = .ok (.getfield 29, 3) := dk_180 0 29 (dk_at dksX8_fits_2 5 rfl rfl)
theorem dX8_fits_56 : decode cX8_fits 56 = .ok (.iload 4, 2) := dk_21 4 (dk_at dksX8_fits_2 8 rfl rfl)
theorem dX8_fits_58 : decode cX8_fits 58 = .ok (.iconst 1, 1) := dk_4 (dk_at dksX8_fits_2 10 rfl rfl)
theorem dX8_fits_59 : decode cX8_fits 59 = .ok (.iadd, 1) := dk_96 (dk_at dksX8_fits_2 11 rfl rfl)
theorem dX8_fits_60 : decode cX8_fits 60 = .ok (.baload, 1) := dk_51 (dk_at dksX8_fits_2 12 rfl rfl)
theorem dX8_fits_61 : decode cX8_fits 61 = .ok (.sipush 255, 3) := dk_17 0 255 (dk_at dksX8_fits_2 13 rfl rfl)
theorem dX8_fits_64 : decode cX8_fits 64 = .ok (.iand, 1) := dk_126 (dk_at dksX8_fits_2 16 rfl rfl)
theorem dX8_fits_65 : decode cX8_fits 65 = .ok (.if_icmp .ne 7, 3) := dk_160 0 7 (dk_at dksX8_fits_2 17 rfl rfl)
theorem dX8_fits_68 : decode cX8_fits 68 = .ok (.iconst 1, 1) := dk_4 (dk_at dksX8_fits_2 20 rfl rfl)
theorem dX8_fits_69 : decode cX8_fits 69 = .ok (.goto 4, 3) := dk_167 0 4 (dk_at dksX8_fits_2 21 rfl rfl)
theorem dX8_fits_72 : decode cX8_fits 72 = .ok (.iconst 0, 1) := dk_3 (dk_at dksX8_fits_3 0 rfl rfl)
theorem dX8_fits_73 : decode cX8_fits 73 = .ok (.istore_n 3, 1) := dk_62 (dk_at dksX8_fits_3 1 rfl rfl)
theorem dX8_fits_74 : decode cX8_fits 74 = .ok (.iinc 4 2, 3) := dk_132 4 2 (dk_at dksX8_fits_3 2 rfl rfl)
theorem dX8_fits_77 : decode cX8_fits 77 = .ok (.goto (-50), 3) := dk_167 255 206 (dk_at dksX8_fits_3 5 rfl rfl)
theorem dX8_fits_80 : decode cX8_fits 80 = .ok (.iload_n 3, 1) := dk_29 (dk_at dksX8_fits_3 8 rfl rfl)
theorem dX8_fits_81 : decode cX8_fits 81 = .ok (.ireturn, 1) := dk_172 (dk_at dksX8_fits_3 9 rfl rfl)
abbrev cX8_ask : ByteArray := prog_18_method_121_code
def yX8_ask : MethodName := ⟨RX8, "ask", "(I)I"⟩
def dkwX8_ask_7 : List UInt8 := [167, 255, 193, 29, 172]
abbrev dktX8_ask_7 : List UInt8 := dkwX8_ask_7 ++ []
def dkwX8_ask_6 : List UInt8 := [21, 4, 162, 0, 8, 21, 5, 167, 0, 4, 29, 62, 21, 4, 21, 6, 184, 1, 96, 54, 4, 132, 5, 1]
abbrev dktX8_ask_6 : List UInt8 := dkwX8_ask_6 ++ dktX8_ask_7
def dkwX8_ask_5 : List UInt8 := [182, 0, 160, 2, 160, 0, 9, 19, 1, 158, 167, 0, 10, 42, 28, 21, 5, 182, 1, 187, 54, 6, 21, 6]
abbrev dktX8_ask_5 : List UInt8 := dkwX8_ask_5 ++ dktX8_ask_6
def dkwX8_ask_4 : List UInt8 := [62, 19, 1, 158, 54, 4, 3, 54, 5, 21, 5, 16, 10, 162, 0, 62, 28, 4, 164, 0, 57, 42, 21, 5]
abbrev dktX8_ask_4 : List UInt8 := dkwX8_ask_4 ++ dktX8_ask_5
def dkwX8_ask_3 : List UInt8 := [42, 180, 0, 45, 21, 4, 46, 79, 132, 4, 1, 167, 255, 227, 132, 2, 1, 132, 3, 1, 167, 255, 197, 2]
abbrev dktX8_ask_3 : List UInt8 := dkwX8_ask_3 ++ dktX8_ask_4
def dkwX8_ask_2 : List UInt8 := [167, 0, 41, 3, 54, 4, 21, 4, 16, 10, 162, 0, 28, 42, 180, 0, 60, 16, 10, 28, 104, 21, 4, 96]
abbrev dktX8_ask_2 : List UInt8 := dkwX8_ask_2 ++ dktX8_ask_3
def dkwX8_ask_1 : List UInt8 := [153, 0, 5, 3, 172, 3, 61, 3, 62, 29, 16, 64, 162, 0, 59, 42, 29, 27, 182, 1, 184, 154, 0, 6]
abbrev dktX8_ask_1 : List UInt8 := dkwX8_ask_1 ++ dktX8_ask_2
def dkwX8_ask_0 : List UInt8 := [42, 182, 0, 251, 42, 42, 27, 182, 1, 181, 154, 0, 7, 4, 167, 0, 4, 3, 4, 182, 1, 6]
abbrev dktX8_ask_0 : List UInt8 := dkwX8_ask_0 ++ dktX8_ask_1
theorem dksX8_ask_0 : cX8_ask.data.toList.drop 0 = dktX8_ask_0 := by decide +kernel
theorem dksX8_ask_1 : cX8_ask.data.toList.drop 22 = dktX8_ask_1 := dk_seg dksX8_ask_0 22 rfl rfl
theorem dksX8_ask_2 : cX8_ask.data.toList.drop 46 = dktX8_ask_2 := dk_seg dksX8_ask_1 24 rfl rfl
theorem dksX8_ask_3 : cX8_ask.data.toList.drop 70 = dktX8_ask_3 := dk_seg dksX8_ask_2 24 rfl rfl
theorem dksX8_ask_4 : cX8_ask.data.toList.drop 94 = dktX8_ask_4 := dk_seg dksX8_ask_3 24 rfl rfl
theorem dksX8_ask_5 : cX8_ask.data.toList.drop 118 = dktX8_ask_5 := dk_seg dksX8_ask_4 24 rfl rfl
theorem dksX8_ask_6 : cX8_ask.data.toList.drop 142 = dktX8_ask_6 := dk_seg dksX8_ask_5 24 rfl rfl
theorem dksX8_ask_7 : cX8_ask.data.toList.drop 166 = dktX8_ask_7 := dk_seg dksX8_ask_6 24 rfl rfl
theorem dX8_ask_0 : decode cX8_ask 0 = .ok (.aload_n 0, 1) := dk_42 (dk_at dksX8_ask_0 0 rfl rfl)
theorem dX8_ask_1 : decode cX8_ask 1 = .ok (.invokevirtual 251, 3) := dk_182 0 251 (dk_at dksX8_ask_0 1 rfl rfl)
theorem dX8_ask_4 : decode cX8_ask 4 = .ok (.aload_n 0, 1) := dk_42 (dk_at dksX8_ask_0 4 rfl rfl)
theorem dX8_ask_5 : decode cX8_ask 5 = .ok (.aload_n 0, 1) := dk_42 (dk_at dksX8_ask_0 5 rfl rfl)
theorem dX8_ask_6 : decode cX8_ask 6 = .ok (.iload_n 1, 1) := dk_27 (dk_at dksX8_ask_0 6 rfl rfl)
theorem dX8_ask_7 : decode cX8_ask 7 = .ok (.invokevirtual 437, 3) := dk_182 1 181 (dk_at dksX8_ask_0 7 rfl rfl)
theorem dX8_ask_10 : decode cX8_ask 10 = .ok (.ifCond .ne 7, 3) := dk_154 0 7 (dk_at dksX8_ask_0 10 rfl rfl)
theorem dX8_ask_13 : decode cX8_ask 13 = .ok (.iconst 1, 1) := dk_4 (dk_at dksX8_ask_0 13 rfl rfl)
theorem dX8_ask_14 : decode cX8_ask 14 = .ok (.goto 4, 3) := dk_167 0 4 (dk_at dksX8_ask_0 14 rfl rfl)
theorem dX8_ask_17 : decode cX8_ask 17 = .ok (.iconst 0, 1) := dk_3 (dk_at dksX8_ask_0 17 rfl rfl)
theorem dX8_ask_18 : decode cX8_ask 18 = .ok (.iconst 1, 1) := dk_4 (dk_at dksX8_ask_0 18 rfl rfl)
theorem dX8_ask_19 : decode cX8_ask 19 = .ok (.invokevirtual 262, 3) := dk_182 1 6 (dk_at dksX8_ask_0 19 rfl rfl)
theorem dX8_ask_22 : decode cX8_ask 22 = .ok (.ifCond .eq 5, 3) := dk_153 0 5 (dk_at dksX8_ask_1 0 rfl rfl)
theorem dX8_ask_25 : decode cX8_ask 25 = .ok (.iconst 0, 1) := dk_3 (dk_at dksX8_ask_1 3 rfl rfl)
theorem dX8_ask_26 : decode cX8_ask 26 = .ok (.ireturn, 1) := dk_172 (dk_at dksX8_ask_1 4 rfl rfl)
theorem dX8_ask_27 : decode cX8_ask 27 = .ok (.iconst 0, 1) := dk_3 (dk_at dksX8_ask_1 5 rfl rfl)
theorem dX8_ask_28 : decode cX8_ask 28 = .ok (.istore_n 2, 1) := dk_61 (dk_at dksX8_ask_1 6 rfl rfl)
theorem dX8_ask_29 : decode cX8_ask 29 = .ok (.iconst 0, 1) := dk_3 (dk_at dksX8_ask_1 7 rfl rfl)
theorem dX8_ask_30 : decode cX8_ask 30 = .ok (.istore_n 3, 1) := dk_62 (dk_at dksX8_ask_1 8 rfl rfl)
theorem dX8_ask_31 : decode cX8_ask 31 = .ok (.iload_n 3, 1) := dk_29 (dk_at dksX8_ask_1 9 rfl rfl)
theorem dX8_ask_32 : decode cX8_ask 32 = .ok (.bipush 64, 2) := dk_16 64 (dk_at dksX8_ask_1 10 rfl rfl)
theorem dX8_ask_34 : decode cX8_ask 34 = .ok (.if_icmp .ge 59, 3) := dk_162 0 59 (dk_at dksX8_ask_1 12 rfl rfl)
theorem dX8_ask_37 : decode cX8_ask 37 = .ok (.aload_n 0, 1) := dk_42 (dk_at dksX8_ask_1 15 rfl rfl)
theorem dX8_ask_38 : decode cX8_ask 38 = .ok (.iload_n 3, 1) := dk_29 (dk_at dksX8_ask_1 16 rfl rfl)
theorem dX8_ask_39 : decode cX8_ask 39 = .ok (.iload_n 1, 1) := dk_27 (dk_at dksX8_ask_1 17 rfl rfl)
theorem dX8_ask_40 : decode cX8_ask 40 = .ok (.invokevirtual 440, 3) := dk_182 1 184 (dk_at dksX8_ask_1 18 rfl rfl)
theorem dX8_ask_43 : decode cX8_ask 43 = .ok (.ifCond .ne 6, 3) := dk_154 0 6 (dk_at dksX8_ask_1 21 rfl rfl)
theorem dX8_ask_46 : decode cX8_ask 46 = .ok (.goto 41, 3) := dk_167 0 41 (dk_at dksX8_ask_2 0 rfl rfl)
theorem dX8_ask_49 : decode cX8_ask 49 = .ok (.iconst 0, 1) := dk_3 (dk_at dksX8_ask_2 3 rfl rfl)
theorem dX8_ask_50 : decode cX8_ask 50 = .ok (.istore 4, 2) := dk_54 4 (dk_at dksX8_ask_2 4 rfl rfl)
theorem dX8_ask_52 : decode cX8_ask 52 = .ok (.iload 4, 2) := dk_21 4 (dk_at dksX8_ask_2 6 rfl rfl)
theorem dX8_ask_54 : decode cX8_ask 54 = .ok (.bipush 10, 2) := dk_16 10 (dk_at dksX8_ask_2 8 rfl rfl)
theorem dX8_ask_56 : decode cX8_ask 56 = .ok (.if_icmp .ge 28, 3) := dk_162 0 28 (dk_at dksX8_ask_2 10 rfl rfl)
theorem dX8_ask_59 : decode cX8_ask 59 = .ok (.aload_n 0, 1) := dk_42 (dk_at dksX8_ask_2 13 rfl rfl)
theorem dX8_ask_60 : decode cX8_ask 60 = .ok (.getfield 60, 3) := dk_180 0 60 (dk_at dksX8_ask_2 14 rfl rfl)
theorem dX8_ask_63 : decode cX8_ask 63 = .ok (.bipush 10, 2) := dk_16 10 (dk_at dksX8_ask_2 17 rfl rfl)
theorem dX8_ask_65 : decode cX8_ask 65 = .ok (.iload_n 2, 1) := dk_28 (dk_at dksX8_ask_2 19 rfl rfl)
theorem dX8_ask_66 : decode cX8_ask 66 = .ok (.imul, 1) := dk_104 (dk_at dksX8_ask_2 20 rfl rfl)
theorem dX8_ask_67 : decode cX8_ask 67 = .ok (.iload 4, 2) := dk_21 4 (dk_at dksX8_ask_2 21 rfl rfl)
theorem dX8_ask_69 : decode cX8_ask 69 = .ok (.iadd, 1) := dk_96 (dk_at dksX8_ask_2 23 rfl rfl)
theorem dX8_ask_70 : decode cX8_ask 70 = .ok (.aload_n 0, 1) := dk_42 (dk_at dksX8_ask_3 0 rfl rfl)
theorem dX8_ask_71 : decode cX8_ask 71 = .ok (.getfield 45, 3) := dk_180 0 45 (dk_at dksX8_ask_3 1 rfl rfl)
theorem dX8_ask_74 : decode cX8_ask 74 = .ok (.iload 4, 2) := dk_21 4 (dk_at dksX8_ask_3 4 rfl rfl)
theorem dX8_ask_76 : decode cX8_ask 76 = .ok (.iaload, 1) := dk_46 (dk_at dksX8_ask_3 6 rfl rfl)
theorem dX8_ask_77 : decode cX8_ask 77 = .ok (.iastore, 1) := dk_79 (dk_at dksX8_ask_3 7 rfl rfl)
theorem dX8_ask_78 : decode cX8_ask 78 = .ok (.iinc 4 1, 3) := dk_132 4 1 (dk_at dksX8_ask_3 8 rfl rfl)
theorem dX8_ask_81 : decode cX8_ask 81 = .ok (.goto (-29), 3) := dk_167 255 227 (dk_at dksX8_ask_3 11 rfl rfl)
theorem dX8_ask_84 : decode cX8_ask 84 = .ok (.iinc 2 1, 3) := dk_132 2 1 (dk_at dksX8_ask_3 14 rfl rfl)
theorem dX8_ask_87 : decode cX8_ask 87 = .ok (.iinc 3 1, 3) := dk_132 3 1 (dk_at dksX8_ask_3 17 rfl rfl)
theorem dX8_ask_90 : decode cX8_ask 90 = .ok (.goto (-59), 3) := dk_167 255 197 (dk_at dksX8_ask_3 20 rfl rfl)
theorem dX8_ask_93 : decode cX8_ask 93 = .ok (.iconst (-1), 1) := dk_2 (dk_at dksX8_ask_3 23 rfl rfl)
theorem dX8_ask_94 : decode cX8_ask 94 = .ok (.istore_n 3, 1) := dk_62 (dk_at dksX8_ask_4 0 rfl rfl)
theorem dX8_ask_95 : decode cX8_ask 95 = .ok (.ldc_w 414, 3) := dk_19 1 158 (dk_at dksX8_ask_4 1 rfl rfl)
theorem dX8_ask_98 : decode cX8_ask 98 = .ok (.istore 4, 2) := dk_54 4 (dk_at dksX8_ask_4 4 rfl rfl)
theorem dX8_ask_100 : decode cX8_ask 100 = .ok (.iconst 0, 1) := dk_3 (dk_at dksX8_ask_4 6 rfl rfl)
theorem dX8_ask_101 : decode cX8_ask 101 = .ok (.istore 5, 2) := dk_54 5 (dk_at dksX8_ask_4 7 rfl rfl)
theorem dX8_ask_103 : decode cX8_ask 103 = .ok (.iload 5, 2) := dk_21 5 (dk_at dksX8_ask_4 9 rfl rfl)
theorem dX8_ask_105 : decode cX8_ask 105 = .ok (.bipush 10, 2) := dk_16 10 (dk_at dksX8_ask_4 11 rfl rfl)
theorem dX8_ask_107 : decode cX8_ask 107 = .ok (.if_icmp .ge 62, 3) := dk_162 0 62 (dk_at dksX8_ask_4 13 rfl rfl)
theorem dX8_ask_110 : decode cX8_ask 110 = .ok (.iload_n 2, 1) := dk_28 (dk_at dksX8_ask_4 16 rfl rfl)
theorem dX8_ask_111 : decode cX8_ask 111 = .ok (.iconst 1, 1) := dk_4 (dk_at dksX8_ask_4 17 rfl rfl)
theorem dX8_ask_112 : decode cX8_ask 112 = .ok (.if_icmp .le 57, 3) := dk_164 0 57 (dk_at dksX8_ask_4 18 rfl rfl)
theorem dX8_ask_115 : decode cX8_ask 115 = .ok (.aload_n 0, 1) := dk_42 (dk_at dksX8_ask_4 21 rfl rfl)
theorem dX8_ask_116 : decode cX8_ask 116 = .ok (.iload 5, 2) := dk_21 5 (dk_at dksX8_ask_4 22 rfl rfl)
theorem dX8_ask_118 : decode cX8_ask 118 = .ok (.invokevirtual 160, 3) := dk_182 0 160 (dk_at dksX8_ask_5 0 rfl rfl)
theorem dX8_ask_121 : decode cX8_ask 121 = .ok (.iconst (-1), 1) := dk_2 (dk_at dksX8_ask_5 3 rfl rfl)
theorem dX8_ask_122 : decode cX8_ask 122 = .ok (.if_icmp .ne 9, 3) := dk_160 0 9 (dk_at dksX8_ask_5 4 rfl rfl)
theorem dX8_ask_125 : decode cX8_ask 125 = .ok (.ldc_w 414, 3) := dk_19 1 158 (dk_at dksX8_ask_5 7 rfl rfl)
theorem dX8_ask_128 : decode cX8_ask 128 = .ok (.goto 10, 3) := dk_167 0 10 (dk_at dksX8_ask_5 10 rfl rfl)
theorem dX8_ask_131 : decode cX8_ask 131 = .ok (.aload_n 0, 1) := dk_42 (dk_at dksX8_ask_5 13 rfl rfl)
theorem dX8_ask_132 : decode cX8_ask 132 = .ok (.iload_n 2, 1) := dk_28 (dk_at dksX8_ask_5 14 rfl rfl)
theorem dX8_ask_133 : decode cX8_ask 133 = .ok (.iload 5, 2) := dk_21 5 (dk_at dksX8_ask_5 15 rfl rfl)
theorem dX8_ask_135 : decode cX8_ask 135 = .ok (.invokevirtual 443, 3) := dk_182 1 187 (dk_at dksX8_ask_5 17 rfl rfl)
theorem dX8_ask_138 : decode cX8_ask 138 = .ok (.istore 6, 2) := dk_54 6 (dk_at dksX8_ask_5 20 rfl rfl)
theorem dX8_ask_140 : decode cX8_ask 140 = .ok (.iload 6, 2) := dk_21 6 (dk_at dksX8_ask_5 22 rfl rfl)
theorem dX8_ask_142 : decode cX8_ask 142 = .ok (.iload 4, 2) := dk_21 4 (dk_at dksX8_ask_6 0 rfl rfl)
theorem dX8_ask_144 : decode cX8_ask 144 = .ok (.if_icmp .ge 8, 3) := dk_162 0 8 (dk_at dksX8_ask_6 2 rfl rfl)
theorem dX8_ask_147 : decode cX8_ask 147 = .ok (.iload 5, 2) := dk_21 5 (dk_at dksX8_ask_6 5 rfl rfl)
theorem dX8_ask_149 : decode cX8_ask 149 = .ok (.goto 4, 3) := dk_167 0 4 (dk_at dksX8_ask_6 7 rfl rfl)
theorem dX8_ask_152 : decode cX8_ask 152 = .ok (.iload_n 3, 1) := dk_29 (dk_at dksX8_ask_6 10 rfl rfl)
theorem dX8_ask_153 : decode cX8_ask 153 = .ok (.istore_n 3, 1) := dk_62 (dk_at dksX8_ask_6 11 rfl rfl)
theorem dX8_ask_154 : decode cX8_ask 154 = .ok (.iload 4, 2) := dk_21 4 (dk_at dksX8_ask_6 12 rfl rfl)
theorem dX8_ask_156 : decode cX8_ask 156 = .ok (.iload 6, 2) := dk_21 6 (dk_at dksX8_ask_6 14 rfl rfl)
theorem dX8_ask_158 : decode cX8_ask 158 = .ok (.invokestatic 352, 3) := dk_184 1 96 (dk_at dksX8_ask_6 16 rfl rfl)
theorem dX8_ask_161 : decode cX8_ask 161 = .ok (.istore 4, 2) := dk_54 4 (dk_at dksX8_ask_6 19 rfl rfl)
theorem dX8_ask_163 : decode cX8_ask 163 = .ok (.iinc 5 1, 3) := dk_132 5 1 (dk_at dksX8_ask_6 21 rfl rfl)
theorem dX8_ask_166 : decode cX8_ask 166 = .ok (.goto (-63), 3) := dk_167 255 193 (dk_at dksX8_ask_7 0 rfl rfl)
theorem dX8_ask_169 : decode cX8_ask 169 = .ok (.iload_n 3, 1) := dk_29 (dk_at dksX8_ask_7 3 rfl rfl)
theorem dX8_ask_170 : decode cX8_ask 170 = .ok (.ireturn, 1) := dk_172 (dk_at dksX8_ask_7 4 rfl rfl)
abbrev cX8_greatestPart : ByteArray := prog_18_method_120_code
def yX8_greatestPart : MethodName := ⟨RX8, "greatestPart", "(II)I"⟩
def dkwX8_greatestPart_3 : List UInt8 := [184, 1, 33, 62, 132, 4, 1, 167, 255, 185, 29, 172]
abbrev dktX8_greatestPart_3 : List UInt8 := dkwX8_greatestPart_3 ++ []
def dkwX8_greatestPart_2 : List UInt8 := [96, 46, 160, 0, 7, 4, 167, 0, 4, 3, 96, 54, 5, 132, 6, 1, 167, 255, 210, 29, 21, 5]
abbrev dktX8_greatestPart_2 : List UInt8 := dkwX8_greatestPart_2 ++ dktX8_greatestPart_3
def dkwX8_greatestPart_1 : List UInt8 := [21, 5, 42, 180, 0, 60, 16, 10, 21, 6, 104, 28, 96, 46, 42, 180, 0, 60, 16, 10, 21, 4, 104, 28]
abbrev dktX8_greatestPart_1 : List UInt8 := dkwX8_greatestPart_1 ++ dktX8_greatestPart_2
def dkwX8_greatestPart_0 : List UInt8 := [3, 62, 3, 54, 4, 21, 4, 27, 162, 0, 71, 3, 54, 5, 3, 54, 6, 21, 6, 27, 162, 0, 46]
abbrev dktX8_greatestPart_0 : List UInt8 := dkwX8_greatestPart_0 ++ dktX8_greatestPart_1
theorem dksX8_greatestPart_0 : cX8_greatestPart.data.toList.drop 0 = dktX8_greatestPart_0 := by decide +kernel
theorem dksX8_greatestPart_1 : cX8_greatestPart.data.toList.drop 23 = dktX8_greatestPart_1 := dk_seg dksX8_greatestPart_0 23 rfl rfl
theorem dksX8_greatestPart_2 : cX8_greatestPart.data.toList.drop 47 = dktX8_greatestPart_2 := dk_seg dksX8_greatestPart_1 24 rfl rfl
theorem dksX8_greatestPart_3 : cX8_greatestPart.data.toList.drop 69 = dktX8_greatestPart_3 := dk_seg dksX8_greatestPart_2 22 rfl rfl
theorem dX8_greatestPart_0 : decode cX8_greatestPart 0 = .ok (.iconst 0, 1) := dk_3 (dk_at dksX8_greatestPart_0 0 rfl rfl)
theorem dX8_greatestPart_1 : decode cX8_greatestPart 1 = .ok (.istore_n 3, 1) := dk_62 (dk_at dksX8_greatestPart_0 1 rfl rfl)
theorem dX8_greatestPart_2 : decode cX8_greatestPart 2 = .ok (.iconst 0, 1) := dk_3 (dk_at dksX8_greatestPart_0 2 rfl rfl)
theorem dX8_greatestPart_3 : decode cX8_greatestPart 3 = .ok (.istore 4, 2) := dk_54 4 (dk_at dksX8_greatestPart_0 3 rfl rfl)
theorem dX8_greatestPart_5 : decode cX8_greatestPart 5 = .ok (.iload 4, 2) := dk_21 4 (dk_at dksX8_greatestPart_0 5 rfl rfl)
theorem dX8_greatestPart_7 : decode cX8_greatestPart 7 = .ok (.iload_n 1, 1) := dk_27 (dk_at dksX8_greatestPart_0 7 rfl rfl)
theorem dX8_greatestPart_8 : decode cX8_greatestPart 8 = .ok (.if_icmp .ge 71, 3) := dk_162 0 71 (dk_at dksX8_greatestPart_0 8 rfl rfl)
theorem dX8_greatestPart_11 : decode cX8_greatestPart 11 = .ok (.iconst 0, 1) := dk_3 (dk_at dksX8_greatestPart_0 11 rfl rfl)
theorem dX8_greatestPart_12 : decode cX8_greatestPart 12 = .ok (.istore 5, 2) := dk_54 5 (dk_at dksX8_greatestPart_0 12 rfl rfl)
theorem dX8_greatestPart_14 : decode cX8_greatestPart 14 = .ok (.iconst 0, 1) := dk_3 (dk_at dksX8_greatestPart_0 14 rfl rfl)
theorem dX8_greatestPart_15 : decode cX8_greatestPart 15 = .ok (.istore 6, 2) := dk_54 6 (dk_at dksX8_greatestPart_0 15 rfl rfl)
theorem dX8_greatestPart_17 : decode cX8_greatestPart 17 = .ok (.iload 6, 2) := dk_21 6 (dk_at dksX8_greatestPart_0 17 rfl rfl)
theorem dX8_greatestPart_19 : decode cX8_greatestPart 19 = .ok (.iload_n 1, 1) := dk_27 (dk_at dksX8_greatestPart_0 19 rfl rfl)
theorem dX8_greatestPart_20 : decode cX8_greatestPart 20 = .ok (.if_icmp .ge 46, 3) := dk_162 0 46 (dk_at dksX8_greatestPart_0 20 rfl rfl)
theorem dX8_greatestPart_23 : decode cX8_greatestPart 23 = .ok (.iload 5, 2) := dk_21 5 (dk_at dksX8_greatestPart_1 0 rfl rfl)
theorem dX8_greatestPart_25 : decode cX8_greatestPart 25 = .ok (.aload_n 0, 1) := dk_42 (dk_at dksX8_greatestPart_1 2 rfl rfl)
theorem dX8_greatestPart_26 : decode cX8_greatestPart 26 = .ok (.getfield 60, 3) := dk_180 0 60 (dk_at dksX8_greatestPart_1 3 rfl rfl)
theorem dX8_greatestPart_29 : decode cX8_greatestPart 29 = .ok (.bipush 10, 2) := dk_16 10 (dk_at dksX8_greatestPart_1 6 rfl rfl)
theorem dX8_greatestPart_31 : decode cX8_greatestPart 31 = .ok (.iload 6, 2) := dk_21 6 (dk_at dksX8_greatestPart_1 8 rfl rfl)
theorem dX8_greatestPart_33 : decode cX8_greatestPart 33 = .ok (.imul, 1) := dk_104 (dk_at dksX8_greatestPart_1 10 rfl rfl)
theorem dX8_greatestPart_34 : decode cX8_greatestPart 34 = .ok (.iload_n 2, 1) := dk_28 (dk_at dksX8_greatestPart_1 11 rfl rfl)
theorem dX8_greatestPart_35 : decode cX8_greatestPart 35 = .ok (.iadd, 1) := dk_96 (dk_at dksX8_greatestPart_1 12 rfl rfl)
theorem dX8_greatestPart_36 : decode cX8_greatestPart 36 = .ok (.iaload, 1) := dk_46 (dk_at dksX8_greatestPart_1 13 rfl rfl)
theorem dX8_greatestPart_37 : decode cX8_greatestPart 37 = .ok (.aload_n 0, 1) := dk_42 (dk_at dksX8_greatestPart_1 14 rfl rfl)
theorem dX8_greatestPart_38 : decode cX8_greatestPart 38 = .ok (.getfield 60, 3) := dk_180 0 60 (dk_at dksX8_greatestPart_1 15 rfl rfl)
theorem dX8_greatestPart_41 : decode cX8_greatestPart 41 = .ok (.bipush 10, 2) := dk_16 10 (dk_at dksX8_greatestPart_1 18 rfl rfl)
theorem dX8_greatestPart_43 : decode cX8_greatestPart 43 = .ok (.iload 4, 2) := dk_21 4 (dk_at dksX8_greatestPart_1 20 rfl rfl)
theorem dX8_greatestPart_45 : decode cX8_greatestPart 45 = .ok (.imul, 1) := dk_104 (dk_at dksX8_greatestPart_1 22 rfl rfl)
theorem dX8_greatestPart_46 : decode cX8_greatestPart 46 = .ok (.iload_n 2, 1) := dk_28 (dk_at dksX8_greatestPart_1 23 rfl rfl)
theorem dX8_greatestPart_47 : decode cX8_greatestPart 47 = .ok (.iadd, 1) := dk_96 (dk_at dksX8_greatestPart_2 0 rfl rfl)
theorem dX8_greatestPart_48 : decode cX8_greatestPart 48 = .ok (.iaload, 1) := dk_46 (dk_at dksX8_greatestPart_2 1 rfl rfl)
theorem dX8_greatestPart_49 : decode cX8_greatestPart 49 = .ok (.if_icmp .ne 7, 3) := dk_160 0 7 (dk_at dksX8_greatestPart_2 2 rfl rfl)
theorem dX8_greatestPart_52 : decode cX8_greatestPart 52 = .ok (.iconst 1, 1) := dk_4 (dk_at dksX8_greatestPart_2 5 rfl rfl)
theorem dX8_greatestPart_53 : decode cX8_greatestPart 53 = .ok (.goto 4, 3) := dk_167 0 4 (dk_at dksX8_greatestPart_2 6 rfl rfl)
theorem dX8_greatestPart_56 : decode cX8_greatestPart 56 = .ok (.iconst 0, 1) := dk_3 (dk_at dksX8_greatestPart_2 9 rfl rfl)
theorem dX8_greatestPart_57 : decode cX8_greatestPart 57 = .ok (.iadd, 1) := dk_96 (dk_at dksX8_greatestPart_2 10 rfl rfl)
theorem dX8_greatestPart_58 : decode cX8_greatestPart 58 = .ok (.istore 5, 2) := dk_54 5 (dk_at dksX8_greatestPart_2 11 rfl rfl)
theorem dX8_greatestPart_60 : decode cX8_greatestPart 60 = .ok (.iinc 6 1, 3) := dk_132 6 1 (dk_at dksX8_greatestPart_2 13 rfl rfl)
theorem dX8_greatestPart_63 : decode cX8_greatestPart 63 = .ok (.goto (-46), 3) := dk_167 255 210 (dk_at dksX8_greatestPart_2 16 rfl rfl)
theorem dX8_greatestPart_66 : decode cX8_greatestPart 66 = .ok (.iload_n 3, 1) := dk_29 (dk_at dksX8_greatestPart_2 19 rfl rfl)
theorem dX8_greatestPart_67 : decode cX8_greatestPart 67 = .ok (.iload 5, 2) := dk_21 5 (dk_at dksX8_greatestPart_2 20 rfl rfl)
theorem dX8_greatestPart_69 : decode cX8_greatestPart 69 = .ok (.invokestatic 289, 3) := dk_184 1 33 (dk_at dksX8_greatestPart_3 0 rfl rfl)
theorem dX8_greatestPart_72 : decode cX8_greatestPart 72 = .ok (.istore_n 3, 1) := dk_62 (dk_at dksX8_greatestPart_3 3 rfl rfl)
theorem dX8_greatestPart_73 : decode cX8_greatestPart 73 = .ok (.iinc 4 1, 3) := dk_132 4 1 (dk_at dksX8_greatestPart_3 4 rfl rfl)
theorem dX8_greatestPart_76 : decode cX8_greatestPart 76 = .ok (.goto (-71), 3) := dk_167 255 185 (dk_at dksX8_greatestPart_3 7 rfl rfl)
theorem dX8_greatestPart_79 : decode cX8_greatestPart 79 = .ok (.iload_n 3, 1) := dk_29 (dk_at dksX8_greatestPart_3 10 rfl rfl)
theorem dX8_greatestPart_80 : decode cX8_greatestPart 80 = .ok (.ireturn, 1) := dk_172 (dk_at dksX8_greatestPart_3 11 rfl rfl)
abbrev cX8_trial : ByteArray := prog_18_method_123_code
def yX8_trial : MethodName := ⟨RX8, "trial", "(I)I"⟩
def dkwX8_trial_2 : List UInt8 := [180, 0, 13, 16, 8, 28, 79, 29, 172]
abbrev dktX8_trial_2 : List UInt8 := dkwX8_trial_2 ++ []
def dkwX8_trial_1 : List UInt8 := [182, 1, 6, 153, 0, 5, 3, 172, 42, 180, 0, 13, 16, 8, 46, 61, 42, 27, 182, 1, 190, 62, 42]
abbrev dktX8_trial_1 : List UInt8 := dkwX8_trial_1 ++ dktX8_trial_2
def dkwX8_trial_0 : List UInt8 := [42, 3, 181, 0, 3, 42, 27, 3, 16, 20, 184, 0, 87, 154, 0, 7, 4, 167, 0, 4, 3, 4]
abbrev dktX8_trial_0 : List UInt8 := dkwX8_trial_0 ++ dktX8_trial_1
theorem dksX8_trial_0 : cX8_trial.data.toList.drop 0 = dktX8_trial_0 := by decide +kernel
theorem dksX8_trial_1 : cX8_trial.data.toList.drop 22 = dktX8_trial_1 := dk_seg dksX8_trial_0 22 rfl rfl
theorem dksX8_trial_2 : cX8_trial.data.toList.drop 45 = dktX8_trial_2 := dk_seg dksX8_trial_1 23 rfl rfl
theorem dX8_trial_0 : decode cX8_trial 0 = .ok (.aload_n 0, 1) := dk_42 (dk_at dksX8_trial_0 0 rfl rfl)
theorem dX8_trial_1 : decode cX8_trial 1 = .ok (.iconst 0, 1) := dk_3 (dk_at dksX8_trial_0 1 rfl rfl)
theorem dX8_trial_2 : decode cX8_trial 2 = .ok (.putfield 3, 3) := dk_181 0 3 (dk_at dksX8_trial_0 2 rfl rfl)
theorem dX8_trial_5 : decode cX8_trial 5 = .ok (.aload_n 0, 1) := dk_42 (dk_at dksX8_trial_0 5 rfl rfl)
theorem dX8_trial_6 : decode cX8_trial 6 = .ok (.iload_n 1, 1) := dk_27 (dk_at dksX8_trial_0 6 rfl rfl)
theorem dX8_trial_7 : decode cX8_trial 7 = .ok (.iconst 0, 1) := dk_3 (dk_at dksX8_trial_0 7 rfl rfl)
theorem dX8_trial_8 : decode cX8_trial 8 = .ok (.bipush 20, 2) := dk_16 20 (dk_at dksX8_trial_0 8 rfl rfl)
theorem dX8_trial_10 : decode cX8_trial 10 = .ok (.invokestatic 87, 3) := dk_184 0 87 (dk_at dksX8_trial_0 10 rfl rfl)
theorem dX8_trial_13 : decode cX8_trial 13 = .ok (.ifCond .ne 7, 3) := dk_154 0 7 (dk_at dksX8_trial_0 13 rfl rfl)
theorem dX8_trial_16 : decode cX8_trial 16 = .ok (.iconst 1, 1) := dk_4 (dk_at dksX8_trial_0 16 rfl rfl)
theorem dX8_trial_17 : decode cX8_trial 17 = .ok (.goto 4, 3) := dk_167 0 4 (dk_at dksX8_trial_0 17 rfl rfl)
theorem dX8_trial_20 : decode cX8_trial 20 = .ok (.iconst 0, 1) := dk_3 (dk_at dksX8_trial_0 20 rfl rfl)
theorem dX8_trial_21 : decode cX8_trial 21 = .ok (.iconst 1, 1) := dk_4 (dk_at dksX8_trial_0 21 rfl rfl)
theorem dX8_trial_22 : decode cX8_trial 22 = .ok (.invokevirtual 262, 3) := dk_182 1 6 (dk_at dksX8_trial_1 0 rfl rfl)
theorem dX8_trial_25 : decode cX8_trial 25 = .ok (.ifCond .eq 5, 3) := dk_153 0 5 (dk_at dksX8_trial_1 3 rfl rfl)
theorem dX8_trial_28 : decode cX8_trial 28 = .ok (.iconst 0, 1) := dk_3 (dk_at dksX8_trial_1 6 rfl rfl)
theorem dX8_trial_29 : decode cX8_trial 29 = .ok (.ireturn, 1) := dk_172 (dk_at dksX8_trial_1 7 rfl rfl)
theorem dX8_trial_30 : decode cX8_trial 30 = .ok (.aload_n 0, 1) := dk_42 (dk_at dksX8_trial_1 8 rfl rfl)
theorem dX8_trial_31 : decode cX8_trial 31 = .ok (.getfield 13, 3) := dk_180 0 13 (dk_at dksX8_trial_1 9 rfl rfl)
theorem dX8_trial_34 : decode cX8_trial 34 = .ok (.bipush 8, 2) := dk_16 8 (dk_at dksX8_trial_1 12 rfl rfl)
theorem dX8_trial_36 : decode cX8_trial 36 = .ok (.iaload, 1) := dk_46 (dk_at dksX8_trial_1 14 rfl rfl)
theorem dX8_trial_37 : decode cX8_trial 37 = .ok (.istore_n 2, 1) := dk_61 (dk_at dksX8_trial_1 15 rfl rfl)
theorem dX8_trial_38 : decode cX8_trial 38 = .ok (.aload_n 0, 1) := dk_42 (dk_at dksX8_trial_1 16 rfl rfl)
theorem dX8_trial_39 : decode cX8_trial 39 = .ok (.iload_n 1, 1) := dk_27 (dk_at dksX8_trial_1 17 rfl rfl)
theorem dX8_trial_40 : decode cX8_trial 40 = .ok (.invokevirtual 446, 3) := dk_182 1 190 (dk_at dksX8_trial_1 18 rfl rfl)
theorem dX8_trial_43 : decode cX8_trial 43 = .ok (.istore_n 3, 1) := dk_62 (dk_at dksX8_trial_1 21 rfl rfl)
theorem dX8_trial_44 : decode cX8_trial 44 = .ok (.aload_n 0, 1) := dk_42 (dk_at dksX8_trial_1 22 rfl rfl)
theorem dX8_trial_45 : decode cX8_trial 45 = .ok (.getfield 13, 3) := dk_180 0 13 (dk_at dksX8_trial_2 0 rfl rfl)
theorem dX8_trial_48 : decode cX8_trial 48 = .ok (.bipush 8, 2) := dk_16 8 (dk_at dksX8_trial_2 3 rfl rfl)
theorem dX8_trial_50 : decode cX8_trial 50 = .ok (.iload_n 2, 1) := dk_28 (dk_at dksX8_trial_2 5 rfl rfl)
theorem dX8_trial_51 : decode cX8_trial 51 = .ok (.iastore, 1) := dk_79 (dk_at dksX8_trial_2 6 rfl rfl)
theorem dX8_trial_52 : decode cX8_trial 52 = .ok (.iload_n 3, 1) := dk_29 (dk_at dksX8_trial_2 7 rfl rfl)
theorem dX8_trial_53 : decode cX8_trial 53 = .ok (.ireturn, 1) := dk_172 (dk_at dksX8_trial_2 8 rfl rfl)
abbrev cX8_screamsBy : ByteArray := prog_18_method_122_code
def yX8_screamsBy : MethodName := ⟨RX8, "screamsBy", "(I)I"⟩
def dkwX8_screamsBy_2 : List UInt8 := [160, 0, 7, 3, 167, 0, 4, 4, 96, 61, 132, 4, 1, 167, 255, 208, 132, 3, 1, 167, 255, 194, 28, 172]
abbrev dktX8_screamsBy_2 : List UInt8 := dkwX8_screamsBy_2 ++ []
def dkwX8_screamsBy_1 : List UInt8 := [182, 1, 99, 154, 0, 6, 167, 0, 27, 42, 21, 4, 182, 1, 47, 28, 42, 4, 3, 182, 1, 92, 2]
abbrev dktX8_screamsBy_1 : List UInt8 := dkwX8_screamsBy_1 ++ dktX8_screamsBy_2
def dkwX8_screamsBy_0 : List UInt8 := [3, 61, 3, 62, 29, 27, 162, 0, 63, 3, 54, 4, 21, 4, 42, 182, 0, 91, 162, 0, 45, 42, 21, 4]
abbrev dktX8_screamsBy_0 : List UInt8 := dkwX8_screamsBy_0 ++ dktX8_screamsBy_1
theorem dksX8_screamsBy_0 : cX8_screamsBy.data.toList.drop 0 = dktX8_screamsBy_0 := by decide +kernel
theorem dksX8_screamsBy_1 : cX8_screamsBy.data.toList.drop 24 = dktX8_screamsBy_1 := dk_seg dksX8_screamsBy_0 24 rfl rfl
theorem dksX8_screamsBy_2 : cX8_screamsBy.data.toList.drop 47 = dktX8_screamsBy_2 := dk_seg dksX8_screamsBy_1 23 rfl rfl
theorem dX8_screamsBy_0 : decode cX8_screamsBy 0 = .ok (.iconst 0, 1) := dk_3 (dk_at dksX8_screamsBy_0 0 rfl rfl)
theorem dX8_screamsBy_1 : decode cX8_screamsBy 1 = .ok (.istore_n 2, 1) := dk_61 (dk_at dksX8_screamsBy_0 1 rfl rfl)
theorem dX8_screamsBy_2 : decode cX8_screamsBy 2 = .ok (.iconst 0, 1) := dk_3 (dk_at dksX8_screamsBy_0 2 rfl rfl)
theorem dX8_screamsBy_3 : decode cX8_screamsBy 3 = .ok (.istore_n 3, 1) := dk_62 (dk_at dksX8_screamsBy_0 3 rfl rfl)
theorem dX8_screamsBy_4 : decode cX8_screamsBy 4 = .ok (.iload_n 3, 1) := dk_29 (dk_at dksX8_screamsBy_0 4 rfl rfl)
theorem dX8_screamsBy_5 : decode cX8_screamsBy 5 = .ok (.iload_n 1, 1) := dk_27 (dk_at dksX8_screamsBy_0 5 rfl rfl)
theorem dX8_screamsBy_6 : decode cX8_screamsBy 6 = .ok (.if_icmp .ge 63, 3) := dk_162 0 63 (dk_at dksX8_screamsBy_0 6 rfl rfl)
theorem dX8_screamsBy_9 : decode cX8_screamsBy 9 = .ok (.iconst 0, 1) := dk_3 (dk_at dksX8_screamsBy_0 9 rfl rfl)
theorem dX8_screamsBy_10 : decode cX8_screamsBy 10 = .ok (.istore 4, 2) := dk_54 4 (dk_at dksX8_screamsBy_0 10 rfl rfl)
theorem dX8_screamsBy_12 : decode cX8_screamsBy 12 = .ok (.iload 4, 2) := dk_21 4 (dk_at dksX8_screamsBy_0 12 rfl rfl)
theorem dX8_screamsBy_14 : decode cX8_screamsBy 14 = .ok (.aload_n 0, 1) := dk_42 (dk_at dksX8_screamsBy_0 14 rfl rfl)
theorem dX8_screamsBy_15 : decode cX8_screamsBy 15 = .ok (.invokevirtual 91, 3) := dk_182 0 91 (dk_at dksX8_screamsBy_0 15 rfl rfl)
theorem dX8_screamsBy_18 : decode cX8_screamsBy 18 = .ok (.if_icmp .ge 45, 3) := dk_162 0 45 (dk_at dksX8_screamsBy_0 18 rfl rfl)
theorem dX8_screamsBy_21 : decode cX8_screamsBy 21 = .ok (.aload_n 0, 1) := dk_42 (dk_at dksX8_screamsBy_0 21 rfl rfl)
theorem dX8_screamsBy_22 : decode cX8_screamsBy 22 = .ok (.iload 4, 2) := dk_21 4 (dk_at dksX8_screamsBy_0 22 rfl rfl)
theorem dX8_screamsBy_24 : decode cX8_screamsBy 24 = .ok (.invokevirtual 355, 3) := dk_182 1 99 (dk_at dksX8_screamsBy_1 0 rfl rfl)
theorem dX8_screamsBy_27 : decode cX8_screamsBy 27 = .ok (.ifCond .ne 6, 3) := dk_154 0 6 (dk_at dksX8_screamsBy_1 3 rfl rfl)
theorem dX8_screamsBy_30 : decode cX8_screamsBy 30 = .ok (.goto 27, 3) := dk_167 0 27 (dk_at dksX8_screamsBy_1 6 rfl rfl)
theorem dX8_screamsBy_33 : decode cX8_screamsBy 33 = .ok (.aload_n 0, 1) := dk_42 (dk_at dksX8_screamsBy_1 9 rfl rfl)
theorem dX8_screamsBy_34 : decode cX8_screamsBy 34 = .ok (.iload 4, 2) := dk_21 4 (dk_at dksX8_screamsBy_1 10 rfl rfl)
theorem dX8_screamsBy_36 : decode cX8_screamsBy 36 = .ok (.invokevirtual 303, 3) := dk_182 1 47 (dk_at dksX8_screamsBy_1 12 rfl rfl)
theorem dX8_screamsBy_39 : decode cX8_screamsBy 39 = .ok (.iload_n 2, 1) := dk_28 (dk_at dksX8_screamsBy_1 15 rfl rfl)
theorem dX8_screamsBy_40 : decode cX8_screamsBy 40 = .ok (.aload_n 0, 1) := dk_42 (dk_at dksX8_screamsBy_1 16 rfl rfl)
theorem dX8_screamsBy_41 : decode cX8_screamsBy 41 = .ok (.iconst 1, 1) := dk_4 (dk_at dksX8_screamsBy_1 17 rfl rfl)
theorem dX8_screamsBy_42 : decode cX8_screamsBy 42 = .ok (.iconst 0, 1) := dk_3 (dk_at dksX8_screamsBy_1 18 rfl rfl)
theorem dX8_screamsBy_43 : decode cX8_screamsBy 43 = .ok (.invokevirtual 348, 3) := dk_182 1 92 (dk_at dksX8_screamsBy_1 19 rfl rfl)
theorem dX8_screamsBy_46 : decode cX8_screamsBy 46 = .ok (.iconst (-1), 1) := dk_2 (dk_at dksX8_screamsBy_1 22 rfl rfl)
theorem dX8_screamsBy_47 : decode cX8_screamsBy 47 = .ok (.if_icmp .ne 7, 3) := dk_160 0 7 (dk_at dksX8_screamsBy_2 0 rfl rfl)
theorem dX8_screamsBy_50 : decode cX8_screamsBy 50 = .ok (.iconst 0, 1) := dk_3 (dk_at dksX8_screamsBy_2 3 rfl rfl)
theorem dX8_screamsBy_51 : decode cX8_screamsBy 51 = .ok (.goto 4, 3) := dk_167 0 4 (dk_at dksX8_screamsBy_2 4 rfl rfl)
theorem dX8_screamsBy_54 : decode cX8_screamsBy 54 = .ok (.iconst 1, 1) := dk_4 (dk_at dksX8_screamsBy_2 7 rfl rfl)
theorem dX8_screamsBy_55 : decode cX8_screamsBy 55 = .ok (.iadd, 1) := dk_96 (dk_at dksX8_screamsBy_2 8 rfl rfl)
theorem dX8_screamsBy_56 : decode cX8_screamsBy 56 = .ok (.istore_n 2, 1) := dk_61 (dk_at dksX8_screamsBy_2 9 rfl rfl)
theorem dX8_screamsBy_57 : decode cX8_screamsBy 57 = .ok (.iinc 4 1, 3) := dk_132 4 1 (dk_at dksX8_screamsBy_2 10 rfl rfl)
theorem dX8_screamsBy_60 : decode cX8_screamsBy 60 = .ok (.goto (-48), 3) := dk_167 255 208 (dk_at dksX8_screamsBy_2 13 rfl rfl)
theorem dX8_screamsBy_63 : decode cX8_screamsBy 63 = .ok (.iinc 3 1, 3) := dk_132 3 1 (dk_at dksX8_screamsBy_2 16 rfl rfl)
theorem dX8_screamsBy_66 : decode cX8_screamsBy 66 = .ok (.goto (-62), 3) := dk_167 255 194 (dk_at dksX8_screamsBy_2 19 rfl rfl)
theorem dX8_screamsBy_69 : decode cX8_screamsBy 69 = .ok (.iload_n 2, 1) := dk_28 (dk_at dksX8_screamsBy_2 22 rfl rfl)
theorem dX8_screamsBy_70 : decode cX8_screamsBy 70 = .ok (.ireturn, 1) := dk_172 (dk_at dksX8_screamsBy_2 23 rfl rfl)
abbrev cX8_span : ByteArray := prog_18_method_124_code
def yX8_span : MethodName := ⟨RX8, "span", "(IZ)I"⟩
def dkwX8_span_4 : List UInt8 := [21, 6, 184, 1, 96, 54, 4, 132, 5, 1, 167, 255, 197, 42, 180, 0, 13, 16, 8, 29, 79, 21, 4, 172]
abbrev dktX8_span_4 : List UInt8 := dkwX8_span_4 ++ []
def dkwX8_span_3 : List UInt8 := [156, 0, 8, 21, 6, 167, 0, 24, 28, 153, 0, 13, 21, 4, 21, 6, 184, 1, 33, 167, 0, 10, 21, 4]
abbrev dktX8_span_3 : List UInt8 := dkwX8_span_3 ++ dktX8_span_4
def dkwX8_span_2 : List UInt8 := [16, 6, 163, 0, 58, 42, 180, 0, 13, 16, 8, 21, 5, 79, 42, 27, 182, 1, 190, 54, 6, 21, 4]
abbrev dktX8_span_2 : List UInt8 := dkwX8_span_2 ++ dktX8_span_3
def dkwX8_span_1 : List UInt8 := [182, 1, 6, 153, 0, 5, 3, 172, 42, 180, 0, 13, 16, 8, 46, 62, 2, 54, 4, 4, 54, 5, 21, 5]
abbrev dktX8_span_1 : List UInt8 := dkwX8_span_1 ++ dktX8_span_2
def dkwX8_span_0 : List UInt8 := [42, 3, 181, 0, 3, 42, 27, 3, 16, 20, 184, 0, 87, 154, 0, 7, 4, 167, 0, 4, 3, 4]
abbrev dktX8_span_0 : List UInt8 := dkwX8_span_0 ++ dktX8_span_1
theorem dksX8_span_0 : cX8_span.data.toList.drop 0 = dktX8_span_0 := by decide +kernel
theorem dksX8_span_1 : cX8_span.data.toList.drop 22 = dktX8_span_1 := dk_seg dksX8_span_0 22 rfl rfl
theorem dksX8_span_2 : cX8_span.data.toList.drop 46 = dktX8_span_2 := dk_seg dksX8_span_1 24 rfl rfl
theorem dksX8_span_3 : cX8_span.data.toList.drop 69 = dktX8_span_3 := dk_seg dksX8_span_2 23 rfl rfl
theorem dksX8_span_4 : cX8_span.data.toList.drop 93 = dktX8_span_4 := dk_seg dksX8_span_3 24 rfl rfl
theorem dX8_span_0 : decode cX8_span 0 = .ok (.aload_n 0, 1) := dk_42 (dk_at dksX8_span_0 0 rfl rfl)
theorem dX8_span_1 : decode cX8_span 1 = .ok (.iconst 0, 1) := dk_3 (dk_at dksX8_span_0 1 rfl rfl)
theorem dX8_span_2 : decode cX8_span 2 = .ok (.putfield 3, 3) := dk_181 0 3 (dk_at dksX8_span_0 2 rfl rfl)
theorem dX8_span_5 : decode cX8_span 5 = .ok (.aload_n 0, 1) := dk_42 (dk_at dksX8_span_0 5 rfl rfl)
theorem dX8_span_6 : decode cX8_span 6 = .ok (.iload_n 1, 1) := dk_27 (dk_at dksX8_span_0 6 rfl rfl)
theorem dX8_span_7 : decode cX8_span 7 = .ok (.iconst 0, 1) := dk_3 (dk_at dksX8_span_0 7 rfl rfl)
theorem dX8_span_8 : decode cX8_span 8 = .ok (.bipush 20, 2) := dk_16 20 (dk_at dksX8_span_0 8 rfl rfl)
theorem dX8_span_10 : decode cX8_span 10 = .ok (.invokestatic 87, 3) := dk_184 0 87 (dk_at dksX8_span_0 10 rfl rfl)
theorem dX8_span_13 : decode cX8_span 13 = .ok (.ifCond .ne 7, 3) := dk_154 0 7 (dk_at dksX8_span_0 13 rfl rfl)
theorem dX8_span_16 : decode cX8_span 16 = .ok (.iconst 1, 1) := dk_4 (dk_at dksX8_span_0 16 rfl rfl)
theorem dX8_span_17 : decode cX8_span 17 = .ok (.goto 4, 3) := dk_167 0 4 (dk_at dksX8_span_0 17 rfl rfl)
theorem dX8_span_20 : decode cX8_span 20 = .ok (.iconst 0, 1) := dk_3 (dk_at dksX8_span_0 20 rfl rfl)
theorem dX8_span_21 : decode cX8_span 21 = .ok (.iconst 1, 1) := dk_4 (dk_at dksX8_span_0 21 rfl rfl)
theorem dX8_span_22 : decode cX8_span 22 = .ok (.invokevirtual 262, 3) := dk_182 1 6 (dk_at dksX8_span_1 0 rfl rfl)
theorem dX8_span_25 : decode cX8_span 25 = .ok (.ifCond .eq 5, 3) := dk_153 0 5 (dk_at dksX8_span_1 3 rfl rfl)
theorem dX8_span_28 : decode cX8_span 28 = .ok (.iconst 0, 1) := dk_3 (dk_at dksX8_span_1 6 rfl rfl)
theorem dX8_span_29 : decode cX8_span 29 = .ok (.ireturn, 1) := dk_172 (dk_at dksX8_span_1 7 rfl rfl)
theorem dX8_span_30 : decode cX8_span 30 = .ok (.aload_n 0, 1) := dk_42 (dk_at dksX8_span_1 8 rfl rfl)
theorem dX8_span_31 : decode cX8_span 31 = .ok (.getfield 13, 3) := dk_180 0 13 (dk_at dksX8_span_1 9 rfl rfl)
theorem dX8_span_34 : decode cX8_span 34 = .ok (.bipush 8, 2) := dk_16 8 (dk_at dksX8_span_1 12 rfl rfl)
theorem dX8_span_36 : decode cX8_span 36 = .ok (.iaload, 1) := dk_46 (dk_at dksX8_span_1 14 rfl rfl)
theorem dX8_span_37 : decode cX8_span 37 = .ok (.istore_n 3, 1) := dk_62 (dk_at dksX8_span_1 15 rfl rfl)
theorem dX8_span_38 : decode cX8_span 38 = .ok (.iconst (-1), 1) := dk_2 (dk_at dksX8_span_1 16 rfl rfl)
theorem dX8_span_39 : decode cX8_span 39 = .ok (.istore 4, 2) := dk_54 4 (dk_at dksX8_span_1 17 rfl rfl)
theorem dX8_span_41 : decode cX8_span 41 = .ok (.iconst 1, 1) := dk_4 (dk_at dksX8_span_1 19 rfl rfl)
theorem dX8_span_42 : decode cX8_span 42 = .ok (.istore 5, 2) := dk_54 5 (dk_at dksX8_span_1 20 rfl rfl)
theorem dX8_span_44 : decode cX8_span 44 = .ok (.iload 5, 2) := dk_21 5 (dk_at dksX8_span_1 22 rfl rfl)
theorem dX8_span_46 : decode cX8_span 46 = .ok (.bipush 6, 2) := dk_16 6 (dk_at dksX8_span_2 0 rfl rfl)
theorem dX8_span_48 : decode cX8_span 48 = .ok (.if_icmp .gt 58, 3) := dk_163 0 58 (dk_at dksX8_span_2 2 rfl rfl)
theorem dX8_span_51 : decode cX8_span 51 = .ok (.aload_n 0, 1) := dk_42 (dk_at dksX8_span_2 5 rfl rfl)
theorem dX8_span_52 : decode cX8_span 52 = .ok (.getfield 13, 3) := dk_180 0 13 (dk_at dksX8_span_2 6 rfl rfl)
theorem dX8_span_55 : decode cX8_span 55 = .ok (.bipush 8, 2) := dk_16 8 (dk_at dksX8_span_2 9 rfl rfl)
theorem dX8_span_57 : decode cX8_span 57 = .ok (.iload 5, 2) := dk_21 5 (dk_at dksX8_span_2 11 rfl rfl)
theorem dX8_span_59 : decode cX8_span 59 = .ok (.iastore, 1) := dk_79 (dk_at dksX8_span_2 13 rfl rfl)
theorem dX8_span_60 : decode cX8_span 60 = .ok (.aload_n 0, 1) := dk_42 (dk_at dksX8_span_2 14 rfl rfl)
theorem dX8_span_61 : decode cX8_span 61 = .ok (.iload_n 1, 1) := dk_27 (dk_at dksX8_span_2 15 rfl rfl)
theorem dX8_span_62 : decode cX8_span 62 = .ok (.invokevirtual 446, 3) := dk_182 1 190 (dk_at dksX8_span_2 16 rfl rfl)
theorem dX8_span_65 : decode cX8_span 65 = .ok (.istore 6, 2) := dk_54 6 (dk_at dksX8_span_2 19 rfl rfl)
theorem dX8_span_67 : decode cX8_span 67 = .ok (.iload 4, 2) := dk_21 4 (dk_at dksX8_span_2 21 rfl rfl)
theorem dX8_span_69 : decode cX8_span 69 = .ok (.ifCond .ge 8, 3) := dk_156 0 8 (dk_at dksX8_span_3 0 rfl rfl)
theorem dX8_span_72 : decode cX8_span 72 = .ok (.iload 6, 2) := dk_21 6 (dk_at dksX8_span_3 3 rfl rfl)
theorem dX8_span_74 : decode cX8_span 74 = .ok (.goto 24, 3) := dk_167 0 24 (dk_at dksX8_span_3 5 rfl rfl)
theorem dX8_span_77 : decode cX8_span 77 = .ok (.iload_n 2, 1) := dk_28 (dk_at dksX8_span_3 8 rfl rfl)
theorem dX8_span_78 : decode cX8_span 78 = .ok (.ifCond .eq 13, 3) := dk_153 0 13 (dk_at dksX8_span_3 9 rfl rfl)
theorem dX8_span_81 : decode cX8_span 81 = .ok (.iload 4, 2) := dk_21 4 (dk_at dksX8_span_3 12 rfl rfl)
theorem dX8_span_83 : decode cX8_span 83 = .ok (.iload 6, 2) := dk_21 6 (dk_at dksX8_span_3 14 rfl rfl)
theorem dX8_span_85 : decode cX8_span 85 = .ok (.invokestatic 289, 3) := dk_184 1 33 (dk_at dksX8_span_3 16 rfl rfl)
theorem dX8_span_88 : decode cX8_span 88 = .ok (.goto 10, 3) := dk_167 0 10 (dk_at dksX8_span_3 19 rfl rfl)
theorem dX8_span_91 : decode cX8_span 91 = .ok (.iload 4, 2) := dk_21 4 (dk_at dksX8_span_3 22 rfl rfl)
theorem dX8_span_93 : decode cX8_span 93 = .ok (.iload 6, 2) := dk_21 6 (dk_at dksX8_span_4 0 rfl rfl)
theorem dX8_span_95 : decode cX8_span 95 = .ok (.invokestatic 352, 3) := dk_184 1 96 (dk_at dksX8_span_4 2 rfl rfl)
theorem dX8_span_98 : decode cX8_span 98 = .ok (.istore 4, 2) := dk_54 4 (dk_at dksX8_span_4 5 rfl rfl)
theorem dX8_span_100 : decode cX8_span 100 = .ok (.iinc 5 1, 3) := dk_132 5 1 (dk_at dksX8_span_4 7 rfl rfl)
theorem dX8_span_103 : decode cX8_span 103 = .ok (.goto (-59), 3) := dk_167 255 197 (dk_at dksX8_span_4 10 rfl rfl)
theorem dX8_span_106 : decode cX8_span 106 = .ok (.aload_n 0, 1) := dk_42 (dk_at dksX8_span_4 13 rfl rfl)
theorem dX8_span_107 : decode cX8_span 107 = .ok (.getfield 13, 3) := dk_180 0 13 (dk_at dksX8_span_4 14 rfl rfl)
theorem dX8_span_110 : decode cX8_span 110 = .ok (.bipush 8, 2) := dk_16 8 (dk_at dksX8_span_4 17 rfl rfl)
theorem dX8_span_112 : decode cX8_span 112 = .ok (.iload_n 3, 1) := dk_29 (dk_at dksX8_span_4 19 rfl rfl)
theorem dX8_span_113 : decode cX8_span 113 = .ok (.iastore, 1) := dk_79 (dk_at dksX8_span_4 20 rfl rfl)
theorem dX8_span_114 : decode cX8_span 114 = .ok (.iload 4, 2) := dk_21 4 (dk_at dksX8_span_4 21 rfl rfl)
theorem dX8_span_116 : decode cX8_span 116 = .ok (.ireturn, 1) := dk_172 (dk_at dksX8_span_4 23 rfl rfl)
abbrev cX8_led : ByteArray := prog_18_method_126_code
def yX8_led : MethodName := ⟨RX8, "led", "(IZ)I"⟩
def dkwX8_led_3 : List UInt8 := [96, 62, 132, 4, 1, 167, 255, 206, 29, 172]
abbrev dktX8_led_3 : List UInt8 := dkwX8_led_3 ++ []
def dkwX8_led_2 : List UInt8 := [160, 0, 23, 28, 153, 0, 15, 42, 21, 4, 5, 182, 1, 193, 16, 10, 162, 0, 7, 4, 167, 0, 4, 3]
abbrev dktX8_led_2 : List UInt8 := dkwX8_led_2 ++ dktX8_led_3
def dkwX8_led_1 : List UInt8 := [54, 4, 21, 4, 42, 180, 0, 13, 16, 7, 46, 162, 0, 44, 29, 42, 21, 4, 4, 182, 1, 193, 27]
abbrev dktX8_led_1 : List UInt8 := dkwX8_led_1 ++ dktX8_led_2
def dkwX8_led_0 : List UInt8 := [42, 3, 181, 0, 3, 42, 42, 27, 182, 1, 44, 4, 182, 1, 6, 153, 0, 5, 3, 172, 3, 62, 3]
abbrev dktX8_led_0 : List UInt8 := dkwX8_led_0 ++ dktX8_led_1
theorem dksX8_led_0 : cX8_led.data.toList.drop 0 = dktX8_led_0 := by decide +kernel
theorem dksX8_led_1 : cX8_led.data.toList.drop 23 = dktX8_led_1 := dk_seg dksX8_led_0 23 rfl rfl
theorem dksX8_led_2 : cX8_led.data.toList.drop 46 = dktX8_led_2 := dk_seg dksX8_led_1 23 rfl rfl
theorem dksX8_led_3 : cX8_led.data.toList.drop 70 = dktX8_led_3 := dk_seg dksX8_led_2 24 rfl rfl
theorem dX8_led_0 : decode cX8_led 0 = .ok (.aload_n 0, 1) := dk_42 (dk_at dksX8_led_0 0 rfl rfl)
theorem dX8_led_1 : decode cX8_led 1 = .ok (.iconst 0, 1) := dk_3 (dk_at dksX8_led_0 1 rfl rfl)
theorem dX8_led_2 : decode cX8_led 2 = .ok (.putfield 3, 3) := dk_181 0 3 (dk_at dksX8_led_0 2 rfl rfl)
theorem dX8_led_5 : decode cX8_led 5 = .ok (.aload_n 0, 1) := dk_42 (dk_at dksX8_led_0 5 rfl rfl)
theorem dX8_led_6 : decode cX8_led 6 = .ok (.aload_n 0, 1) := dk_42 (dk_at dksX8_led_0 6 rfl rfl)
theorem dX8_led_7 : decode cX8_led 7 = .ok (.iload_n 1, 1) := dk_27 (dk_at dksX8_led_0 7 rfl rfl)
theorem dX8_led_8 : decode cX8_led 8 = .ok (.invokevirtual 300, 3) := dk_182 1 44 (dk_at dksX8_led_0 8 rfl rfl)
theorem dX8_led_11 : decode cX8_led 11 = .ok (.iconst 1, 1) := dk_4 (dk_at dksX8_led_0 11 rfl rfl)
theorem dX8_led_12 : decode cX8_led 12 = .ok (.invokevirtual 262, 3) := dk_182 1 6 (dk_at dksX8_led_0 12 rfl rfl)
theorem dX8_led_15 : decode cX8_led 15 = .ok (.ifCond .eq 5, 3) := dk_153 0 5 (dk_at dksX8_led_0 15 rfl rfl)
theorem dX8_led_18 : decode cX8_led 18 = .ok (.iconst 0, 1) := dk_3 (dk_at dksX8_led_0 18 rfl rfl)
theorem dX8_led_19 : decode cX8_led 19 = .ok (.ireturn, 1) := dk_172 (dk_at dksX8_led_0 19 rfl rfl)
theorem dX8_led_20 : decode cX8_led 20 = .ok (.iconst 0, 1) := dk_3 (dk_at dksX8_led_0 20 rfl rfl)
theorem dX8_led_21 : decode cX8_led 21 = .ok (.istore_n 3, 1) := dk_62 (dk_at dksX8_led_0 21 rfl rfl)
theorem dX8_led_22 : decode cX8_led 22 = .ok (.iconst 0, 1) := dk_3 (dk_at dksX8_led_0 22 rfl rfl)
theorem dX8_led_23 : decode cX8_led 23 = .ok (.istore 4, 2) := dk_54 4 (dk_at dksX8_led_1 0 rfl rfl)
theorem dX8_led_25 : decode cX8_led 25 = .ok (.iload 4, 2) := dk_21 4 (dk_at dksX8_led_1 2 rfl rfl)
theorem dX8_led_27 : decode cX8_led 27 = .ok (.aload_n 0, 1) := dk_42 (dk_at dksX8_led_1 4 rfl rfl)
theorem dX8_led_28 : decode cX8_led 28 = .ok (.getfield 13, 3) := dk_180 0 13 (dk_at dksX8_led_1 5 rfl rfl)
theorem dX8_led_31 : decode cX8_led 31 = .ok (.bipush 7, 2) := dk_16 7 (dk_at dksX8_led_1 8 rfl rfl)
theorem dX8_led_33 : decode cX8_led 33 = .ok (.iaload, 1) := dk_46 (dk_at dksX8_led_1 10 rfl rfl)
theorem dX8_led_34 : decode cX8_led 34 = .ok (.if_icmp .ge 44, 3) := dk_162 0 44 (dk_at dksX8_led_1 11 rfl rfl)
theorem dX8_led_37 : decode cX8_led 37 = .ok (.iload_n 3, 1) := dk_29 (dk_at dksX8_led_1 14 rfl rfl)
theorem dX8_led_38 : decode cX8_led 38 = .ok (.aload_n 0, 1) := dk_42 (dk_at dksX8_led_1 15 rfl rfl)
theorem dX8_led_39 : decode cX8_led 39 = .ok (.iload 4, 2) := dk_21 4 (dk_at dksX8_led_1 16 rfl rfl)
theorem dX8_led_41 : decode cX8_led 41 = .ok (.iconst 1, 1) := dk_4 (dk_at dksX8_led_1 18 rfl rfl)
theorem dX8_led_42 : decode cX8_led 42 = .ok (.invokevirtual 449, 3) := dk_182 1 193 (dk_at dksX8_led_1 19 rfl rfl)
theorem dX8_led_45 : decode cX8_led 45 = .ok (.iload_n 1, 1) := dk_27 (dk_at dksX8_led_1 22 rfl rfl)
theorem dX8_led_46 : decode cX8_led 46 = .ok (.if_icmp .ne 23, 3) := dk_160 0 23 (dk_at dksX8_led_2 0 rfl rfl)
theorem dX8_led_49 : decode cX8_led 49 = .ok (.iload_n 2, 1) := dk_28 (dk_at dksX8_led_2 3 rfl rfl)
theorem dX8_led_50 : decode cX8_led 50 = .ok (.ifCond .eq 15, 3) := dk_153 0 15 (dk_at dksX8_led_2 4 rfl rfl)
theorem dX8_led_53 : decode cX8_led 53 = .ok (.aload_n 0, 1) := dk_42 (dk_at dksX8_led_2 7 rfl rfl)
theorem dX8_led_54 : decode cX8_led 54 = .ok (.iload 4, 2) := dk_21 4 (dk_at dksX8_led_2 8 rfl rfl)
theorem dX8_led_56 : decode cX8_led 56 = .ok (.iconst 2, 1) := dk_5 (dk_at dksX8_led_2 10 rfl rfl)
theorem dX8_led_57 : decode cX8_led 57 = .ok (.invokevirtual 449, 3) := dk_182 1 193 (dk_at dksX8_led_2 11 rfl rfl)
theorem dX8_led_60 : decode cX8_led 60 = .ok (.bipush 10, 2) := dk_16 10 (dk_at dksX8_led_2 14 rfl rfl)
theorem dX8_led_62 : decode cX8_led 62 = .ok (.if_icmp .ge 7, 3) := dk_162 0 7 (dk_at dksX8_led_2 16 rfl rfl)
theorem dX8_led_65 : decode cX8_led 65 = .ok (.iconst 1, 1) := dk_4 (dk_at dksX8_led_2 19 rfl rfl)
theorem dX8_led_66 : decode cX8_led 66 = .ok (.goto 4, 3) := dk_167 0 4 (dk_at dksX8_led_2 20 rfl rfl)
theorem dX8_led_69 : decode cX8_led 69 = .ok (.iconst 0, 1) := dk_3 (dk_at dksX8_led_2 23 rfl rfl)
theorem dX8_led_70 : decode cX8_led 70 = .ok (.iadd, 1) := dk_96 (dk_at dksX8_led_3 0 rfl rfl)
theorem dX8_led_71 : decode cX8_led 71 = .ok (.istore_n 3, 1) := dk_62 (dk_at dksX8_led_3 1 rfl rfl)
theorem dX8_led_72 : decode cX8_led 72 = .ok (.iinc 4 1, 3) := dk_132 4 1 (dk_at dksX8_led_3 2 rfl rfl)
theorem dX8_led_75 : decode cX8_led 75 = .ok (.goto (-50), 3) := dk_167 255 206 (dk_at dksX8_led_3 5 rfl rfl)
theorem dX8_led_78 : decode cX8_led 78 = .ok (.iload_n 3, 1) := dk_29 (dk_at dksX8_led_3 8 rfl rfl)
theorem dX8_led_79 : decode cX8_led 79 = .ok (.ireturn, 1) := dk_172 (dk_at dksX8_led_3 9 rfl rfl)
abbrev cX8_ofLog : ByteArray := prog_18_method_125_code
def yX8_ofLog : MethodName := ⟨RX8, "ofLog", "(II)I"⟩
def dkwX8_ofLog_0 : List UInt8 := [42, 180, 0, 13, 16, 65, 7, 27, 104, 96, 28, 96, 46, 172]
abbrev dktX8_ofLog_0 : List UInt8 := dkwX8_ofLog_0 ++ []
theorem dksX8_ofLog_0 : cX8_ofLog.data.toList.drop 0 = dktX8_ofLog_0 := by decide +kernel
theorem dX8_ofLog_0 : decode cX8_ofLog 0 = .ok (.aload_n 0, 1) := dk_42 (dk_at dksX8_ofLog_0 0 rfl rfl)
theorem dX8_ofLog_1 : decode cX8_ofLog 1 = .ok (.getfield 13, 3) := dk_180 0 13 (dk_at dksX8_ofLog_0 1 rfl rfl)
theorem dX8_ofLog_4 : decode cX8_ofLog 4 = .ok (.bipush 65, 2) := dk_16 65 (dk_at dksX8_ofLog_0 4 rfl rfl)
theorem dX8_ofLog_6 : decode cX8_ofLog 6 = .ok (.iconst 4, 1) := dk_7 (dk_at dksX8_ofLog_0 6 rfl rfl)
theorem dX8_ofLog_7 : decode cX8_ofLog 7 = .ok (.iload_n 1, 1) := dk_27 (dk_at dksX8_ofLog_0 7 rfl rfl)
theorem dX8_ofLog_8 : decode cX8_ofLog 8 = .ok (.imul, 1) := dk_104 (dk_at dksX8_ofLog_0 8 rfl rfl)
theorem dX8_ofLog_9 : decode cX8_ofLog 9 = .ok (.iadd, 1) := dk_96 (dk_at dksX8_ofLog_0 9 rfl rfl)
theorem dX8_ofLog_10 : decode cX8_ofLog 10 = .ok (.iload_n 2, 1) := dk_28 (dk_at dksX8_ofLog_0 10 rfl rfl)
theorem dX8_ofLog_11 : decode cX8_ofLog 11 = .ok (.iadd, 1) := dk_96 (dk_at dksX8_ofLog_0 11 rfl rfl)
theorem dX8_ofLog_12 : decode cX8_ofLog 12 = .ok (.iaload, 1) := dk_46 (dk_at dksX8_ofLog_0 12 rfl rfl)
theorem dX8_ofLog_13 : decode cX8_ofLog 13 = .ok (.ireturn, 1) := dk_172 (dk_at dksX8_ofLog_0 13 rfl rfl)
abbrev cX8_log : ByteArray := prog_18_method_127_code
def yX8_log : MethodName := ⟨RX8, "log", "(II)I"⟩
def dkwX8_log_2 : List UInt8 := [28, 182, 1, 193, 167, 0, 4, 2, 172]
abbrev dktX8_log_2 : List UInt8 := dkwX8_log_2 ++ []
def dkwX8_log_1 : List UInt8 := [153, 0, 5, 3, 172, 27, 3, 42, 180, 0, 13, 16, 7, 46, 4, 100, 184, 0, 87, 153, 0, 12, 42, 27]
abbrev dktX8_log_1 : List UInt8 := dkwX8_log_1 ++ dktX8_log_2
def dkwX8_log_0 : List UInt8 := [42, 3, 181, 0, 3, 42, 28, 3, 6, 184, 0, 87, 154, 0, 7, 4, 167, 0, 4, 3, 4, 182, 1, 6]
abbrev dktX8_log_0 : List UInt8 := dkwX8_log_0 ++ dktX8_log_1
theorem dksX8_log_0 : cX8_log.data.toList.drop 0 = dktX8_log_0 := by decide +kernel
theorem dksX8_log_1 : cX8_log.data.toList.drop 24 = dktX8_log_1 := dk_seg dksX8_log_0 24 rfl rfl
theorem dksX8_log_2 : cX8_log.data.toList.drop 48 = dktX8_log_2 := dk_seg dksX8_log_1 24 rfl rfl
theorem dX8_log_0 : decode cX8_log 0 = .ok (.aload_n 0, 1) := dk_42 (dk_at dksX8_log_0 0 rfl rfl)
theorem dX8_log_1 : decode cX8_log 1 = .ok (.iconst 0, 1) := dk_3 (dk_at dksX8_log_0 1 rfl rfl)
theorem dX8_log_2 : decode cX8_log 2 = .ok (.putfield 3, 3) := dk_181 0 3 (dk_at dksX8_log_0 2 rfl rfl)
theorem dX8_log_5 : decode cX8_log 5 = .ok (.aload_n 0, 1) := dk_42 (dk_at dksX8_log_0 5 rfl rfl)
theorem dX8_log_6 : decode cX8_log 6 = .ok (.iload_n 2, 1) := dk_28 (dk_at dksX8_log_0 6 rfl rfl)
theorem dX8_log_7 : decode cX8_log 7 = .ok (.iconst 0, 1) := dk_3 (dk_at dksX8_log_0 7 rfl rfl)
theorem dX8_log_8 : decode cX8_log 8 = .ok (.iconst 3, 1) := dk_6 (dk_at dksX8_log_0 8 rfl rfl)
theorem dX8_log_9 : decode cX8_log 9 = .ok (.invokestatic 87, 3) := dk_184 0 87 (dk_at dksX8_log_0 9 rfl rfl)
theorem dX8_log_12 : decode cX8_log 12 = .ok (.ifCond .ne 7, 3) := dk_154 0 7 (dk_at dksX8_log_0 12 rfl rfl)
theorem dX8_log_15 : decode cX8_log 15 = .ok (.iconst 1, 1) := dk_4 (dk_at dksX8_log_0 15 rfl rfl)
theorem dX8_log_16 : decode cX8_log 16 = .ok (.goto 4, 3) := dk_167 0 4 (dk_at dksX8_log_0 16 rfl rfl)
theorem dX8_log_19 : decode cX8_log 19 = .ok (.iconst 0, 1) := dk_3 (dk_at dksX8_log_0 19 rfl rfl)
theorem dX8_log_20 : decode cX8_log 20 = .ok (.iconst 1, 1) := dk_4 (dk_at dksX8_log_0 20 rfl rfl)
theorem dX8_log_21 : decode cX8_log 21 = .ok (.invokevirtual 262, 3) := dk_182 1 6 (dk_at dksX8_log_0 21 rfl rfl)
theorem dX8_log_24 : decode cX8_log 24 = .ok (.ifCond .eq 5, 3) := dk_153 0 5 (dk_at dksX8_log_1 0 rfl rfl)
theorem dX8_log_27 : decode cX8_log 27 = .ok (.iconst 0, 1) := dk_3 (dk_at dksX8_log_1 3 rfl rfl)
theorem dX8_log_28 : decode cX8_log 28 = .ok (.ireturn, 1) := dk_172 (dk_at dksX8_log_1 4 rfl rfl)
theorem dX8_log_29 : decode cX8_log 29 = .ok (.iload_n 1, 1) := dk_27 (dk_at dksX8_log_1 5 rfl rfl)
theorem dX8_log_30 : decode cX8_log 30 = .ok (.iconst 0, 1) := dk_3 (dk_at dksX8_log_1 6 rfl rfl)
theorem dX8_log_31 : decode cX8_log 31 = .ok (.aload_n 0, 1) := dk_42 (dk_at dksX8_log_1 7 rfl rfl)
theorem dX8_log_32 : decode cX8_log 32 = .ok (.getfield 13, 3) := dk_180 0 13 (dk_at dksX8_log_1 8 rfl rfl)
theorem dX8_log_35 : decode cX8_log 35 = .ok (.bipush 7, 2) := dk_16 7 (dk_at dksX8_log_1 11 rfl rfl)
theorem dX8_log_37 : decode cX8_log 37 = .ok (.iaload, 1) := dk_46 (dk_at dksX8_log_1 13 rfl rfl)
theorem dX8_log_38 : decode cX8_log 38 = .ok (.iconst 1, 1) := dk_4 (dk_at dksX8_log_1 14 rfl rfl)
theorem dX8_log_39 : decode cX8_log 39 = .ok (.isub, 1) := dk_100 (dk_at dksX8_log_1 15 rfl rfl)
theorem dX8_log_40 : decode cX8_log 40 = .ok (.invokestatic 87, 3) := dk_184 0 87 (dk_at dksX8_log_1 16 rfl rfl)
theorem dX8_log_43 : decode cX8_log 43 = .ok (.ifCond .eq 12, 3) := dk_153 0 12 (dk_at dksX8_log_1 19 rfl rfl)
theorem dX8_log_46 : decode cX8_log 46 = .ok (.aload_n 0, 1) := dk_42 (dk_at dksX8_log_1 22 rfl rfl)
theorem dX8_log_47 : decode cX8_log 47 = .ok (.iload_n 1, 1) := dk_27 (dk_at dksX8_log_1 23 rfl rfl)
theorem dX8_log_48 : decode cX8_log 48 = .ok (.iload_n 2, 1) := dk_28 (dk_at dksX8_log_2 0 rfl rfl)
theorem dX8_log_49 : decode cX8_log 49 = .ok (.invokevirtual 449, 3) := dk_182 1 193 (dk_at dksX8_log_2 1 rfl rfl)
theorem dX8_log_52 : decode cX8_log 52 = .ok (.goto 4, 3) := dk_167 0 4 (dk_at dksX8_log_2 4 rfl rfl)
theorem dX8_log_55 : decode cX8_log 55 = .ok (.iconst (-1), 1) := dk_2 (dk_at dksX8_log_2 7 rfl rfl)
theorem dX8_log_56 : decode cX8_log 56 = .ok (.ireturn, 1) := dk_172 (dk_at dksX8_log_2 8 rfl rfl)
abbrev cX8_seed : ByteArray := prog_18_method_128_code
def yX8_seed : MethodName := ⟨RX8, "seed", "(I)I"⟩
def dkwX8_seed_0 : List UInt8 := [42, 3, 181, 0, 3, 42, 180, 0, 13, 16, 8, 46, 61, 42, 180, 0, 13, 16, 8, 27, 79, 28, 172]
abbrev dktX8_seed_0 : List UInt8 := dkwX8_seed_0 ++ []
theorem dksX8_seed_0 : cX8_seed.data.toList.drop 0 = dktX8_seed_0 := by decide +kernel
theorem dX8_seed_0 : decode cX8_seed 0 = .ok (.aload_n 0, 1) := dk_42 (dk_at dksX8_seed_0 0 rfl rfl)
theorem dX8_seed_1 : decode cX8_seed 1 = .ok (.iconst 0, 1) := dk_3 (dk_at dksX8_seed_0 1 rfl rfl)
theorem dX8_seed_2 : decode cX8_seed 2 = .ok (.putfield 3, 3) := dk_181 0 3 (dk_at dksX8_seed_0 2 rfl rfl)
theorem dX8_seed_5 : decode cX8_seed 5 = .ok (.aload_n 0, 1) := dk_42 (dk_at dksX8_seed_0 5 rfl rfl)
theorem dX8_seed_6 : decode cX8_seed 6 = .ok (.getfield 13, 3) := dk_180 0 13 (dk_at dksX8_seed_0 6 rfl rfl)
theorem dX8_seed_9 : decode cX8_seed 9 = .ok (.bipush 8, 2) := dk_16 8 (dk_at dksX8_seed_0 9 rfl rfl)
theorem dX8_seed_11 : decode cX8_seed 11 = .ok (.iaload, 1) := dk_46 (dk_at dksX8_seed_0 11 rfl rfl)
theorem dX8_seed_12 : decode cX8_seed 12 = .ok (.istore_n 2, 1) := dk_61 (dk_at dksX8_seed_0 12 rfl rfl)
theorem dX8_seed_13 : decode cX8_seed 13 = .ok (.aload_n 0, 1) := dk_42 (dk_at dksX8_seed_0 13 rfl rfl)
theorem dX8_seed_14 : decode cX8_seed 14 = .ok (.getfield 13, 3) := dk_180 0 13 (dk_at dksX8_seed_0 14 rfl rfl)
theorem dX8_seed_17 : decode cX8_seed 17 = .ok (.bipush 8, 2) := dk_16 8 (dk_at dksX8_seed_0 17 rfl rfl)
theorem dX8_seed_19 : decode cX8_seed 19 = .ok (.iload_n 1, 1) := dk_27 (dk_at dksX8_seed_0 19 rfl rfl)
theorem dX8_seed_20 : decode cX8_seed 20 = .ok (.iastore, 1) := dk_79 (dk_at dksX8_seed_0 20 rfl rfl)
theorem dX8_seed_21 : decode cX8_seed 21 = .ok (.iload_n 2, 1) := dk_28 (dk_at dksX8_seed_0 21 rfl rfl)
theorem dX8_seed_22 : decode cX8_seed 22 = .ok (.ireturn, 1) := dk_172 (dk_at dksX8_seed_0 22 rfl rfl)
abbrev cX8_count : ByteArray := prog_18_method_131_code
def yX8_count : MethodName := ⟨RX8, "count", "(I)I"⟩
def dkwX8_count_5 : List UInt8 := [167, 0, 4, 2, 172]
abbrev dktX8_count_5 : List UInt8 := dkwX8_count_5 ++ []
def dkwX8_count_4 : List UInt8 := [46, 172, 42, 180, 0, 67, 172, 27, 3, 16, 6, 184, 0, 87, 153, 0, 12, 42, 180, 0, 13, 27, 46]
abbrev dktX8_count_4 : List UInt8 := dkwX8_count_4 ++ dktX8_count_5
def dkwX8_count_3 : List UInt8 := [182, 1, 196, 172, 42, 27, 16, 8, 100, 182, 1, 108, 172, 42, 182, 1, 199, 172, 42, 180, 0, 13, 16, 7]
abbrev dktX8_count_3 : List UInt8 := dkwX8_count_3 ++ dktX8_count_4
def dkwX8_count_2 : List UInt8 := [42, 180, 0, 13, 6, 46, 4, 160, 0, 14, 42, 180, 0, 13, 17, 1, 49, 46, 167, 0, 4, 2, 172, 42]
abbrev dktX8_count_2 : List UInt8 := dkwX8_count_2 ++ dktX8_count_3
def dkwX8_count_1 : List UInt8 := [170, 0, 0, 0, 0, 117, 0, 0, 0, 3, 0, 0, 0, 14, 0, 0, 0, 62, 0, 0, 0, 117, 0, 0, 0, 117, 0, 0, 0, 117, 0, 0, 0, 85, 0, 0, 0, 90, 0, 0, 0, 90, 0, 0, 0, 90, 0, 0, 0, 90, 0, 0, 0, 99, 0, 0, 0, 104, 0, 0, 0, 112]
abbrev dktX8_count_1 : List UInt8 := dkwX8_count_1 ++ dktX8_count_2
def dkwX8_count_0 : List UInt8 := [42, 3, 181, 0, 3, 27]
abbrev dktX8_count_0 : List UInt8 := dkwX8_count_0 ++ dktX8_count_1
theorem dksX8_count_0 : cX8_count.data.toList.drop 0 = dktX8_count_0 := by decide +kernel
theorem dksX8_count_1 : cX8_count.data.toList.drop 6 = dktX8_count_1 := dk_seg dksX8_count_0 6 rfl rfl
theorem dksX8_count_2 : cX8_count.data.toList.drop 68 = dktX8_count_2 := dk_seg dksX8_count_1 62 rfl rfl
theorem dksX8_count_3 : cX8_count.data.toList.drop 92 = dktX8_count_3 := dk_seg dksX8_count_2 24 rfl rfl
theorem dksX8_count_4 : cX8_count.data.toList.drop 116 = dktX8_count_4 := dk_seg dksX8_count_3 24 rfl rfl
theorem dksX8_count_5 : cX8_count.data.toList.drop 139 = dktX8_count_5 := dk_seg dksX8_count_4 23 rfl rfl
theorem dX8_count_0 : decode cX8_count 0 = .ok (.aload_n 0, 1) := dk_42 (dk_at dksX8_count_0 0 rfl rfl)
theorem dX8_count_1 : decode cX8_count 1 = .ok (.iconst 0, 1) := dk_3 (dk_at dksX8_count_0 1 rfl rfl)
theorem dX8_count_2 : decode cX8_count 2 = .ok (.putfield 3, 3) := dk_181 0 3 (dk_at dksX8_count_0 2 rfl rfl)
theorem dX8_count_5 : decode cX8_count 5 = .ok (.iload_n 1, 1) := dk_27 (dk_at dksX8_count_0 5 rfl rfl)
theorem dX8_count_6 : decode cX8_count 6 = .ok (.tableswitch 117 3 14 #[62, 117, 117, 117, 85, 90, 90, 90, 90, 99, 104, 112], 62) := by decide +kernel
theorem dX8_count_68 : decode cX8_count 68 = .ok (.aload_n 0, 1) := dk_42 (dk_at dksX8_count_2 0 rfl rfl)
theorem dX8_count_69 : decode cX8_count 69 = .ok (.getfield 13, 3) := dk_180 0 13 (dk_at dksX8_count_2 1 rfl rfl)
theorem dX8_count_72 : decode cX8_count 72 = .ok (.iconst 3, 1) := dk_6 (dk_at dksX8_count_2 4 rfl rfl)
theorem dX8_count_73 : decode cX8_count 73 = .ok (.iaload, 1) := dk_46 (dk_at dksX8_count_2 5 rfl rfl)
theorem dX8_count_74 : decode cX8_count 74 = .ok (.iconst 1, 1) := dk_4 (dk_at dksX8_count_2 6 rfl rfl)
theorem dX8_count_75 : decode cX8_count 75 = .ok (.if_icmp .ne 14, 3) := dk_160 0 14 (dk_at dksX8_count_2 7 rfl rfl)
theorem dX8_count_78 : decode cX8_count 78 = .ok (.aload_n 0, 1) := dk_42 (dk_at dksX8_count_2 10 rfl rfl)
theorem dX8_count_79 : decode cX8_count 79 = .ok (.getfield 13, 3) := dk_180 0 13 (dk_at dksX8_count_2 11 rfl rfl)
theorem dX8_count_82 : decode cX8_count 82 = .ok (.sipush 305, 3) := dk_17 1 49 (dk_at dksX8_count_2 14 rfl rfl)
theorem dX8_count_85 : decode cX8_count 85 = .ok (.iaload, 1) := dk_46 (dk_at dksX8_count_2 17 rfl rfl)
theorem dX8_count_86 : decode cX8_count 86 = .ok (.goto 4, 3) := dk_167 0 4 (dk_at dksX8_count_2 18 rfl rfl)
theorem dX8_count_89 : decode cX8_count 89 = .ok (.iconst (-1), 1) := dk_2 (dk_at dksX8_count_2 21 rfl rfl)
theorem dX8_count_90 : decode cX8_count 90 = .ok (.ireturn, 1) := dk_172 (dk_at dksX8_count_2 22 rfl rfl)
theorem dX8_count_91 : decode cX8_count 91 = .ok (.aload_n 0, 1) := dk_42 (dk_at dksX8_count_2 23 rfl rfl)
theorem dX8_count_92 : decode cX8_count 92 = .ok (.invokevirtual 452, 3) := dk_182 1 196 (dk_at dksX8_count_3 0 rfl rfl)
theorem dX8_count_95 : decode cX8_count 95 = .ok (.ireturn, 1) := dk_172 (dk_at dksX8_count_3 3 rfl rfl)
theorem dX8_count_96 : decode cX8_count 96 = .ok (.aload_n 0, 1) := dk_42 (dk_at dksX8_count_3 4 rfl rfl)
theorem dX8_count_97 : decode cX8_count 97 = .ok (.iload_n 1, 1) := dk_27 (dk_at dksX8_count_3 5 rfl rfl)
theorem dX8_count_98 : decode cX8_count 98 = .ok (.bipush 8, 2) := dk_16 8 (dk_at dksX8_count_3 6 rfl rfl)
theorem dX8_count_100 : decode cX8_count 100 = .ok (.isub, 1) := dk_100 (dk_at dksX8_count_3 8 rfl rfl)
theorem dX8_count_101 : decode cX8_count 101 = .ok (.invokevirtual 364, 3) := dk_182 1 108 (dk_at dksX8_count_3 9 rfl rfl)
theorem dX8_count_104 : decode cX8_count 104 = .ok (.ireturn, 1) := dk_172 (dk_at dksX8_count_3 12 rfl rfl)
theorem dX8_count_105 : decode cX8_count 105 = .ok (.aload_n 0, 1) := dk_42 (dk_at dksX8_count_3 13 rfl rfl)
theorem dX8_count_106 : decode cX8_count 106 = .ok (.invokevirtual 455, 3) := dk_182 1 199 (dk_at dksX8_count_3 14 rfl rfl)
theorem dX8_count_109 : decode cX8_count 109 = .ok (.ireturn, 1) := dk_172 (dk_at dksX8_count_3 17 rfl rfl)
theorem dX8_count_110 : decode cX8_count 110 = .ok (.aload_n 0, 1) := dk_42 (dk_at dksX8_count_3 18 rfl rfl)
theorem dX8_count_111 : decode cX8_count 111 = .ok (.getfield 13, 3) := dk_180 0 13 (dk_at dksX8_count_3 19 rfl rfl)
theorem dX8_count_114 : decode cX8_count 114 = .ok (.bipush 7, 2) := dk_16 7 (dk_at dksX8_count_3 22 rfl rfl)
theorem dX8_count_116 : decode cX8_count 116 = .ok (.iaload, 1) := dk_46 (dk_at dksX8_count_4 0 rfl rfl)
theorem dX8_count_117 : decode cX8_count 117 = .ok (.ireturn, 1) := dk_172 (dk_at dksX8_count_4 1 rfl rfl)
theorem dX8_count_118 : decode cX8_count 118 = .ok (.aload_n 0, 1) := dk_42 (dk_at dksX8_count_4 2 rfl rfl)
theorem dX8_count_119 : decode cX8_count 119 = .ok (.getfield 67, 3) := dk_180 0 67 (dk_at dksX8_count_4 3 rfl rfl)
theorem dX8_count_122 : decode cX8_count 122 = .ok (.ireturn, 1) := dk_172 (dk_at dksX8_count_4 6 rfl rfl)
theorem dX8_count_123 : decode cX8_count 123 = .ok (.iload_n 1, 1) := dk_27 (dk_at dksX8_count_4 7 rfl rfl)
theorem dX8_count_124 : decode cX8_count 124 = .ok (.iconst 0, 1) := dk_3 (dk_at dksX8_count_4 8 rfl rfl)
theorem dX8_count_125 : decode cX8_count 125 = .ok (.bipush 6, 2) := dk_16 6 (dk_at dksX8_count_4 9 rfl rfl)
theorem dX8_count_127 : decode cX8_count 127 = .ok (.invokestatic 87, 3) := dk_184 0 87 (dk_at dksX8_count_4 11 rfl rfl)
theorem dX8_count_130 : decode cX8_count 130 = .ok (.ifCond .eq 12, 3) := dk_153 0 12 (dk_at dksX8_count_4 14 rfl rfl)
theorem dX8_count_133 : decode cX8_count 133 = .ok (.aload_n 0, 1) := dk_42 (dk_at dksX8_count_4 17 rfl rfl)
theorem dX8_count_134 : decode cX8_count 134 = .ok (.getfield 13, 3) := dk_180 0 13 (dk_at dksX8_count_4 18 rfl rfl)
theorem dX8_count_137 : decode cX8_count 137 = .ok (.iload_n 1, 1) := dk_27 (dk_at dksX8_count_4 21 rfl rfl)
theorem dX8_count_138 : decode cX8_count 138 = .ok (.iaload, 1) := dk_46 (dk_at dksX8_count_4 22 rfl rfl)
theorem dX8_count_139 : decode cX8_count 139 = .ok (.goto 4, 3) := dk_167 0 4 (dk_at dksX8_count_5 0 rfl rfl)
theorem dX8_count_142 : decode cX8_count 142 = .ok (.iconst (-1), 1) := dk_2 (dk_at dksX8_count_5 3 rfl rfl)
theorem dX8_count_143 : decode cX8_count 143 = .ok (.ireturn, 1) := dk_172 (dk_at dksX8_count_5 4 rfl rfl)
abbrev cX8_slotsWithProps : ByteArray := prog_18_method_129_code
def yX8_slotsWithProps : MethodName := ⟨RX8, "slotsWithProps", "()I"⟩
def dkwX8_slotsWithProps_1 : List UInt8 := [167, 0, 4, 3, 128, 60, 132, 2, 1, 167, 255, 228, 27, 172]
abbrev dktX8_slotsWithProps_1 : List UInt8 := dkwX8_slotsWithProps_1 ++ []
def dkwX8_slotsWithProps_0 : List UInt8 := [3, 60, 3, 61, 28, 16, 10, 162, 0, 28, 27, 42, 28, 182, 0, 160, 2, 159, 0, 9, 4, 28, 120]
abbrev dktX8_slotsWithProps_0 : List UInt8 := dkwX8_slotsWithProps_0 ++ dktX8_slotsWithProps_1
theorem dksX8_slotsWithProps_0 : cX8_slotsWithProps.data.toList.drop 0 = dktX8_slotsWithProps_0 := by decide +kernel
theorem dksX8_slotsWithProps_1 : cX8_slotsWithProps.data.toList.drop 23 = dktX8_slotsWithProps_1 := dk_seg dksX8_slotsWithProps_0 23 rfl rfl
theorem dX8_slotsWithProps_0 : decode cX8_slotsWithProps 0 = .ok (.iconst 0, 1) := dk_3 (dk_at dksX8_slotsWithProps_0 0 rfl rfl)
theorem dX8_slotsWithProps_1 : decode cX8_slotsWithProps 1 = .ok (.istore_n 1, 1) := dk_60 (dk_at dksX8_slotsWithProps_0 1 rfl rfl)
theorem dX8_slotsWithProps_2 : decode cX8_slotsWithProps 2 = .ok (.iconst 0, 1) := dk_3 (dk_at dksX8_slotsWithProps_0 2 rfl rfl)
theorem dX8_slotsWithProps_3 : decode cX8_slotsWithProps 3 = .ok (.istore_n 2, 1) := dk_61 (dk_at dksX8_slotsWithProps_0 3 rfl rfl)
theorem dX8_slotsWithProps_4 : decode cX8_slotsWithProps 4 = .ok (.iload_n 2, 1) := dk_28 (dk_at dksX8_slotsWithProps_0 4 rfl rfl)
theorem dX8_slotsWithProps_5 : decode cX8_slotsWithProps 5 = .ok (.bipush 10, 2) := dk_16 10 (dk_at dksX8_slotsWithProps_0 5 rfl rfl)
theorem dX8_slotsWithProps_7 : decode cX8_slotsWithProps 7 = .ok (.if_icmp .ge 28, 3) := dk_162 0 28 (dk_at dksX8_slotsWithProps_0 7 rfl rfl)
theorem dX8_slotsWithProps_10 : decode cX8_slotsWithProps 10 = .ok (.iload_n 1, 1) := dk_27 (dk_at dksX8_slotsWithProps_0 10 rfl rfl)
theorem dX8_slotsWithProps_11 : decode cX8_slotsWithProps 11 = .ok (.aload_n 0, 1) := dk_42 (dk_at dksX8_slotsWithProps_0 11 rfl rfl)
theorem dX8_slotsWithProps_12 : decode cX8_slotsWithProps 12 = .ok (.iload_n 2, 1) := dk_28 (dk_at dksX8_slotsWithProps_0 12 rfl rfl)
theorem dX8_slotsWithProps_13 : decode cX8_slotsWithProps 13 = .ok (.invokevirtual 160, 3) := dk_182 0 160 (dk_at dksX8_slotsWithProps_0 13 rfl rfl)
theorem dX8_slotsWithProps_16 : decode cX8_slotsWithProps 16 = .ok (.iconst (-1), 1) := dk_2 (dk_at dksX8_slotsWithProps_0 16 rfl rfl)
theorem dX8_slotsWithProps_17 : decode cX8_slotsWithProps 17 = .ok (.if_icmp .eq 9, 3) := dk_159 0 9 (dk_at dksX8_slotsWithProps_0 17 rfl rfl)
theorem dX8_slotsWithProps_20 : decode cX8_slotsWithProps 20 = .ok (.iconst 1, 1) := dk_4 (dk_at dksX8_slotsWithProps_0 20 rfl rfl)
theorem dX8_slotsWithProps_21 : decode cX8_slotsWithProps 21 = .ok (.iload_n 2, 1) := dk_28 (dk_at dksX8_slotsWithProps_0 21 rfl rfl)
theorem dX8_slotsWithProps_22 : decode cX8_slotsWithProps 22 = .ok (.ishl, 1) := dk_120 (dk_at dksX8_slotsWithProps_0 22 rfl rfl)
theorem dX8_slotsWithProps_23 : decode cX8_slotsWithProps 23 = .ok (.goto 4, 3) := dk_167 0 4 (dk_at dksX8_slotsWithProps_1 0 rfl rfl)
theorem dX8_slotsWithProps_26 : decode cX8_slotsWithProps 26 = .ok (.iconst 0, 1) := dk_3 (dk_at dksX8_slotsWithProps_1 3 rfl rfl)
theorem dX8_slotsWithProps_27 : decode cX8_slotsWithProps 27 = .ok (.ior, 1) := dk_128 (dk_at dksX8_slotsWithProps_1 4 rfl rfl)
theorem dX8_slotsWithProps_28 : decode cX8_slotsWithProps 28 = .ok (.istore_n 1, 1) := dk_60 (dk_at dksX8_slotsWithProps_1 5 rfl rfl)
theorem dX8_slotsWithProps_29 : decode cX8_slotsWithProps 29 = .ok (.iinc 2 1, 3) := dk_132 2 1 (dk_at dksX8_slotsWithProps_1 6 rfl rfl)
theorem dX8_slotsWithProps_32 : decode cX8_slotsWithProps 32 = .ok (.goto (-28), 3) := dk_167 255 228 (dk_at dksX8_slotsWithProps_1 9 rfl rfl)
theorem dX8_slotsWithProps_35 : decode cX8_slotsWithProps 35 = .ok (.iload_n 1, 1) := dk_27 (dk_at dksX8_slotsWithProps_1 12 rfl rfl)
theorem dX8_slotsWithProps_36 : decode cX8_slotsWithProps 36 = .ok (.ireturn, 1) := dk_172 (dk_at dksX8_slotsWithProps_1 13 rfl rfl)
abbrev cX8_wornOfAll : ByteArray := prog_18_method_130_code
def yX8_wornOfAll : MethodName := ⟨RX8, "wornOfAll", "()I"⟩
def dkwX8_wornOfAll_1 : List UInt8 := [167, 255, 236, 27, 172]
abbrev dktX8_wornOfAll_1 : List UInt8 := dkwX8_wornOfAll_1 ++ []
def dkwX8_wornOfAll_0 : List UInt8 := [3, 60, 3, 61, 28, 42, 182, 0, 83, 162, 0, 18, 27, 42, 28, 5, 182, 0, 74, 96, 60, 132, 2, 1]
abbrev dktX8_wornOfAll_0 : List UInt8 := dkwX8_wornOfAll_0 ++ dktX8_wornOfAll_1
theorem dksX8_wornOfAll_0 : cX8_wornOfAll.data.toList.drop 0 = dktX8_wornOfAll_0 := by decide +kernel
theorem dksX8_wornOfAll_1 : cX8_wornOfAll.data.toList.drop 24 = dktX8_wornOfAll_1 := dk_seg dksX8_wornOfAll_0 24 rfl rfl
theorem dX8_wornOfAll_0 : decode cX8_wornOfAll 0 = .ok (.iconst 0, 1) := dk_3 (dk_at dksX8_wornOfAll_0 0 rfl rfl)
theorem dX8_wornOfAll_1 : decode cX8_wornOfAll 1 = .ok (.istore_n 1, 1) := dk_60 (dk_at dksX8_wornOfAll_0 1 rfl rfl)
theorem dX8_wornOfAll_2 : decode cX8_wornOfAll 2 = .ok (.iconst 0, 1) := dk_3 (dk_at dksX8_wornOfAll_0 2 rfl rfl)
theorem dX8_wornOfAll_3 : decode cX8_wornOfAll 3 = .ok (.istore_n 2, 1) := dk_61 (dk_at dksX8_wornOfAll_0 3 rfl rfl)
theorem dX8_wornOfAll_4 : decode cX8_wornOfAll 4 = .ok (.iload_n 2, 1) := dk_28 (dk_at dksX8_wornOfAll_0 4 rfl rfl)
theorem dX8_wornOfAll_5 : decode cX8_wornOfAll 5 = .ok (.aload_n 0, 1) := dk_42 (dk_at dksX8_wornOfAll_0 5 rfl rfl)
theorem dX8_wornOfAll_6 : decode cX8_wornOfAll 6 = .ok (.invokevirtual 83, 3) := dk_182 0 83 (dk_at dksX8_wornOfAll_0 6 rfl rfl)
theorem dX8_wornOfAll_9 : decode cX8_wornOfAll 9 = .ok (.if_icmp .ge 18, 3) := dk_162 0 18 (dk_at dksX8_wornOfAll_0 9 rfl rfl)
theorem dX8_wornOfAll_12 : decode cX8_wornOfAll 12 = .ok (.iload_n 1, 1) := dk_27 (dk_at dksX8_wornOfAll_0 12 rfl rfl)
theorem dX8_wornOfAll_13 : decode cX8_wornOfAll 13 = .ok (.aload_n 0, 1) := dk_42 (dk_at dksX8_wornOfAll_0 13 rfl rfl)
theorem dX8_wornOfAll_14 : decode cX8_wornOfAll 14 = .ok (.iload_n 2, 1) := dk_28 (dk_at dksX8_wornOfAll_0 14 rfl rfl)
theorem dX8_wornOfAll_15 : decode cX8_wornOfAll 15 = .ok (.iconst 2, 1) := dk_5 (dk_at dksX8_wornOfAll_0 15 rfl rfl)
theorem dX8_wornOfAll_16 : decode cX8_wornOfAll 16 = .ok (.invokevirtual 74, 3) := dk_182 0 74 (dk_at dksX8_wornOfAll_0 16 rfl rfl)
theorem dX8_wornOfAll_19 : decode cX8_wornOfAll 19 = .ok (.iadd, 1) := dk_96 (dk_at dksX8_wornOfAll_0 19 rfl rfl)
theorem dX8_wornOfAll_20 : decode cX8_wornOfAll 20 = .ok (.istore_n 1, 1) := dk_60 (dk_at dksX8_wornOfAll_0 20 rfl rfl)
theorem dX8_wornOfAll_21 : decode cX8_wornOfAll 21 = .ok (.iinc 2 1, 3) := dk_132 2 1 (dk_at dksX8_wornOfAll_0 21 rfl rfl)
theorem dX8_wornOfAll_24 : decode cX8_wornOfAll 24 = .ok (.goto (-20), 3) := dk_167 255 236 (dk_at dksX8_wornOfAll_1 0 rfl rfl)
theorem dX8_wornOfAll_27 : decode cX8_wornOfAll 27 = .ok (.iload_n 1, 1) := dk_27 (dk_at dksX8_wornOfAll_1 3 rfl rfl)
theorem dX8_wornOfAll_28 : decode cX8_wornOfAll 28 = .ok (.ireturn, 1) := dk_172 (dk_at dksX8_wornOfAll_1 4 rfl rfl)
theorem q131 : (Jvm.Cond.initialized "GhostAssizeModel") ∈ lw_all := lw_g (lw_at lw_m1 11 rfl) rfl
theorem q1435 : (Jvm.Cond.instanceMethod ({ cls := "GhostAssizeModel", name := "thrown", desc := "()I" } : Jvm.MethodName)) ∈ lw_all := lw_g (lw_at lw_m6 115 rfl) rfl
theorem q1436 : (Jvm.Cond.selects "GhostAssizeModel" ({ cls := "GhostAssizeModel", name := "thrown", desc := "()I" } : Jvm.MethodName) ({ cls := "GhostAssizeModel", name := "thrown", desc := "()I" } : Jvm.MethodName)) ∈ lw_all := lw_g (lw_at lw_m6 116 rfl) rfl
theorem q1437 : (Jvm.Cond.code ({ cls := "GhostAssizeModel", name := "thrown", desc := "()I" } : Jvm.MethodName) prog_18_method_1_code (1 : Nat) (Option.some Jvm.ClassFile.FieldType.int)) ∈ lw_all := lw_g (lw_at lw_m6 117 rfl) rfl
theorem q1439 : (Jvm.Cond.instantiable "GhostAssizeModel" (38 : Nat)) ∈ lw_all := lw_g (lw_at lw_m6 119 rfl) rfl
theorem q1441 : (Jvm.Cond.instanceMethod ({ cls := "GhostAssizeModel", name := "<init>", desc := "()V" } : Jvm.MethodName)) ∈ lw_all := lw_g (lw_at lw_m6 121 rfl) rfl
theorem q1442 : (Jvm.Cond.code ({ cls := "GhostAssizeModel", name := "<init>", desc := "()V" } : Jvm.MethodName) prog_18_method_5_code (1 : Nat) (Option.none : Option Jvm.ClassFile.FieldType)) ∈ lw_all := lw_g (lw_at lw_m6 122 rfl) rfl
theorem q1443 : (Jvm.Cond.methodLink "GhostAssizeModel" (7 : Nat) ({ cls := "java/lang/Object", name := "<init>", desc := "()V" } : Jvm.MethodName)) ∈ lw_all := lw_g (lw_at lw_m6 123 rfl) rfl
theorem q1444 : (Jvm.Cond.fieldLink "GhostAssizeModel" (3 : Nat) "GhostAssizeModel" "thrown" "I") ∈ lw_all := lw_g (lw_at lw_m6 124 rfl) rfl
theorem q1445 : (Jvm.Cond.fieldLink "GhostAssizeModel" (13 : Nat) "GhostAssizeModel" "world" "[I") ∈ lw_all := lw_g (lw_at lw_m6 125 rfl) rfl
theorem q1446 : (Jvm.Cond.fieldLink "GhostAssizeModel" (17 : Nat) "GhostAssizeModel" "image" "[I") ∈ lw_all := lw_g (lw_at lw_m6 126 rfl) rfl
theorem q1447 : (Jvm.Cond.fieldLink "GhostAssizeModel" (20 : Nat) "GhostAssizeModel" "before" "[I") ∈ lw_all := lw_g (lw_at lw_m6 127 rfl) rfl
theorem q1448 : (Jvm.Cond.fieldLink "GhostAssizeModel" (23 : Nat) "GhostAssizeModel" "trial" "[I") ∈ lw_all := lw_g (lw_at lw_m6 128 rfl) rfl
theorem q1449 : (Jvm.Cond.fieldLink "GhostAssizeModel" (26 : Nat) "GhostAssizeModel" "acts" "[I") ∈ lw_all := lw_g (lw_at lw_m6 129 rfl) rfl
theorem q1450 : (Jvm.Cond.fieldLink "GhostAssizeModel" (63 : Nat) "GhostAssizeModel" "hasImage" "Z") ∈ lw_all := lw_g (lw_at lw_m6 130 rfl) rfl
theorem q1451 : (Jvm.Cond.fieldLink "GhostAssizeModel" (67 : Nat) "GhostAssizeModel" "remembered" "I") ∈ lw_all := lw_g (lw_at lw_m6 131 rfl) rfl
theorem q1452 : (Jvm.Cond.fieldLink "GhostAssizeModel" (29 : Nat) "GhostAssizeModel" "tape" "[B") ∈ lw_all := lw_g (lw_at lw_m6 132 rfl) rfl
theorem q1453 : (Jvm.Cond.fieldLink "GhostAssizeModel" (99 : Nat) "GhostAssizeModel" "taped" "I") ∈ lw_all := lw_g (lw_at lw_m6 133 rfl) rfl
theorem q1454 : (Jvm.Cond.fieldLink "GhostAssizeModel" (102 : Nat) "GhostAssizeModel" "point" "I") ∈ lw_all := lw_g (lw_at lw_m6 134 rfl) rfl
theorem q1455 : (Jvm.Cond.fieldLink "GhostAssizeModel" (105 : Nat) "GhostAssizeModel" "end" "I") ∈ lw_all := lw_g (lw_at lw_m6 135 rfl) rfl
theorem q1456 : (Jvm.Cond.fieldLink "GhostAssizeModel" (112 : Nat) "GhostAssizeModel" "begin" "I") ∈ lw_all := lw_g (lw_at lw_m6 136 rfl) rfl
theorem q1457 : (Jvm.Cond.fieldLink "GhostAssizeModel" (213 : Nat) "GhostAssizeModel" "deep" "I") ∈ lw_all := lw_g (lw_at lw_m6 137 rfl) rfl
theorem q1458 : (Jvm.Cond.fieldLink "GhostAssizeModel" (33 : Nat) "GhostAssizeModel" "faultAt" "I") ∈ lw_all := lw_g (lw_at lw_m6 138 rfl) rfl
theorem q1459 : (Jvm.Cond.fieldLink "GhostAssizeModel" (36 : Nat) "GhostAssizeModel" "five" "[I") ∈ lw_all := lw_g (lw_at lw_m6 139 rfl) rfl
theorem q1460 : (Jvm.Cond.fieldLink "GhostAssizeModel" (194 : Nat) "GhostAssizeModel" "steps" "I") ∈ lw_all := lw_g (lw_at lw_m6 140 rfl) rfl
theorem q1461 : (Jvm.Cond.fieldLink "GhostAssizeModel" (39 : Nat) "GhostAssizeModel" "value" "[I") ∈ lw_all := lw_g (lw_at lw_m6 141 rfl) rfl
theorem q1462 : (Jvm.Cond.fieldLink "GhostAssizeModel" (265 : Nat) "GhostAssizeModel" "itsDeeds" "I") ∈ lw_all := lw_g (lw_at lw_m6 142 rfl) rfl
theorem q1463 : (Jvm.Cond.fieldLink "GhostAssizeModel" (268 : Nat) "GhostAssizeModel" "itsNerve" "I") ∈ lw_all := lw_g (lw_at lw_m6 143 rfl) rfl
theorem q1464 : (Jvm.Cond.fieldLink "GhostAssizeModel" (271 : Nat) "GhostAssizeModel" "itsKnows" "I") ∈ lw_all := lw_g (lw_at lw_m6 144 rfl) rfl
theorem q1465 : (Jvm.Cond.fieldLink "GhostAssizeModel" (274 : Nat) "GhostAssizeModel" "itsProp" "I") ∈ lw_all := lw_g (lw_at lw_m6 145 rfl) rfl
theorem q1466 : (Jvm.Cond.fieldLink "GhostAssizeModel" (277 : Nat) "GhostAssizeModel" "itsTense" "I") ∈ lw_all := lw_g (lw_at lw_m6 146 rfl) rfl
theorem q1467 : (Jvm.Cond.fieldLink "GhostAssizeModel" (313 : Nat) "GhostAssizeModel" "taken" "I") ∈ lw_all := lw_g (lw_at lw_m6 147 rfl) rfl
theorem q1468 : (Jvm.Cond.fieldLink "GhostAssizeModel" (319 : Nat) "GhostAssizeModel" "eased" "I") ∈ lw_all := lw_g (lw_at lw_m6 148 rfl) rfl
theorem q1469 : (Jvm.Cond.fieldLink "GhostAssizeModel" (42 : Nat) "GhostAssizeModel" "tenseAt" "[I") ∈ lw_all := lw_g (lw_at lw_m6 149 rfl) rfl
theorem q1470 : (Jvm.Cond.fieldLink "GhostAssizeModel" (45 : Nat) "GhostAssizeModel" "frightAt" "[I") ∈ lw_all := lw_g (lw_at lw_m6 150 rfl) rfl
theorem q1471 : (Jvm.Cond.fieldLink "GhostAssizeModel" (48 : Nat) "GhostAssizeModel" "wore" "[I") ∈ lw_all := lw_g (lw_at lw_m6 151 rfl) rfl
theorem q1472 : (Jvm.Cond.fieldLink "GhostAssizeModel" (325 : Nat) "GhostAssizeModel" "screamedAt" "I") ∈ lw_all := lw_g (lw_at lw_m6 152 rfl) rfl
theorem q1473 : (Jvm.Cond.fieldLink "GhostAssizeModel" (322 : Nat) "GhostAssizeModel" "comeTo" "I") ∈ lw_all := lw_g (lw_at lw_m6 153 rfl) rfl
theorem q1474 : (Jvm.Cond.fieldLink "GhostAssizeModel" (316 : Nat) "GhostAssizeModel" "tenseNow" "I") ∈ lw_all := lw_g (lw_at lw_m6 154 rfl) rfl
theorem q1475 : (Jvm.Cond.fieldLink "GhostAssizeModel" (379 : Nat) "GhostAssizeModel" "tenseOne" "I") ∈ lw_all := lw_g (lw_at lw_m6 155 rfl) rfl
theorem q1476 : (Jvm.Cond.fieldLink "GhostAssizeModel" (382 : Nat) "GhostAssizeModel" "tenseOther" "I") ∈ lw_all := lw_g (lw_at lw_m6 156 rfl) rfl
theorem q1477 : (Jvm.Cond.fieldLink "GhostAssizeModel" (51 : Nat) "GhostAssizeModel" "rows" "[I") ∈ lw_all := lw_g (lw_at lw_m6 157 rfl) rfl
theorem q1478 : (Jvm.Cond.fieldLink "GhostAssizeModel" (54 : Nat) "GhostAssizeModel" "then" "[I") ∈ lw_all := lw_g (lw_at lw_m6 158 rfl) rfl
theorem q1479 : (Jvm.Cond.fieldLink "GhostAssizeModel" (57 : Nat) "GhostAssizeModel" "screams" "[I") ∈ lw_all := lw_g (lw_at lw_m6 159 rfl) rfl
theorem q1480 : (Jvm.Cond.fieldLink "GhostAssizeModel" (391 : Nat) "GhostAssizeModel" "allRows" "I") ∈ lw_all := lw_g (lw_at lw_m6 160 rfl) rfl
theorem q1481 : (Jvm.Cond.fieldLink "GhostAssizeModel" (60 : Nat) "GhostAssizeModel" "frights" "[I") ∈ lw_all := lw_g (lw_at lw_m6 161 rfl) rfl
theorem q1482 : (Jvm.Cond.lays "GhostAssizeModel" "GhostAssizeModel" "thrown" "I") ∈ lw_all := lw_g (lw_at lw_m6 162 rfl) rfl
theorem q1483 : (Jvm.Cond.soleField "GhostAssizeModel" "thrown") ∈ lw_all := lw_g (lw_at lw_m6 163 rfl) rfl
theorem q1484 : (Jvm.Cond.laysFinal "GhostAssizeModel" "GhostAssizeModel" "world" "[I") ∈ lw_all := lw_g (lw_at lw_m6 164 rfl) rfl
theorem q1485 : (Jvm.Cond.soleField "GhostAssizeModel" "world") ∈ lw_all := lw_g (lw_at lw_m6 165 rfl) rfl
theorem q1486 : (Jvm.Cond.laysFinal "GhostAssizeModel" "GhostAssizeModel" "image" "[I") ∈ lw_all := lw_g (lw_at lw_m6 166 rfl) rfl
theorem q1487 : (Jvm.Cond.soleField "GhostAssizeModel" "image") ∈ lw_all := lw_g (lw_at lw_m6 167 rfl) rfl
theorem q1488 : (Jvm.Cond.laysFinal "GhostAssizeModel" "GhostAssizeModel" "before" "[I") ∈ lw_all := lw_g (lw_at lw_m6 168 rfl) rfl
theorem q1489 : (Jvm.Cond.soleField "GhostAssizeModel" "before") ∈ lw_all := lw_g (lw_at lw_m6 169 rfl) rfl
theorem q1490 : (Jvm.Cond.laysFinal "GhostAssizeModel" "GhostAssizeModel" "trial" "[I") ∈ lw_all := lw_g (lw_at lw_m6 170 rfl) rfl
theorem q1491 : (Jvm.Cond.soleField "GhostAssizeModel" "trial") ∈ lw_all := lw_g (lw_at lw_m6 171 rfl) rfl
theorem q1492 : (Jvm.Cond.laysFinal "GhostAssizeModel" "GhostAssizeModel" "acts" "[I") ∈ lw_all := lw_g (lw_at lw_m6 172 rfl) rfl
theorem q1493 : (Jvm.Cond.soleField "GhostAssizeModel" "acts") ∈ lw_all := lw_g (lw_at lw_m6 173 rfl) rfl
theorem q1494 : (Jvm.Cond.lays "GhostAssizeModel" "GhostAssizeModel" "hasImage" "Z") ∈ lw_all := lw_g (lw_at lw_m6 174 rfl) rfl
theorem q1495 : (Jvm.Cond.soleField "GhostAssizeModel" "hasImage") ∈ lw_all := lw_g (lw_at lw_m6 175 rfl) rfl
theorem q1496 : (Jvm.Cond.lays "GhostAssizeModel" "GhostAssizeModel" "remembered" "I") ∈ lw_all := lw_g (lw_at lw_m6 176 rfl) rfl
theorem q1497 : (Jvm.Cond.soleField "GhostAssizeModel" "remembered") ∈ lw_all := lw_g (lw_at lw_m6 177 rfl) rfl
theorem q1498 : (Jvm.Cond.laysFinal "GhostAssizeModel" "GhostAssizeModel" "tape" "[B") ∈ lw_all := lw_g (lw_at lw_m6 178 rfl) rfl
theorem q1499 : (Jvm.Cond.soleField "GhostAssizeModel" "tape") ∈ lw_all := lw_g (lw_at lw_m6 179 rfl) rfl
theorem q1500 : (Jvm.Cond.lays "GhostAssizeModel" "GhostAssizeModel" "taped" "I") ∈ lw_all := lw_g (lw_at lw_m6 180 rfl) rfl
theorem q1501 : (Jvm.Cond.soleField "GhostAssizeModel" "taped") ∈ lw_all := lw_g (lw_at lw_m6 181 rfl) rfl
theorem q1502 : (Jvm.Cond.lays "GhostAssizeModel" "GhostAssizeModel" "point" "I") ∈ lw_all := lw_g (lw_at lw_m6 182 rfl) rfl
theorem q1503 : (Jvm.Cond.soleField "GhostAssizeModel" "point") ∈ lw_all := lw_g (lw_at lw_m6 183 rfl) rfl
theorem q1504 : (Jvm.Cond.lays "GhostAssizeModel" "GhostAssizeModel" "end" "I") ∈ lw_all := lw_g (lw_at lw_m6 184 rfl) rfl
theorem q1505 : (Jvm.Cond.soleField "GhostAssizeModel" "end") ∈ lw_all := lw_g (lw_at lw_m6 185 rfl) rfl
theorem q1506 : (Jvm.Cond.lays "GhostAssizeModel" "GhostAssizeModel" "begin" "I") ∈ lw_all := lw_g (lw_at lw_m6 186 rfl) rfl
theorem q1507 : (Jvm.Cond.soleField "GhostAssizeModel" "begin") ∈ lw_all := lw_g (lw_at lw_m6 187 rfl) rfl
theorem q1508 : (Jvm.Cond.lays "GhostAssizeModel" "GhostAssizeModel" "deep" "I") ∈ lw_all := lw_g (lw_at lw_m6 188 rfl) rfl
theorem q1509 : (Jvm.Cond.soleField "GhostAssizeModel" "deep") ∈ lw_all := lw_g (lw_at lw_m6 189 rfl) rfl
theorem q1510 : (Jvm.Cond.lays "GhostAssizeModel" "GhostAssizeModel" "faultAt" "I") ∈ lw_all := lw_g (lw_at lw_m6 190 rfl) rfl
theorem q1511 : (Jvm.Cond.soleField "GhostAssizeModel" "faultAt") ∈ lw_all := lw_g (lw_at lw_m6 191 rfl) rfl
theorem q1512 : (Jvm.Cond.laysFinal "GhostAssizeModel" "GhostAssizeModel" "five" "[I") ∈ lw_all := lw_g (lw_at lw_m6 192 rfl) rfl
theorem q1513 : (Jvm.Cond.soleField "GhostAssizeModel" "five") ∈ lw_all := lw_g (lw_at lw_m6 193 rfl) rfl
theorem q1514 : (Jvm.Cond.lays "GhostAssizeModel" "GhostAssizeModel" "steps" "I") ∈ lw_all := lw_g (lw_at lw_m6 194 rfl) rfl
theorem q1515 : (Jvm.Cond.soleField "GhostAssizeModel" "steps") ∈ lw_all := lw_g (lw_at lw_m6 195 rfl) rfl
theorem q1516 : (Jvm.Cond.laysFinal "GhostAssizeModel" "GhostAssizeModel" "value" "[I") ∈ lw_all := lw_g (lw_at lw_m6 196 rfl) rfl
theorem q1517 : (Jvm.Cond.soleField "GhostAssizeModel" "value") ∈ lw_all := lw_g (lw_at lw_m6 197 rfl) rfl
theorem q1518 : (Jvm.Cond.lays "GhostAssizeModel" "GhostAssizeModel" "itsDeeds" "I") ∈ lw_all := lw_g (lw_at lw_m6 198 rfl) rfl
theorem q1519 : (Jvm.Cond.soleField "GhostAssizeModel" "itsDeeds") ∈ lw_all := lw_g (lw_at lw_m6 199 rfl) rfl
theorem q1520 : (Jvm.Cond.lays "GhostAssizeModel" "GhostAssizeModel" "itsNerve" "I") ∈ lw_all := lw_g (lw_at lw_m6 200 rfl) rfl
theorem q1521 : (Jvm.Cond.soleField "GhostAssizeModel" "itsNerve") ∈ lw_all := lw_g (lw_at lw_m6 201 rfl) rfl
theorem q1522 : (Jvm.Cond.lays "GhostAssizeModel" "GhostAssizeModel" "itsKnows" "I") ∈ lw_all := lw_g (lw_at lw_m6 202 rfl) rfl
theorem q1523 : (Jvm.Cond.soleField "GhostAssizeModel" "itsKnows") ∈ lw_all := lw_g (lw_at lw_m6 203 rfl) rfl
theorem q1524 : (Jvm.Cond.lays "GhostAssizeModel" "GhostAssizeModel" "itsProp" "I") ∈ lw_all := lw_g (lw_at lw_m6 204 rfl) rfl
theorem q1525 : (Jvm.Cond.soleField "GhostAssizeModel" "itsProp") ∈ lw_all := lw_g (lw_at lw_m6 205 rfl) rfl
theorem q1526 : (Jvm.Cond.lays "GhostAssizeModel" "GhostAssizeModel" "itsTense" "I") ∈ lw_all := lw_g (lw_at lw_m6 206 rfl) rfl
theorem q1527 : (Jvm.Cond.soleField "GhostAssizeModel" "itsTense") ∈ lw_all := lw_g (lw_at lw_m6 207 rfl) rfl
theorem q1528 : (Jvm.Cond.lays "GhostAssizeModel" "GhostAssizeModel" "taken" "I") ∈ lw_all := lw_g (lw_at lw_m6 208 rfl) rfl
theorem q1529 : (Jvm.Cond.soleField "GhostAssizeModel" "taken") ∈ lw_all := lw_g (lw_at lw_m6 209 rfl) rfl
theorem q1530 : (Jvm.Cond.lays "GhostAssizeModel" "GhostAssizeModel" "eased" "I") ∈ lw_all := lw_g (lw_at lw_m6 210 rfl) rfl
theorem q1531 : (Jvm.Cond.soleField "GhostAssizeModel" "eased") ∈ lw_all := lw_g (lw_at lw_m6 211 rfl) rfl
theorem q1532 : (Jvm.Cond.laysFinal "GhostAssizeModel" "GhostAssizeModel" "tenseAt" "[I") ∈ lw_all := lw_g (lw_at lw_m6 212 rfl) rfl
theorem q1533 : (Jvm.Cond.soleField "GhostAssizeModel" "tenseAt") ∈ lw_all := lw_g (lw_at lw_m6 213 rfl) rfl
theorem q1534 : (Jvm.Cond.laysFinal "GhostAssizeModel" "GhostAssizeModel" "frightAt" "[I") ∈ lw_all := lw_g (lw_at lw_m6 214 rfl) rfl
theorem q1535 : (Jvm.Cond.soleField "GhostAssizeModel" "frightAt") ∈ lw_all := lw_g (lw_at lw_m6 215 rfl) rfl
theorem q1536 : (Jvm.Cond.laysFinal "GhostAssizeModel" "GhostAssizeModel" "wore" "[I") ∈ lw_all := lw_g (lw_at lw_m6 216 rfl) rfl
theorem q1537 : (Jvm.Cond.soleField "GhostAssizeModel" "wore") ∈ lw_all := lw_g (lw_at lw_m6 217 rfl) rfl
theorem q1538 : (Jvm.Cond.lays "GhostAssizeModel" "GhostAssizeModel" "screamedAt" "I") ∈ lw_all := lw_g (lw_at lw_m6 218 rfl) rfl
theorem q1539 : (Jvm.Cond.soleField "GhostAssizeModel" "screamedAt") ∈ lw_all := lw_g (lw_at lw_m6 219 rfl) rfl
theorem q1540 : (Jvm.Cond.lays "GhostAssizeModel" "GhostAssizeModel" "comeTo" "I") ∈ lw_all := lw_g (lw_at lw_m6 220 rfl) rfl
theorem q1541 : (Jvm.Cond.soleField "GhostAssizeModel" "comeTo") ∈ lw_all := lw_g (lw_at lw_m6 221 rfl) rfl
theorem q1542 : (Jvm.Cond.lays "GhostAssizeModel" "GhostAssizeModel" "tenseNow" "I") ∈ lw_all := lw_g (lw_at lw_m6 222 rfl) rfl
theorem q1543 : (Jvm.Cond.soleField "GhostAssizeModel" "tenseNow") ∈ lw_all := lw_g (lw_at lw_m6 223 rfl) rfl
theorem q1544 : (Jvm.Cond.lays "GhostAssizeModel" "GhostAssizeModel" "tenseOne" "I") ∈ lw_all := lw_g (lw_at lw_m6 224 rfl) rfl
theorem q1545 : (Jvm.Cond.soleField "GhostAssizeModel" "tenseOne") ∈ lw_all := lw_g (lw_at lw_m6 225 rfl) rfl
theorem q1546 : (Jvm.Cond.lays "GhostAssizeModel" "GhostAssizeModel" "tenseOther" "I") ∈ lw_all := lw_g (lw_at lw_m6 226 rfl) rfl
theorem q1547 : (Jvm.Cond.soleField "GhostAssizeModel" "tenseOther") ∈ lw_all := lw_g (lw_at lw_m6 227 rfl) rfl
theorem q1548 : (Jvm.Cond.laysFinal "GhostAssizeModel" "GhostAssizeModel" "rows" "[I") ∈ lw_all := lw_g (lw_at lw_m6 228 rfl) rfl
theorem q1549 : (Jvm.Cond.soleField "GhostAssizeModel" "rows") ∈ lw_all := lw_g (lw_at lw_m6 229 rfl) rfl
theorem q1550 : (Jvm.Cond.laysFinal "GhostAssizeModel" "GhostAssizeModel" "then" "[I") ∈ lw_all := lw_g (lw_at lw_m6 230 rfl) rfl
theorem q1551 : (Jvm.Cond.soleField "GhostAssizeModel" "then") ∈ lw_all := lw_g (lw_at lw_m6 231 rfl) rfl
theorem q1552 : (Jvm.Cond.laysFinal "GhostAssizeModel" "GhostAssizeModel" "screams" "[I") ∈ lw_all := lw_g (lw_at lw_m6 232 rfl) rfl
theorem q1553 : (Jvm.Cond.soleField "GhostAssizeModel" "screams") ∈ lw_all := lw_g (lw_at lw_m6 233 rfl) rfl
theorem q1554 : (Jvm.Cond.lays "GhostAssizeModel" "GhostAssizeModel" "allRows" "I") ∈ lw_all := lw_g (lw_at lw_m6 234 rfl) rfl
theorem q1555 : (Jvm.Cond.soleField "GhostAssizeModel" "allRows") ∈ lw_all := lw_g (lw_at lw_m6 235 rfl) rfl
theorem q1556 : (Jvm.Cond.laysFinal "GhostAssizeModel" "GhostAssizeModel" "frights" "[I") ∈ lw_all := lw_g (lw_at lw_m6 236 rfl) rfl
theorem q1557 : (Jvm.Cond.soleField "GhostAssizeModel" "frights") ∈ lw_all := lw_g (lw_at lw_m6 237 rfl) rfl
theorem q1558 : (Jvm.Cond.superclass "GhostAssizeModel" "java/lang/Object") ∈ lw_all := lw_g (lw_at lw_m6 238 rfl) rfl
theorem q1560 : (Jvm.Cond.instanceMethod ({ cls := "GhostAssizeModel", name := "image", desc := "()V" } : Jvm.MethodName)) ∈ lw_all := lw_g (lw_at lw_m7 0 rfl) rfl
theorem q1561 : (Jvm.Cond.selects "GhostAssizeModel" ({ cls := "GhostAssizeModel", name := "image", desc := "()V" } : Jvm.MethodName) ({ cls := "GhostAssizeModel", name := "image", desc := "()V" } : Jvm.MethodName)) ∈ lw_all := lw_g (lw_at lw_m7 1 rfl) rfl
theorem q1562 : (Jvm.Cond.code ({ cls := "GhostAssizeModel", name := "image", desc := "()V" } : Jvm.MethodName) prog_18_method_6_code (2 : Nat) (Option.none : Option Jvm.ClassFile.FieldType)) ∈ lw_all := lw_g (lw_at lw_m7 2 rfl) rfl
theorem q1564 : (Jvm.Cond.instanceMethod ({ cls := "GhostAssizeModel", name := "back", desc := "()Z" } : Jvm.MethodName)) ∈ lw_all := lw_g (lw_at lw_m7 4 rfl) rfl
theorem q1565 : (Jvm.Cond.selects "GhostAssizeModel" ({ cls := "GhostAssizeModel", name := "back", desc := "()Z" } : Jvm.MethodName) ({ cls := "GhostAssizeModel", name := "back", desc := "()Z" } : Jvm.MethodName)) ∈ lw_all := lw_g (lw_at lw_m7 5 rfl) rfl
theorem q1566 : (Jvm.Cond.code ({ cls := "GhostAssizeModel", name := "back", desc := "()Z" } : Jvm.MethodName) prog_18_method_7_code (2 : Nat) (Option.some Jvm.ClassFile.FieldType.boolean)) ∈ lw_all := lw_g (lw_at lw_m7 6 rfl) rfl
theorem q1568 : (Jvm.Cond.instanceMethod ({ cls := "GhostAssizeModel", name := "undo", desc := "()Z" } : Jvm.MethodName)) ∈ lw_all := lw_g (lw_at lw_m7 8 rfl) rfl
theorem q1569 : (Jvm.Cond.selects "GhostAssizeModel" ({ cls := "GhostAssizeModel", name := "undo", desc := "()Z" } : Jvm.MethodName) ({ cls := "GhostAssizeModel", name := "undo", desc := "()Z" } : Jvm.MethodName)) ∈ lw_all := lw_g (lw_at lw_m7 9 rfl) rfl
theorem q1570 : (Jvm.Cond.code ({ cls := "GhostAssizeModel", name := "undo", desc := "()Z" } : Jvm.MethodName) prog_18_method_9_code (2 : Nat) (Option.some Jvm.ClassFile.FieldType.boolean)) ∈ lw_all := lw_g (lw_at lw_m7 10 rfl) rfl
theorem q1572 : (Jvm.Cond.instanceMethod ({ cls := "GhostAssizeModel", name := "feed", desc := "(IIIII)I" } : Jvm.MethodName)) ∈ lw_all := lw_g (lw_at lw_m7 12 rfl) rfl
theorem q1573 : (Jvm.Cond.selects "GhostAssizeModel" ({ cls := "GhostAssizeModel", name := "feed", desc := "(IIIII)I" } : Jvm.MethodName) ({ cls := "GhostAssizeModel", name := "feed", desc := "(IIIII)I" } : Jvm.MethodName)) ∈ lw_all := lw_g (lw_at lw_m7 13 rfl) rfl
theorem q1574 : (Jvm.Cond.code ({ cls := "GhostAssizeModel", name := "feed", desc := "(IIIII)I" } : Jvm.MethodName) prog_18_method_25_code (7 : Nat) (Option.some Jvm.ClassFile.FieldType.int)) ∈ lw_all := lw_g (lw_at lw_m7 14 rfl) rfl
theorem q1576 : (Jvm.Cond.instanceMethod ({ cls := "GhostAssizeModel", name := "end", desc := "(I)Z" } : Jvm.MethodName)) ∈ lw_all := lw_g (lw_at lw_m7 16 rfl) rfl
theorem q1577 : (Jvm.Cond.selects "GhostAssizeModel" ({ cls := "GhostAssizeModel", name := "end", desc := "(I)Z" } : Jvm.MethodName) ({ cls := "GhostAssizeModel", name := "end", desc := "(I)Z" } : Jvm.MethodName)) ∈ lw_all := lw_g (lw_at lw_m7 17 rfl) rfl
theorem q1578 : (Jvm.Cond.code ({ cls := "GhostAssizeModel", name := "end", desc := "(I)Z" } : Jvm.MethodName) prog_18_method_26_code (2 : Nat) (Option.some Jvm.ClassFile.FieldType.boolean)) ∈ lw_all := lw_g (lw_at lw_m7 18 rfl) rfl
theorem q1580 : (Jvm.Cond.instanceMethod ({ cls := "GhostAssizeModel", name := "fault", desc := "()I" } : Jvm.MethodName)) ∈ lw_all := lw_g (lw_at lw_m7 20 rfl) rfl
theorem q1581 : (Jvm.Cond.selects "GhostAssizeModel" ({ cls := "GhostAssizeModel", name := "fault", desc := "()I" } : Jvm.MethodName) ({ cls := "GhostAssizeModel", name := "fault", desc := "()I" } : Jvm.MethodName)) ∈ lw_all := lw_g (lw_at lw_m7 21 rfl) rfl
theorem q1582 : (Jvm.Cond.code ({ cls := "GhostAssizeModel", name := "fault", desc := "()I" } : Jvm.MethodName) prog_18_method_35_code (1 : Nat) (Option.some Jvm.ClassFile.FieldType.int)) ∈ lw_all := lw_g (lw_at lw_m7 22 rfl) rfl
theorem q1584 : (Jvm.Cond.instanceMethod ({ cls := "GhostAssizeModel", name := "court", desc := "()I" } : Jvm.MethodName)) ∈ lw_all := lw_g (lw_at lw_m7 24 rfl) rfl
theorem q1585 : (Jvm.Cond.selects "GhostAssizeModel" ({ cls := "GhostAssizeModel", name := "court", desc := "()I" } : Jvm.MethodName) ({ cls := "GhostAssizeModel", name := "court", desc := "()I" } : Jvm.MethodName)) ∈ lw_all := lw_g (lw_at lw_m7 25 rfl) rfl
theorem q1586 : (Jvm.Cond.code ({ cls := "GhostAssizeModel", name := "court", desc := "()I" } : Jvm.MethodName) prog_18_method_52_code (3 : Nat) (Option.some Jvm.ClassFile.FieldType.int)) ∈ lw_all := lw_g (lw_at lw_m7 26 rfl) rfl
theorem q1587 : (Jvm.Cond.methodLink "GhostAssizeModel" (258 : Nat) ({ cls := "GhostAssizeModel", name := "readAll", desc := "(Z)I" } : Jvm.MethodName)) ∈ lw_all := lw_g (lw_at lw_m7 27 rfl) rfl
theorem q1588 : (Jvm.Cond.privateMethod ({ cls := "GhostAssizeModel", name := "readAll", desc := "(Z)I" } : Jvm.MethodName)) ∈ lw_tbl := lw_at lw_m7 28 rfl
theorem q1589 : (Jvm.Cond.instanceMethod ({ cls := "GhostAssizeModel", name := "readAll", desc := "(Z)I" } : Jvm.MethodName)) ∈ lw_all := lw_g (lw_at lw_m7 29 rfl) rfl
theorem q1590 : (Jvm.Cond.code ({ cls := "GhostAssizeModel", name := "readAll", desc := "(Z)I" } : Jvm.MethodName) prog_18_method_51_code (3 : Nat) (Option.some Jvm.ClassFile.FieldType.int)) ∈ lw_all := lw_g (lw_at lw_m7 30 rfl) rfl
theorem q1591 : (Jvm.Cond.methodLink "GhostAssizeModel" (251 : Nat) ({ cls := "GhostAssizeModel", name := "uses", desc := "()V" } : Jvm.MethodName)) ∈ lw_all := lw_g (lw_at lw_m7 31 rfl) rfl
theorem q1592 : (Jvm.Cond.privateMethod ({ cls := "GhostAssizeModel", name := "uses", desc := "()V" } : Jvm.MethodName)) ∈ lw_tbl := lw_at lw_m7 32 rfl
theorem q1593 : (Jvm.Cond.instanceMethod ({ cls := "GhostAssizeModel", name := "uses", desc := "()V" } : Jvm.MethodName)) ∈ lw_all := lw_g (lw_at lw_m7 33 rfl) rfl
theorem q1594 : (Jvm.Cond.code ({ cls := "GhostAssizeModel", name := "uses", desc := "()V" } : Jvm.MethodName) prog_18_method_36_code (1 : Nat) (Option.none : Option Jvm.ClassFile.FieldType)) ∈ lw_all := lw_g (lw_at lw_m7 34 rfl) rfl
theorem q1595 : (Jvm.Cond.methodLink "GhostAssizeModel" (115 : Nat) ({ cls := "GhostAssizeModel", name := "blanks", desc := "()V" } : Jvm.MethodName)) ∈ lw_all := lw_g (lw_at lw_m7 35 rfl) rfl
theorem q1596 : (Jvm.Cond.privateMethod ({ cls := "GhostAssizeModel", name := "blanks", desc := "()V" } : Jvm.MethodName)) ∈ lw_tbl := lw_at lw_m7 36 rfl
theorem q1597 : (Jvm.Cond.instanceMethod ({ cls := "GhostAssizeModel", name := "blanks", desc := "()V" } : Jvm.MethodName)) ∈ lw_all := lw_g (lw_at lw_m7 37 rfl) rfl
theorem q1598 : (Jvm.Cond.code ({ cls := "GhostAssizeModel", name := "blanks", desc := "()V" } : Jvm.MethodName) prog_18_method_28_code (1 : Nat) (Option.none : Option Jvm.ClassFile.FieldType)) ∈ lw_all := lw_g (lw_at lw_m7 38 rfl) rfl
theorem q1599 : (Jvm.Cond.methodLink "GhostAssizeModel" (108 : Nat) ({ cls := "GhostAssizeModel", name := "isAt", desc := "(II)Z" } : Jvm.MethodName)) ∈ lw_all := lw_g (lw_at lw_m7 39 rfl) rfl
theorem q1600 : (Jvm.Cond.privateMethod ({ cls := "GhostAssizeModel", name := "isAt", desc := "(II)Z" } : Jvm.MethodName)) ∈ lw_tbl := lw_at lw_m7 40 rfl
theorem q1601 : (Jvm.Cond.instanceMethod ({ cls := "GhostAssizeModel", name := "isAt", desc := "(II)Z" } : Jvm.MethodName)) ∈ lw_all := lw_g (lw_at lw_m7 41 rfl) rfl
theorem q1602 : (Jvm.Cond.code ({ cls := "GhostAssizeModel", name := "isAt", desc := "(II)Z" } : Jvm.MethodName) prog_18_method_27_code (3 : Nat) (Option.some Jvm.ClassFile.FieldType.boolean)) ∈ lw_all := lw_g (lw_at lw_m7 42 rfl) rfl
theorem q1603 : (Jvm.Cond.methodLink "GhostAssizeModel" (254 : Nat) ({ cls := "GhostAssizeModel", name := "readLine", desc := "(ZI)Z" } : Jvm.MethodName)) ∈ lw_all := lw_g (lw_at lw_m7 43 rfl) rfl
theorem q1604 : (Jvm.Cond.privateMethod ({ cls := "GhostAssizeModel", name := "readLine", desc := "(ZI)Z" } : Jvm.MethodName)) ∈ lw_tbl := lw_at lw_m7 44 rfl
theorem q1605 : (Jvm.Cond.instanceMethod ({ cls := "GhostAssizeModel", name := "readLine", desc := "(ZI)Z" } : Jvm.MethodName)) ∈ lw_all := lw_g (lw_at lw_m7 45 rfl) rfl
theorem q1606 : (Jvm.Cond.code ({ cls := "GhostAssizeModel", name := "readLine", desc := "(ZI)Z" } : Jvm.MethodName) prog_18_method_50_code (3 : Nat) (Option.some Jvm.ClassFile.FieldType.boolean)) ∈ lw_all := lw_g (lw_at lw_m7 46 rfl) rfl
theorem q1607 : (Jvm.Cond.methodLink "GhostAssizeModel" (127 : Nat) ({ cls := "GhostAssizeModel", name := "letters", desc := "()V" } : Jvm.MethodName)) ∈ lw_all := lw_g (lw_at lw_m7 47 rfl) rfl
theorem q1608 : (Jvm.Cond.privateMethod ({ cls := "GhostAssizeModel", name := "letters", desc := "()V" } : Jvm.MethodName)) ∈ lw_tbl := lw_at lw_m7 48 rfl
theorem q1609 : (Jvm.Cond.instanceMethod ({ cls := "GhostAssizeModel", name := "letters", desc := "()V" } : Jvm.MethodName)) ∈ lw_all := lw_g (lw_at lw_m7 49 rfl) rfl
theorem q1610 : (Jvm.Cond.code ({ cls := "GhostAssizeModel", name := "letters", desc := "()V" } : Jvm.MethodName) prog_18_method_29_code (1 : Nat) (Option.none : Option Jvm.ClassFile.FieldType)) ∈ lw_all := lw_g (lw_at lw_m7 50 rfl) rfl
theorem q1611 : (Jvm.Cond.methodLink "GhostAssizeModel" (245 : Nat) ({ cls := "GhostAssizeModel", name := "readCourtLine", desc := "()Z" } : Jvm.MethodName)) ∈ lw_all := lw_g (lw_at lw_m7 51 rfl) rfl
theorem q1612 : (Jvm.Cond.privateMethod ({ cls := "GhostAssizeModel", name := "readCourtLine", desc := "()Z" } : Jvm.MethodName)) ∈ lw_tbl := lw_at lw_m7 52 rfl
theorem q1613 : (Jvm.Cond.instanceMethod ({ cls := "GhostAssizeModel", name := "readCourtLine", desc := "()Z" } : Jvm.MethodName)) ∈ lw_all := lw_g (lw_at lw_m7 53 rfl) rfl
theorem q1614 : (Jvm.Cond.code ({ cls := "GhostAssizeModel", name := "readCourtLine", desc := "()Z" } : Jvm.MethodName) prog_18_method_41_code (1 : Nat) (Option.some Jvm.ClassFile.FieldType.boolean)) ∈ lw_all := lw_g (lw_at lw_m7 54 rfl) rfl
theorem q1615 : (Jvm.Cond.stringRef "GhostAssizeModel" (174 : Nat) "prop") ∈ lw_tbl := lw_at lw_m7 55 rfl
theorem q1616 : (Jvm.Cond.methodLink "GhostAssizeModel" (130 : Nat) ({ cls := "GhostAssizeModel", name := "isWord", desc := "(Ljava/lang/String;)Z" } : Jvm.MethodName)) ∈ lw_all := lw_g (lw_at lw_m7 56 rfl) rfl
theorem q1617 : (Jvm.Cond.privateMethod ({ cls := "GhostAssizeModel", name := "isWord", desc := "(Ljava/lang/String;)Z" } : Jvm.MethodName)) ∈ lw_tbl := lw_at lw_m7 57 rfl
theorem q1618 : (Jvm.Cond.instanceMethod ({ cls := "GhostAssizeModel", name := "isWord", desc := "(Ljava/lang/String;)Z" } : Jvm.MethodName)) ∈ lw_all := lw_g (lw_at lw_m7 58 rfl) rfl
theorem q1619 : (Jvm.Cond.code ({ cls := "GhostAssizeModel", name := "isWord", desc := "(Ljava/lang/String;)Z" } : Jvm.MethodName) prog_18_method_30_code (4 : Nat) (Option.some Jvm.ClassFile.FieldType.boolean)) ∈ lw_all := lw_g (lw_at lw_m7 59 rfl) rfl
theorem q1620 : (Jvm.Cond.methodLink "GhostAssizeModel" (118 : Nat) ({ cls := "java/lang/String", name := "length", desc := "()I" } : Jvm.MethodName)) ∈ lw_all := lw_g (lw_at lw_m7 60 rfl) rfl
theorem q1621 : (Jvm.Cond.methodLink "GhostAssizeModel" (123 : Nat) ({ cls := "java/lang/String", name := "charAt", desc := "(I)C" } : Jvm.MethodName)) ∈ lw_all := lw_g (lw_at lw_m7 61 rfl) rfl
theorem q1622 : (Jvm.Cond.methodLink "GhostAssizeModel" (176 : Nat) ({ cls := "GhostAssizeModel", name := "readProp", desc := "()Z" } : Jvm.MethodName)) ∈ lw_all := lw_g (lw_at lw_m7 62 rfl) rfl
theorem q1623 : (Jvm.Cond.privateMethod ({ cls := "GhostAssizeModel", name := "readProp", desc := "()Z" } : Jvm.MethodName)) ∈ lw_tbl := lw_at lw_m7 63 rfl
theorem q1624 : (Jvm.Cond.instanceMethod ({ cls := "GhostAssizeModel", name := "readProp", desc := "()Z" } : Jvm.MethodName)) ∈ lw_all := lw_g (lw_at lw_m7 64 rfl) rfl
theorem q1625 : (Jvm.Cond.code ({ cls := "GhostAssizeModel", name := "readProp", desc := "()Z" } : Jvm.MethodName) prog_18_method_39_code (6 : Nat) (Option.some Jvm.ClassFile.FieldType.boolean)) ∈ lw_all := lw_g (lw_at lw_m7 65 rfl) rfl
theorem q1626 : (Jvm.Cond.methodLink "GhostAssizeModel" (83 : Nat) ({ cls := "GhostAssizeModel", name := "props", desc := "()I" } : Jvm.MethodName)) ∈ lw_all := lw_g (lw_at lw_m7 66 rfl) rfl
theorem q1627 : (Jvm.Cond.privateMethod ({ cls := "GhostAssizeModel", name := "props", desc := "()I" } : Jvm.MethodName)) ∈ lw_tbl := lw_at lw_m7 67 rfl
theorem q1628 : (Jvm.Cond.instanceMethod ({ cls := "GhostAssizeModel", name := "props", desc := "()I" } : Jvm.MethodName)) ∈ lw_all := lw_g (lw_at lw_m7 68 rfl) rfl
theorem q1629 : (Jvm.Cond.code ({ cls := "GhostAssizeModel", name := "props", desc := "()I" } : Jvm.MethodName) prog_18_method_10_code (1 : Nat) (Option.some Jvm.ClassFile.FieldType.int)) ∈ lw_all := lw_g (lw_at lw_m7 69 rfl) rfl
theorem q1630 : (Jvm.Cond.methodLink "GhostAssizeModel" (140 : Nat) ({ cls := "GhostAssizeModel", name := "deedsTold", desc := "()I" } : Jvm.MethodName)) ∈ lw_all := lw_g (lw_at lw_m7 70 rfl) rfl
theorem q1631 : (Jvm.Cond.privateMethod ({ cls := "GhostAssizeModel", name := "deedsTold", desc := "()I" } : Jvm.MethodName)) ∈ lw_tbl := lw_at lw_m7 71 rfl
theorem q1632 : (Jvm.Cond.instanceMethod ({ cls := "GhostAssizeModel", name := "deedsTold", desc := "()I" } : Jvm.MethodName)) ∈ lw_all := lw_g (lw_at lw_m7 72 rfl) rfl
theorem q1633 : (Jvm.Cond.code ({ cls := "GhostAssizeModel", name := "deedsTold", desc := "()I" } : Jvm.MethodName) prog_18_method_38_code (5 : Nat) (Option.some Jvm.ClassFile.FieldType.int)) ∈ lw_all := lw_g (lw_at lw_m7 73 rfl) rfl
theorem q1634 : (Jvm.Cond.methodLink "GhostAssizeModel" (87 : Nat) ({ cls := "GhostAssizeModel", name := "in", desc := "(III)Z" } : Jvm.MethodName)) ∈ lw_all := lw_g (lw_at lw_m7 74 rfl) rfl
theorem q1635 : (Jvm.Cond.static ({ cls := "GhostAssizeModel", name := "in", desc := "(III)Z" } : Jvm.MethodName)) ∈ lw_all := lw_g (lw_at lw_m7 75 rfl) rfl
theorem q1636 : (Jvm.Cond.code ({ cls := "GhostAssizeModel", name := "in", desc := "(III)Z" } : Jvm.MethodName) prog_18_method_3_code (3 : Nat) (Option.some Jvm.ClassFile.FieldType.boolean)) ∈ lw_all := lw_g (lw_at lw_m7 76 rfl) rfl
theorem q1637 : (Jvm.Cond.methodLink "GhostAssizeModel" (137 : Nat) ({ cls := "GhostAssizeModel", name := "has", desc := "(II)Z" } : Jvm.MethodName)) ∈ lw_all := lw_g (lw_at lw_m7 77 rfl) rfl
theorem q1638 : (Jvm.Cond.static ({ cls := "GhostAssizeModel", name := "has", desc := "(II)Z" } : Jvm.MethodName)) ∈ lw_all := lw_g (lw_at lw_m7 78 rfl) rfl
theorem q1639 : (Jvm.Cond.code ({ cls := "GhostAssizeModel", name := "has", desc := "(II)Z" } : Jvm.MethodName) prog_18_method_4_code (2 : Nat) (Option.some Jvm.ClassFile.FieldType.boolean)) ∈ lw_all := lw_g (lw_at lw_m7 79 rfl) rfl
theorem q1640 : (Jvm.Cond.methodLink "GhostAssizeModel" (143 : Nat) ({ cls := "java/lang/Integer", name := "bitCount", desc := "(I)I" } : Jvm.MethodName)) ∈ lw_all := lw_g (lw_at lw_m7 80 rfl) rfl
theorem q1641 : (Jvm.Cond.stringRef "GhostAssizeModel" (149 : Nat) "jerk") ∈ lw_tbl := lw_at lw_m7 81 rfl
theorem q1642 : (Jvm.Cond.methodLink "GhostAssizeModel" (151 : Nat) ({ cls := "GhostAssizeModel", name := "after", desc := "(Ljava/lang/String;II)I" } : Jvm.MethodName)) ∈ lw_all := lw_g (lw_at lw_m7 82 rfl) rfl
theorem q1643 : (Jvm.Cond.privateMethod ({ cls := "GhostAssizeModel", name := "after", desc := "(Ljava/lang/String;II)I" } : Jvm.MethodName)) ∈ lw_tbl := lw_at lw_m7 83 rfl
theorem q1644 : (Jvm.Cond.instanceMethod ({ cls := "GhostAssizeModel", name := "after", desc := "(Ljava/lang/String;II)I" } : Jvm.MethodName)) ∈ lw_all := lw_g (lw_at lw_m7 84 rfl) rfl
theorem q1645 : (Jvm.Cond.code ({ cls := "GhostAssizeModel", name := "after", desc := "(Ljava/lang/String;II)I" } : Jvm.MethodName) prog_18_method_34_code (4 : Nat) (Option.some Jvm.ClassFile.FieldType.int)) ∈ lw_all := lw_g (lw_at lw_m7 85 rfl) rfl
theorem q1646 : (Jvm.Cond.methodLink "GhostAssizeModel" (134 : Nat) ({ cls := "GhostAssizeModel", name := "number", desc := "(II)I" } : Jvm.MethodName)) ∈ lw_all := lw_g (lw_at lw_m7 86 rfl) rfl
theorem q1647 : (Jvm.Cond.privateMethod ({ cls := "GhostAssizeModel", name := "number", desc := "(II)I" } : Jvm.MethodName)) ∈ lw_tbl := lw_at lw_m7 87 rfl
theorem q1648 : (Jvm.Cond.instanceMethod ({ cls := "GhostAssizeModel", name := "number", desc := "(II)I" } : Jvm.MethodName)) ∈ lw_all := lw_g (lw_at lw_m7 88 rfl) rfl
theorem q1649 : (Jvm.Cond.code ({ cls := "GhostAssizeModel", name := "number", desc := "(II)I" } : Jvm.MethodName) prog_18_method_33_code (4 : Nat) (Option.some Jvm.ClassFile.FieldType.int)) ∈ lw_all := lw_g (lw_at lw_m7 89 rfl) rfl
theorem q1650 : (Jvm.Cond.stringRef "GhostAssizeModel" (155 : Nat) "at") ∈ lw_tbl := lw_at lw_m7 90 rfl
theorem q1651 : (Jvm.Cond.methodLink "GhostAssizeModel" (157 : Nat) ({ cls := "GhostAssizeModel", name := "passes", desc := "(Ljava/lang/String;)Z" } : Jvm.MethodName)) ∈ lw_all := lw_g (lw_at lw_m7 91 rfl) rfl
theorem q1652 : (Jvm.Cond.privateMethod ({ cls := "GhostAssizeModel", name := "passes", desc := "(Ljava/lang/String;)Z" } : Jvm.MethodName)) ∈ lw_tbl := lw_at lw_m7 92 rfl
theorem q1653 : (Jvm.Cond.instanceMethod ({ cls := "GhostAssizeModel", name := "passes", desc := "(Ljava/lang/String;)Z" } : Jvm.MethodName)) ∈ lw_all := lw_g (lw_at lw_m7 93 rfl) rfl
theorem q1654 : (Jvm.Cond.code ({ cls := "GhostAssizeModel", name := "passes", desc := "(Ljava/lang/String;)Z" } : Jvm.MethodName) prog_18_method_31_code (2 : Nat) (Option.some Jvm.ClassFile.FieldType.boolean)) ∈ lw_all := lw_g (lw_at lw_m7 94 rfl) rfl
theorem q1655 : (Jvm.Cond.methodLink "GhostAssizeModel" (160 : Nat) ({ cls := "GhostAssizeModel", name := "propIn", desc := "(I)I" } : Jvm.MethodName)) ∈ lw_all := lw_g (lw_at lw_m7 95 rfl) rfl
theorem q1656 : (Jvm.Cond.privateMethod ({ cls := "GhostAssizeModel", name := "propIn", desc := "(I)I" } : Jvm.MethodName)) ∈ lw_tbl := lw_at lw_m7 96 rfl
theorem q1657 : (Jvm.Cond.instanceMethod ({ cls := "GhostAssizeModel", name := "propIn", desc := "(I)I" } : Jvm.MethodName)) ∈ lw_all := lw_g (lw_at lw_m7 97 rfl) rfl
theorem q1658 : (Jvm.Cond.code ({ cls := "GhostAssizeModel", name := "propIn", desc := "(I)I" } : Jvm.MethodName) prog_18_method_22_code (3 : Nat) (Option.some Jvm.ClassFile.FieldType.int)) ∈ lw_all := lw_g (lw_at lw_m7 98 rfl) rfl
theorem q1659 : (Jvm.Cond.methodLink "GhostAssizeModel" (74 : Nat) ({ cls := "GhostAssizeModel", name := "ofProp", desc := "(II)I" } : Jvm.MethodName)) ∈ lw_all := lw_g (lw_at lw_m7 99 rfl) rfl
theorem q1660 : (Jvm.Cond.privateMethod ({ cls := "GhostAssizeModel", name := "ofProp", desc := "(II)I" } : Jvm.MethodName)) ∈ lw_tbl := lw_at lw_m7 100 rfl
theorem q1661 : (Jvm.Cond.instanceMethod ({ cls := "GhostAssizeModel", name := "ofProp", desc := "(II)I" } : Jvm.MethodName)) ∈ lw_all := lw_g (lw_at lw_m7 101 rfl) rfl
theorem q1662 : (Jvm.Cond.code ({ cls := "GhostAssizeModel", name := "ofProp", desc := "(II)I" } : Jvm.MethodName) prog_18_method_13_code (3 : Nat) (Option.some Jvm.ClassFile.FieldType.int)) ∈ lw_all := lw_g (lw_at lw_m7 102 rfl) rfl
theorem q1663 : (Jvm.Cond.methodLink "GhostAssizeModel" (70 : Nat) ({ cls := "GhostAssizeModel", name := "propAt", desc := "(II)I" } : Jvm.MethodName)) ∈ lw_all := lw_g (lw_at lw_m7 103 rfl) rfl
theorem q1664 : (Jvm.Cond.static ({ cls := "GhostAssizeModel", name := "propAt", desc := "(II)I" } : Jvm.MethodName)) ∈ lw_all := lw_g (lw_at lw_m7 104 rfl) rfl
theorem q1665 : (Jvm.Cond.code ({ cls := "GhostAssizeModel", name := "propAt", desc := "(II)I" } : Jvm.MethodName) prog_18_method_12_code (2 : Nat) (Option.some Jvm.ClassFile.FieldType.int)) ∈ lw_all := lw_g (lw_at lw_m7 105 rfl) rfl
theorem q1666 : (Jvm.Cond.stringRef "GhostAssizeModel" (163 : Nat) "worn") ∈ lw_tbl := lw_at lw_m7 106 rfl
theorem q1667 : (Jvm.Cond.methodLink "GhostAssizeModel" (165 : Nat) ({ cls := "java/lang/Integer", name := "numberOfTrailingZeros", desc := "(I)I" } : Jvm.MethodName)) ∈ lw_all := lw_g (lw_at lw_m7 107 rfl) rfl
theorem q1668 : (Jvm.Cond.stringRef "GhostAssizeModel" (180 : Nat) "accused") ∈ lw_tbl := lw_at lw_m7 108 rfl
theorem q1669 : (Jvm.Cond.methodLink "GhostAssizeModel" (182 : Nat) ({ cls := "GhostAssizeModel", name := "readAccused", desc := "()Z" } : Jvm.MethodName)) ∈ lw_all := lw_g (lw_at lw_m7 109 rfl) rfl
theorem q1670 : (Jvm.Cond.privateMethod ({ cls := "GhostAssizeModel", name := "readAccused", desc := "()Z" } : Jvm.MethodName)) ∈ lw_tbl := lw_at lw_m7 110 rfl
theorem q1671 : (Jvm.Cond.instanceMethod ({ cls := "GhostAssizeModel", name := "readAccused", desc := "()Z" } : Jvm.MethodName)) ∈ lw_all := lw_g (lw_at lw_m7 111 rfl) rfl
theorem q1672 : (Jvm.Cond.code ({ cls := "GhostAssizeModel", name := "readAccused", desc := "()Z" } : Jvm.MethodName) prog_18_method_40_code (6 : Nat) (Option.some Jvm.ClassFile.FieldType.boolean)) ∈ lw_all := lw_g (lw_at lw_m7 112 rfl) rfl
theorem q1673 : (Jvm.Cond.methodLink "GhostAssizeModel" (91 : Nat) ({ cls := "GhostAssizeModel", name := "oneCount", desc := "()I" } : Jvm.MethodName)) ∈ lw_all := lw_g (lw_at lw_m7 113 rfl) rfl
theorem q1674 : (Jvm.Cond.privateMethod ({ cls := "GhostAssizeModel", name := "oneCount", desc := "()I" } : Jvm.MethodName)) ∈ lw_tbl := lw_at lw_m7 114 rfl
theorem q1675 : (Jvm.Cond.instanceMethod ({ cls := "GhostAssizeModel", name := "oneCount", desc := "()I" } : Jvm.MethodName)) ∈ lw_all := lw_g (lw_at lw_m7 115 rfl) rfl
theorem q1676 : (Jvm.Cond.code ({ cls := "GhostAssizeModel", name := "oneCount", desc := "()I" } : Jvm.MethodName) prog_18_method_11_code (1 : Nat) (Option.some Jvm.ClassFile.FieldType.int)) ∈ lw_all := lw_g (lw_at lw_m7 116 rfl) rfl
theorem q1677 : (Jvm.Cond.stringRef "GhostAssizeModel" (168 : Nat) "nerve") ∈ lw_tbl := lw_at lw_m7 117 rfl
theorem q1678 : (Jvm.Cond.stringRef "GhostAssizeModel" (170 : Nat) "did") ∈ lw_tbl := lw_at lw_m7 118 rfl
theorem q1679 : (Jvm.Cond.stringRef "GhostAssizeModel" (172 : Nat) "knows") ∈ lw_tbl := lw_at lw_m7 119 rfl
theorem q1680 : (Jvm.Cond.methodLink "GhostAssizeModel" (77 : Nat) ({ cls := "GhostAssizeModel", name := "oneAt", desc := "(II)I" } : Jvm.MethodName)) ∈ lw_all := lw_g (lw_at lw_m7 120 rfl) rfl
theorem q1681 : (Jvm.Cond.static ({ cls := "GhostAssizeModel", name := "oneAt", desc := "(II)I" } : Jvm.MethodName)) ∈ lw_all := lw_g (lw_at lw_m7 121 rfl) rfl
theorem q1682 : (Jvm.Cond.code ({ cls := "GhostAssizeModel", name := "oneAt", desc := "(II)I" } : Jvm.MethodName) prog_18_method_15_code (2 : Nat) (Option.some Jvm.ClassFile.FieldType.int)) ∈ lw_all := lw_g (lw_at lw_m7 122 rfl) rfl
theorem q1683 : (Jvm.Cond.stringRef "GhostAssizeModel" (185 : Nat) "calm") ∈ lw_tbl := lw_at lw_m7 123 rfl
theorem q1684 : (Jvm.Cond.methodLink "GhostAssizeModel" (187 : Nat) ({ cls := "GhostAssizeModel", name := "readNumber", desc := "(III)Z" } : Jvm.MethodName)) ∈ lw_all := lw_g (lw_at lw_m7 124 rfl) rfl
theorem q1685 : (Jvm.Cond.privateMethod ({ cls := "GhostAssizeModel", name := "readNumber", desc := "(III)Z" } : Jvm.MethodName)) ∈ lw_tbl := lw_at lw_m7 125 rfl
theorem q1686 : (Jvm.Cond.instanceMethod ({ cls := "GhostAssizeModel", name := "readNumber", desc := "(III)Z" } : Jvm.MethodName)) ∈ lw_all := lw_g (lw_at lw_m7 126 rfl) rfl
theorem q1687 : (Jvm.Cond.code ({ cls := "GhostAssizeModel", name := "readNumber", desc := "(III)Z" } : Jvm.MethodName) prog_18_method_37_code (5 : Nat) (Option.some Jvm.ClassFile.FieldType.boolean)) ∈ lw_all := lw_g (lw_at lw_m7 127 rfl) rfl
theorem q1688 : (Jvm.Cond.stringRef "GhostAssizeModel" (190 : Nat) "echo") ∈ lw_tbl := lw_at lw_m7 128 rfl
theorem q1689 : (Jvm.Cond.stringRef "GhostAssizeModel" (192 : Nat) "day") ∈ lw_tbl := lw_at lw_m7 129 rfl
theorem q1690 : (Jvm.Cond.methodLink "GhostAssizeModel" (248 : Nat) ({ cls := "GhostAssizeModel", name := "readLawLine", desc := "(I)Z" } : Jvm.MethodName)) ∈ lw_all := lw_g (lw_at lw_m7 130 rfl) rfl
theorem q1691 : (Jvm.Cond.privateMethod ({ cls := "GhostAssizeModel", name := "readLawLine", desc := "(I)Z" } : Jvm.MethodName)) ∈ lw_tbl := lw_at lw_m7 131 rfl
theorem q1692 : (Jvm.Cond.instanceMethod ({ cls := "GhostAssizeModel", name := "readLawLine", desc := "(I)Z" } : Jvm.MethodName)) ∈ lw_all := lw_g (lw_at lw_m7 132 rfl) rfl
theorem q1693 : (Jvm.Cond.code ({ cls := "GhostAssizeModel", name := "readLawLine", desc := "(I)Z" } : Jvm.MethodName) prog_18_method_49_code (3 : Nat) (Option.some Jvm.ClassFile.FieldType.boolean)) ∈ lw_all := lw_g (lw_at lw_m7 133 rfl) rfl
theorem q1694 : (Jvm.Cond.stringRef "GhostAssizeModel" (237 : Nat) "fright") ∈ lw_tbl := lw_at lw_m7 134 rfl
theorem q1695 : (Jvm.Cond.stringRef "GhostAssizeModel" (239 : Nat) "ease") ∈ lw_tbl := lw_at lw_m7 135 rfl
theorem q1696 : (Jvm.Cond.stringRef "GhostAssizeModel" (241 : Nat) "wear") ∈ lw_tbl := lw_at lw_m7 136 rfl
theorem q1697 : (Jvm.Cond.stringRef "GhostAssizeModel" (243 : Nat) "if") ∈ lw_tbl := lw_at lw_m7 137 rfl
theorem q1698 : (Jvm.Cond.methodLink "GhostAssizeModel" (216 : Nat) ({ cls := "GhostAssizeModel", name := "readCond", desc := "()Z" } : Jvm.MethodName)) ∈ lw_all := lw_g (lw_at lw_m7 138 rfl) rfl
theorem q1699 : (Jvm.Cond.privateMethod ({ cls := "GhostAssizeModel", name := "readCond", desc := "()Z" } : Jvm.MethodName)) ∈ lw_tbl := lw_at lw_m7 139 rfl
theorem q1700 : (Jvm.Cond.instanceMethod ({ cls := "GhostAssizeModel", name := "readCond", desc := "()Z" } : Jvm.MethodName)) ∈ lw_all := lw_g (lw_at lw_m7 140 rfl) rfl
theorem q1701 : (Jvm.Cond.code ({ cls := "GhostAssizeModel", name := "readCond", desc := "()Z" } : Jvm.MethodName) prog_18_method_48_code (1 : Nat) (Option.some Jvm.ClassFile.FieldType.boolean)) ∈ lw_all := lw_g (lw_at lw_m7 141 rfl) rfl
theorem q1702 : (Jvm.Cond.methodLink "GhostAssizeModel" (232 : Nat) ({ cls := "GhostAssizeModel", name := "readAllOf", desc := "()Z" } : Jvm.MethodName)) ∈ lw_all := lw_g (lw_at lw_m7 142 rfl) rfl
theorem q1703 : (Jvm.Cond.privateMethod ({ cls := "GhostAssizeModel", name := "readAllOf", desc := "()Z" } : Jvm.MethodName)) ∈ lw_tbl := lw_at lw_m7 143 rfl
theorem q1704 : (Jvm.Cond.instanceMethod ({ cls := "GhostAssizeModel", name := "readAllOf", desc := "()Z" } : Jvm.MethodName)) ∈ lw_all := lw_g (lw_at lw_m7 144 rfl) rfl
theorem q1705 : (Jvm.Cond.code ({ cls := "GhostAssizeModel", name := "readAllOf", desc := "()Z" } : Jvm.MethodName) prog_18_method_47_code (1 : Nat) (Option.some Jvm.ClassFile.FieldType.boolean)) ∈ lw_all := lw_g (lw_at lw_m7 145 rfl) rfl
theorem q1706 : (Jvm.Cond.methodLink "GhostAssizeModel" (221 : Nat) ({ cls := "GhostAssizeModel", name := "readAtom", desc := "()Z" } : Jvm.MethodName)) ∈ lw_all := lw_g (lw_at lw_m7 146 rfl) rfl
theorem q1707 : (Jvm.Cond.privateMethod ({ cls := "GhostAssizeModel", name := "readAtom", desc := "()Z" } : Jvm.MethodName)) ∈ lw_tbl := lw_at lw_m7 147 rfl
theorem q1708 : (Jvm.Cond.instanceMethod ({ cls := "GhostAssizeModel", name := "readAtom", desc := "()Z" } : Jvm.MethodName)) ∈ lw_all := lw_g (lw_at lw_m7 148 rfl) rfl
theorem q1709 : (Jvm.Cond.code ({ cls := "GhostAssizeModel", name := "readAtom", desc := "()Z" } : Jvm.MethodName) prog_18_method_46_code (2 : Nat) (Option.some Jvm.ClassFile.FieldType.boolean)) ∈ lw_all := lw_g (lw_at lw_m7 149 rfl) rfl
theorem q1710 : (Jvm.Cond.methodLink "GhostAssizeModel" (208 : Nat) ({ cls := "GhostAssizeModel", name := "sign", desc := "(I)Z" } : Jvm.MethodName)) ∈ lw_all := lw_g (lw_at lw_m7 150 rfl) rfl
theorem q1711 : (Jvm.Cond.privateMethod ({ cls := "GhostAssizeModel", name := "sign", desc := "(I)Z" } : Jvm.MethodName)) ∈ lw_tbl := lw_at lw_m7 151 rfl
theorem q1712 : (Jvm.Cond.instanceMethod ({ cls := "GhostAssizeModel", name := "sign", desc := "(I)Z" } : Jvm.MethodName)) ∈ lw_all := lw_g (lw_at lw_m7 152 rfl) rfl
theorem q1713 : (Jvm.Cond.code ({ cls := "GhostAssizeModel", name := "sign", desc := "(I)Z" } : Jvm.MethodName) prog_18_method_32_code (2 : Nat) (Option.some Jvm.ClassFile.FieldType.boolean)) ∈ lw_all := lw_g (lw_at lw_m7 153 rfl) rfl
theorem q1714 : (Jvm.Cond.stringRef "GhostAssizeModel" (219 : Nat) "not") ∈ lw_tbl := lw_at lw_m7 154 rfl
theorem q1715 : (Jvm.Cond.methodLink "GhostAssizeModel" (197 : Nat) ({ cls := "GhostAssizeModel", name := "emits", desc := "(II)V" } : Jvm.MethodName)) ∈ lw_all := lw_g (lw_at lw_m7 155 rfl) rfl
theorem q1716 : (Jvm.Cond.privateMethod ({ cls := "GhostAssizeModel", name := "emits", desc := "(II)V" } : Jvm.MethodName)) ∈ lw_tbl := lw_at lw_m7 156 rfl
theorem q1717 : (Jvm.Cond.instanceMethod ({ cls := "GhostAssizeModel", name := "emits", desc := "(II)V" } : Jvm.MethodName)) ∈ lw_all := lw_g (lw_at lw_m7 157 rfl) rfl
theorem q1718 : (Jvm.Cond.code ({ cls := "GhostAssizeModel", name := "emits", desc := "(II)V" } : Jvm.MethodName) prog_18_method_42_code (3 : Nat) (Option.none : Option Jvm.ClassFile.FieldType)) ∈ lw_all := lw_g (lw_at lw_m7 158 rfl) rfl
theorem q1719 : (Jvm.Cond.methodLink "GhostAssizeModel" (224 : Nat) ({ cls := "GhostAssizeModel", name := "readTag", desc := "()Z" } : Jvm.MethodName)) ∈ lw_all := lw_g (lw_at lw_m7 159 rfl) rfl
theorem q1720 : (Jvm.Cond.privateMethod ({ cls := "GhostAssizeModel", name := "readTag", desc := "()Z" } : Jvm.MethodName)) ∈ lw_tbl := lw_at lw_m7 160 rfl
theorem q1721 : (Jvm.Cond.instanceMethod ({ cls := "GhostAssizeModel", name := "readTag", desc := "()Z" } : Jvm.MethodName)) ∈ lw_all := lw_g (lw_at lw_m7 161 rfl) rfl
theorem q1722 : (Jvm.Cond.code ({ cls := "GhostAssizeModel", name := "readTag", desc := "()Z" } : Jvm.MethodName) prog_18_method_45_code (2 : Nat) (Option.some Jvm.ClassFile.FieldType.boolean)) ∈ lw_all := lw_g (lw_at lw_m7 162 rfl) rfl
theorem q1723 : (Jvm.Cond.stringRef "GhostAssizeModel" (211 : Nat) "guilty") ∈ lw_tbl := lw_at lw_m7 163 rfl
theorem q1724 : (Jvm.Cond.methodLink "GhostAssizeModel" (227 : Nat) ({ cls := "GhostAssizeModel", name := "readSum", desc := "()Z" } : Jvm.MethodName)) ∈ lw_all := lw_g (lw_at lw_m7 164 rfl) rfl
theorem q1725 : (Jvm.Cond.privateMethod ({ cls := "GhostAssizeModel", name := "readSum", desc := "()Z" } : Jvm.MethodName)) ∈ lw_tbl := lw_at lw_m7 165 rfl
theorem q1726 : (Jvm.Cond.instanceMethod ({ cls := "GhostAssizeModel", name := "readSum", desc := "()Z" } : Jvm.MethodName)) ∈ lw_all := lw_g (lw_at lw_m7 166 rfl) rfl
theorem q1727 : (Jvm.Cond.code ({ cls := "GhostAssizeModel", name := "readSum", desc := "()Z" } : Jvm.MethodName) prog_18_method_44_code (1 : Nat) (Option.some Jvm.ClassFile.FieldType.boolean)) ∈ lw_all := lw_g (lw_at lw_m7 167 rfl) rfl
theorem q1728 : (Jvm.Cond.methodLink "GhostAssizeModel" (205 : Nat) ({ cls := "GhostAssizeModel", name := "readPart", desc := "()Z" } : Jvm.MethodName)) ∈ lw_all := lw_g (lw_at lw_m7 168 rfl) rfl
theorem q1729 : (Jvm.Cond.privateMethod ({ cls := "GhostAssizeModel", name := "readPart", desc := "()Z" } : Jvm.MethodName)) ∈ lw_tbl := lw_at lw_m7 169 rfl
theorem q1730 : (Jvm.Cond.instanceMethod ({ cls := "GhostAssizeModel", name := "readPart", desc := "()Z" } : Jvm.MethodName)) ∈ lw_all := lw_g (lw_at lw_m7 170 rfl) rfl
theorem q1731 : (Jvm.Cond.code ({ cls := "GhostAssizeModel", name := "readPart", desc := "()Z" } : Jvm.MethodName) prog_18_method_43_code (2 : Nat) (Option.some Jvm.ClassFile.FieldType.boolean)) ∈ lw_all := lw_g (lw_at lw_m7 171 rfl) rfl
theorem q1732 : (Jvm.Cond.stringRef "GhostAssizeModel" (201 : Nat) "slot") ∈ lw_tbl := lw_at lw_m7 172 rfl
theorem q1733 : (Jvm.Cond.stringRef "GhostAssizeModel" (203 : Nat) "tense") ∈ lw_tbl := lw_at lw_m7 173 rfl
theorem q1734 : (Jvm.Cond.stringRef "GhostAssizeModel" (230 : Nat) "and") ∈ lw_tbl := lw_at lw_m7 174 rfl
theorem q1735 : (Jvm.Cond.stringRef "GhostAssizeModel" (235 : Nat) "or") ∈ lw_tbl := lw_at lw_m7 175 rfl
theorem q1736 : (Jvm.Cond.methodLink "GhostAssizeModel" (262 : Nat) ({ cls := "GhostAssizeModel", name := "throwsIf", desc := "(ZI)Z" } : Jvm.MethodName)) ∈ lw_all := lw_g (lw_at lw_m7 176 rfl) rfl
theorem q1737 : (Jvm.Cond.privateMethod ({ cls := "GhostAssizeModel", name := "throwsIf", desc := "(ZI)Z" } : Jvm.MethodName)) ∈ lw_tbl := lw_at lw_m7 177 rfl
theorem q1738 : (Jvm.Cond.instanceMethod ({ cls := "GhostAssizeModel", name := "throwsIf", desc := "(ZI)Z" } : Jvm.MethodName)) ∈ lw_all := lw_g (lw_at lw_m7 178 rfl) rfl
theorem q1739 : (Jvm.Cond.code ({ cls := "GhostAssizeModel", name := "throwsIf", desc := "(ZI)Z" } : Jvm.MethodName) prog_18_method_2_code (3 : Nat) (Option.some Jvm.ClassFile.FieldType.boolean)) ∈ lw_all := lw_g (lw_at lw_m7 179 rfl) rfl
theorem q1741 : (Jvm.Cond.instanceMethod ({ cls := "GhostAssizeModel", name := "law", desc := "()I" } : Jvm.MethodName)) ∈ lw_all := lw_g (lw_at lw_m7 181 rfl) rfl
theorem q1742 : (Jvm.Cond.selects "GhostAssizeModel" ({ cls := "GhostAssizeModel", name := "law", desc := "()I" } : Jvm.MethodName) ({ cls := "GhostAssizeModel", name := "law", desc := "()I" } : Jvm.MethodName)) ∈ lw_all := lw_g (lw_at lw_m7 182 rfl) rfl
theorem q1743 : (Jvm.Cond.code ({ cls := "GhostAssizeModel", name := "law", desc := "()I" } : Jvm.MethodName) prog_18_method_53_code (3 : Nat) (Option.some Jvm.ClassFile.FieldType.int)) ∈ lw_all := lw_g (lw_at lw_m7 183 rfl) rfl
theorem q1745 : (Jvm.Cond.instanceMethod ({ cls := "GhostAssizeModel", name := "prop", desc := "(II)I" } : Jvm.MethodName)) ∈ lw_all := lw_g (lw_at lw_m7 185 rfl) rfl
theorem q1746 : (Jvm.Cond.selects "GhostAssizeModel" ({ cls := "GhostAssizeModel", name := "prop", desc := "(II)I" } : Jvm.MethodName) ({ cls := "GhostAssizeModel", name := "prop", desc := "(II)I" } : Jvm.MethodName)) ∈ lw_all := lw_g (lw_at lw_m7 186 rfl) rfl
theorem q1747 : (Jvm.Cond.code ({ cls := "GhostAssizeModel", name := "prop", desc := "(II)I" } : Jvm.MethodName) prog_18_method_60_code (3 : Nat) (Option.some Jvm.ClassFile.FieldType.int)) ∈ lw_all := lw_g (lw_at lw_m7 187 rfl) rfl
theorem q1748 : (Jvm.Cond.methodLink "GhostAssizeModel" (294 : Nat) ({ cls := "GhostAssizeModel", name := "noProp", desc := "(I)Z" } : Jvm.MethodName)) ∈ lw_all := lw_g (lw_at lw_m7 188 rfl) rfl
theorem q1749 : (Jvm.Cond.privateMethod ({ cls := "GhostAssizeModel", name := "noProp", desc := "(I)Z" } : Jvm.MethodName)) ∈ lw_tbl := lw_at lw_m7 189 rfl
theorem q1750 : (Jvm.Cond.instanceMethod ({ cls := "GhostAssizeModel", name := "noProp", desc := "(I)Z" } : Jvm.MethodName)) ∈ lw_all := lw_g (lw_at lw_m7 190 rfl) rfl
theorem q1751 : (Jvm.Cond.code ({ cls := "GhostAssizeModel", name := "noProp", desc := "(I)Z" } : Jvm.MethodName) prog_18_method_19_code (2 : Nat) (Option.some Jvm.ClassFile.FieldType.boolean)) ∈ lw_all := lw_g (lw_at lw_m7 191 rfl) rfl
theorem q1753 : (Jvm.Cond.instanceMethod ({ cls := "GhostAssizeModel", name := "slot", desc := "(I)I" } : Jvm.MethodName)) ∈ lw_all := lw_g (lw_at lw_m7 193 rfl) rfl
theorem q1754 : (Jvm.Cond.selects "GhostAssizeModel" ({ cls := "GhostAssizeModel", name := "slot", desc := "(I)I" } : Jvm.MethodName) ({ cls := "GhostAssizeModel", name := "slot", desc := "(I)I" } : Jvm.MethodName)) ∈ lw_all := lw_g (lw_at lw_m7 194 rfl) rfl
theorem q1755 : (Jvm.Cond.code ({ cls := "GhostAssizeModel", name := "slot", desc := "(I)I" } : Jvm.MethodName) prog_18_method_61_code (2 : Nat) (Option.some Jvm.ClassFile.FieldType.int)) ∈ lw_all := lw_g (lw_at lw_m7 195 rfl) rfl
theorem q1756 : (Jvm.Cond.methodLink "GhostAssizeModel" (297 : Nat) ({ cls := "GhostAssizeModel", name := "noSlot", desc := "(I)Z" } : Jvm.MethodName)) ∈ lw_all := lw_g (lw_at lw_m7 196 rfl) rfl
theorem q1757 : (Jvm.Cond.static ({ cls := "GhostAssizeModel", name := "noSlot", desc := "(I)Z" } : Jvm.MethodName)) ∈ lw_all := lw_g (lw_at lw_m7 197 rfl) rfl
theorem q1758 : (Jvm.Cond.code ({ cls := "GhostAssizeModel", name := "noSlot", desc := "(I)Z" } : Jvm.MethodName) prog_18_method_21_code (1 : Nat) (Option.some Jvm.ClassFile.FieldType.boolean)) ∈ lw_all := lw_g (lw_at lw_m7 198 rfl) rfl
theorem q1760 : (Jvm.Cond.instanceMethod ({ cls := "GhostAssizeModel", name := "accused", desc := "(II)I" } : Jvm.MethodName)) ∈ lw_all := lw_g (lw_at lw_m7 200 rfl) rfl
theorem q1761 : (Jvm.Cond.selects "GhostAssizeModel" ({ cls := "GhostAssizeModel", name := "accused", desc := "(II)I" } : Jvm.MethodName) ({ cls := "GhostAssizeModel", name := "accused", desc := "(II)I" } : Jvm.MethodName)) ∈ lw_all := lw_g (lw_at lw_m7 201 rfl) rfl
theorem q1762 : (Jvm.Cond.code ({ cls := "GhostAssizeModel", name := "accused", desc := "(II)I" } : Jvm.MethodName) prog_18_method_62_code (3 : Nat) (Option.some Jvm.ClassFile.FieldType.int)) ∈ lw_all := lw_g (lw_at lw_m7 202 rfl) rfl
theorem q1763 : (Jvm.Cond.methodLink "GhostAssizeModel" (300 : Nat) ({ cls := "GhostAssizeModel", name := "noOne", desc := "(I)Z" } : Jvm.MethodName)) ∈ lw_all := lw_g (lw_at lw_m7 203 rfl) rfl
theorem q1764 : (Jvm.Cond.privateMethod ({ cls := "GhostAssizeModel", name := "noOne", desc := "(I)Z" } : Jvm.MethodName)) ∈ lw_tbl := lw_at lw_m7 204 rfl
theorem q1765 : (Jvm.Cond.instanceMethod ({ cls := "GhostAssizeModel", name := "noOne", desc := "(I)Z" } : Jvm.MethodName)) ∈ lw_all := lw_g (lw_at lw_m7 205 rfl) rfl
theorem q1766 : (Jvm.Cond.code ({ cls := "GhostAssizeModel", name := "noOne", desc := "(I)Z" } : Jvm.MethodName) prog_18_method_20_code (2 : Nat) (Option.some Jvm.ClassFile.FieldType.boolean)) ∈ lw_all := lw_g (lw_at lw_m7 206 rfl) rfl
theorem q1767 : (Jvm.Cond.methodLink "GhostAssizeModel" (80 : Nat) ({ cls := "GhostAssizeModel", name := "of", desc := "(II)I" } : Jvm.MethodName)) ∈ lw_all := lw_g (lw_at lw_m7 207 rfl) rfl
theorem q1768 : (Jvm.Cond.privateMethod ({ cls := "GhostAssizeModel", name := "of", desc := "(II)I" } : Jvm.MethodName)) ∈ lw_tbl := lw_at lw_m7 208 rfl
theorem q1769 : (Jvm.Cond.instanceMethod ({ cls := "GhostAssizeModel", name := "of", desc := "(II)I" } : Jvm.MethodName)) ∈ lw_all := lw_g (lw_at lw_m7 209 rfl) rfl
theorem q1770 : (Jvm.Cond.code ({ cls := "GhostAssizeModel", name := "of", desc := "(II)I" } : Jvm.MethodName) prog_18_method_16_code (3 : Nat) (Option.some Jvm.ClassFile.FieldType.int)) ∈ lw_all := lw_g (lw_at lw_m7 210 rfl) rfl
theorem q1772 : (Jvm.Cond.instanceMethod ({ cls := "GhostAssizeModel", name := "fright", desc := "(IIIZ)I" } : Jvm.MethodName)) ∈ lw_all := lw_g (lw_at lw_m7 212 rfl) rfl
theorem q1773 : (Jvm.Cond.selects "GhostAssizeModel" ({ cls := "GhostAssizeModel", name := "fright", desc := "(IIIZ)I" } : Jvm.MethodName) ({ cls := "GhostAssizeModel", name := "fright", desc := "(IIIZ)I" } : Jvm.MethodName)) ∈ lw_all := lw_g (lw_at lw_m7 213 rfl) rfl
theorem q1774 : (Jvm.Cond.code ({ cls := "GhostAssizeModel", name := "fright", desc := "(IIIZ)I" } : Jvm.MethodName) prog_18_method_63_code (6 : Nat) (Option.some Jvm.ClassFile.FieldType.int)) ∈ lw_all := lw_g (lw_at lw_m7 214 rfl) rfl
theorem q1775 : (Jvm.Cond.methodLink "GhostAssizeModel" (303 : Nat) ({ cls := "GhostAssizeModel", name := "looksAt", desc := "(I)V" } : Jvm.MethodName)) ∈ lw_all := lw_g (lw_at lw_m7 215 rfl) rfl
theorem q1776 : (Jvm.Cond.privateMethod ({ cls := "GhostAssizeModel", name := "looksAt", desc := "(I)V" } : Jvm.MethodName)) ∈ lw_tbl := lw_at lw_m7 216 rfl
theorem q1777 : (Jvm.Cond.instanceMethod ({ cls := "GhostAssizeModel", name := "looksAt", desc := "(I)V" } : Jvm.MethodName)) ∈ lw_all := lw_g (lw_at lw_m7 217 rfl) rfl
theorem q1778 : (Jvm.Cond.code ({ cls := "GhostAssizeModel", name := "looksAt", desc := "(I)V" } : Jvm.MethodName) prog_18_method_54_code (2 : Nat) (Option.none : Option Jvm.ClassFile.FieldType)) ∈ lw_all := lw_g (lw_at lw_m7 218 rfl) rfl
theorem q1779 : (Jvm.Cond.methodLink "GhostAssizeModel" (307 : Nat) ({ cls := "GhostAssizeModel", name := "wearsBy", desc := "(II)I" } : Jvm.MethodName)) ∈ lw_all := lw_g (lw_at lw_m7 219 rfl) rfl
theorem q1780 : (Jvm.Cond.privateMethod ({ cls := "GhostAssizeModel", name := "wearsBy", desc := "(II)I" } : Jvm.MethodName)) ∈ lw_tbl := lw_at lw_m7 220 rfl
theorem q1781 : (Jvm.Cond.instanceMethod ({ cls := "GhostAssizeModel", name := "wearsBy", desc := "(II)I" } : Jvm.MethodName)) ∈ lw_all := lw_g (lw_at lw_m7 221 rfl) rfl
theorem q1782 : (Jvm.Cond.code ({ cls := "GhostAssizeModel", name := "wearsBy", desc := "(II)I" } : Jvm.MethodName) prog_18_method_59_code (3 : Nat) (Option.some Jvm.ClassFile.FieldType.int)) ∈ lw_all := lw_g (lw_at lw_m7 222 rfl) rfl
theorem q1783 : (Jvm.Cond.methodLink "GhostAssizeModel" (286 : Nat) ({ cls := "GhostAssizeModel", name := "sumOf", desc := "(I)I" } : Jvm.MethodName)) ∈ lw_all := lw_g (lw_at lw_m7 223 rfl) rfl
theorem q1784 : (Jvm.Cond.privateMethod ({ cls := "GhostAssizeModel", name := "sumOf", desc := "(I)I" } : Jvm.MethodName)) ∈ lw_tbl := lw_at lw_m7 224 rfl
theorem q1785 : (Jvm.Cond.instanceMethod ({ cls := "GhostAssizeModel", name := "sumOf", desc := "(I)I" } : Jvm.MethodName)) ∈ lw_all := lw_g (lw_at lw_m7 225 rfl) rfl
theorem q1786 : (Jvm.Cond.code ({ cls := "GhostAssizeModel", name := "sumOf", desc := "(I)I" } : Jvm.MethodName) prog_18_method_57_code (4 : Nat) (Option.some Jvm.ClassFile.FieldType.int)) ∈ lw_all := lw_g (lw_at lw_m7 226 rfl) rfl
theorem q1787 : (Jvm.Cond.methodLink "GhostAssizeModel" (283 : Nat) ({ cls := "GhostAssizeModel", name := "holdsLine", desc := "(I)Z" } : Jvm.MethodName)) ∈ lw_all := lw_g (lw_at lw_m7 227 rfl) rfl
theorem q1788 : (Jvm.Cond.privateMethod ({ cls := "GhostAssizeModel", name := "holdsLine", desc := "(I)Z" } : Jvm.MethodName)) ∈ lw_tbl := lw_at lw_m7 228 rfl
theorem q1789 : (Jvm.Cond.instanceMethod ({ cls := "GhostAssizeModel", name := "holdsLine", desc := "(I)Z" } : Jvm.MethodName)) ∈ lw_all := lw_g (lw_at lw_m7 229 rfl) rfl
theorem q1790 : (Jvm.Cond.code ({ cls := "GhostAssizeModel", name := "holdsLine", desc := "(I)Z" } : Jvm.MethodName) prog_18_method_56_code (9 : Nat) (Option.some Jvm.ClassFile.FieldType.boolean)) ∈ lw_all := lw_g (lw_at lw_m7 230 rfl) rfl
theorem q1791 : (Jvm.Cond.methodLink "GhostAssizeModel" (280 : Nat) ({ cls := "GhostAssizeModel", name := "factOf", desc := "(II)I" } : Jvm.MethodName)) ∈ lw_all := lw_g (lw_at lw_m7 231 rfl) rfl
theorem q1792 : (Jvm.Cond.privateMethod ({ cls := "GhostAssizeModel", name := "factOf", desc := "(II)I" } : Jvm.MethodName)) ∈ lw_tbl := lw_at lw_m7 232 rfl
theorem q1793 : (Jvm.Cond.instanceMethod ({ cls := "GhostAssizeModel", name := "factOf", desc := "(II)I" } : Jvm.MethodName)) ∈ lw_all := lw_g (lw_at lw_m7 233 rfl) rfl
theorem q1794 : (Jvm.Cond.code ({ cls := "GhostAssizeModel", name := "factOf", desc := "(II)I" } : Jvm.MethodName) prog_18_method_55_code (3 : Nat) (Option.some Jvm.ClassFile.FieldType.int)) ∈ lw_all := lw_g (lw_at lw_m7 234 rfl) rfl
theorem q1795 : (Jvm.Cond.methodLink "GhostAssizeModel" (310 : Nat) ({ cls := "GhostAssizeModel", name := "frightsBy", desc := "(II)I" } : Jvm.MethodName)) ∈ lw_all := lw_g (lw_at lw_m7 235 rfl) rfl
theorem q1796 : (Jvm.Cond.privateMethod ({ cls := "GhostAssizeModel", name := "frightsBy", desc := "(II)I" } : Jvm.MethodName)) ∈ lw_tbl := lw_at lw_m7 236 rfl
theorem q1797 : (Jvm.Cond.instanceMethod ({ cls := "GhostAssizeModel", name := "frightsBy", desc := "(II)I" } : Jvm.MethodName)) ∈ lw_all := lw_g (lw_at lw_m7 237 rfl) rfl
theorem q1798 : (Jvm.Cond.code ({ cls := "GhostAssizeModel", name := "frightsBy", desc := "(II)I" } : Jvm.MethodName) prog_18_method_58_code (3 : Nat) (Option.some Jvm.ClassFile.FieldType.int)) ∈ lw_all := lw_g (lw_at lw_m7 238 rfl) rfl
theorem q1799 : (Jvm.Cond.methodLink "GhostAssizeModel" (289 : Nat) ({ cls := "java/lang/Math", name := "max", desc := "(II)I" } : Jvm.MethodName)) ∈ lw_all := lw_g (lw_at lw_m7 239 rfl) rfl
theorem q1801 : (Jvm.Cond.instanceMethod ({ cls := "GhostAssizeModel", name := "send", desc := "(I)I" } : Jvm.MethodName)) ∈ lw_all := lw_g (lw_at lw_m8 1 rfl) rfl
theorem q1802 : (Jvm.Cond.selects "GhostAssizeModel" ({ cls := "GhostAssizeModel", name := "send", desc := "(I)I" } : Jvm.MethodName) ({ cls := "GhostAssizeModel", name := "send", desc := "(I)I" } : Jvm.MethodName)) ∈ lw_all := lw_g (lw_at lw_m8 2 rfl) rfl
theorem q1803 : (Jvm.Cond.code ({ cls := "GhostAssizeModel", name := "send", desc := "(I)I" } : Jvm.MethodName) prog_18_method_72_code (4 : Nat) (Option.some Jvm.ClassFile.FieldType.int)) ∈ lw_all := lw_g (lw_at lw_m8 3 rfl) rfl
theorem q1804 : (Jvm.Cond.methodLink "GhostAssizeModel" (355 : Nat) ({ cls := "GhostAssizeModel", name := "waits", desc := "(I)Z" } : Jvm.MethodName)) ∈ lw_all := lw_g (lw_at lw_m8 4 rfl) rfl
theorem q1805 : (Jvm.Cond.privateMethod ({ cls := "GhostAssizeModel", name := "waits", desc := "(I)Z" } : Jvm.MethodName)) ∈ lw_tbl := lw_at lw_m8 5 rfl
theorem q1806 : (Jvm.Cond.instanceMethod ({ cls := "GhostAssizeModel", name := "waits", desc := "(I)Z" } : Jvm.MethodName)) ∈ lw_all := lw_g (lw_at lw_m8 6 rfl) rfl
theorem q1807 : (Jvm.Cond.code ({ cls := "GhostAssizeModel", name := "waits", desc := "(I)Z" } : Jvm.MethodName) prog_18_method_17_code (2 : Nat) (Option.some Jvm.ClassFile.FieldType.boolean)) ∈ lw_all := lw_g (lw_at lw_m8 7 rfl) rfl
theorem q1808 : (Jvm.Cond.methodLink "GhostAssizeModel" (358 : Nat) ({ cls := "GhostAssizeModel", name := "remembers", desc := "()V" } : Jvm.MethodName)) ∈ lw_all := lw_g (lw_at lw_m8 8 rfl) rfl
theorem q1809 : (Jvm.Cond.privateMethod ({ cls := "GhostAssizeModel", name := "remembers", desc := "()V" } : Jvm.MethodName)) ∈ lw_tbl := lw_at lw_m8 9 rfl
theorem q1810 : (Jvm.Cond.instanceMethod ({ cls := "GhostAssizeModel", name := "remembers", desc := "()V" } : Jvm.MethodName)) ∈ lw_all := lw_g (lw_at lw_m8 10 rfl) rfl
theorem q1811 : (Jvm.Cond.code ({ cls := "GhostAssizeModel", name := "remembers", desc := "()V" } : Jvm.MethodName) prog_18_method_8_code (2 : Nat) (Option.none : Option Jvm.ClassFile.FieldType)) ∈ lw_all := lw_g (lw_at lw_m8 11 rfl) rfl
theorem q1812 : (Jvm.Cond.methodLink "GhostAssizeModel" (348 : Nat) ({ cls := "GhostAssizeModel", name := "rides", desc := "(ZZ)I" } : Jvm.MethodName)) ∈ lw_all := lw_g (lw_at lw_m8 12 rfl) rfl
theorem q1813 : (Jvm.Cond.privateMethod ({ cls := "GhostAssizeModel", name := "rides", desc := "(ZZ)I" } : Jvm.MethodName)) ∈ lw_tbl := lw_at lw_m8 13 rfl
theorem q1814 : (Jvm.Cond.instanceMethod ({ cls := "GhostAssizeModel", name := "rides", desc := "(ZZ)I" } : Jvm.MethodName)) ∈ lw_all := lw_g (lw_at lw_m8 14 rfl) rfl
theorem q1815 : (Jvm.Cond.code ({ cls := "GhostAssizeModel", name := "rides", desc := "(ZZ)I" } : Jvm.MethodName) prog_18_method_69_code (4 : Nat) (Option.some Jvm.ClassFile.FieldType.int)) ∈ lw_all := lw_g (lw_at lw_m8 15 rfl) rfl
theorem q1816 : (Jvm.Cond.methodLink "GhostAssizeModel" (341 : Nat) ({ cls := "GhostAssizeModel", name := "begins", desc := "()V" } : Jvm.MethodName)) ∈ lw_all := lw_g (lw_at lw_m8 16 rfl) rfl
theorem q1817 : (Jvm.Cond.privateMethod ({ cls := "GhostAssizeModel", name := "begins", desc := "()V" } : Jvm.MethodName)) ∈ lw_tbl := lw_at lw_m8 17 rfl
theorem q1818 : (Jvm.Cond.instanceMethod ({ cls := "GhostAssizeModel", name := "begins", desc := "()V" } : Jvm.MethodName)) ∈ lw_all := lw_g (lw_at lw_m8 18 rfl) rfl
theorem q1819 : (Jvm.Cond.code ({ cls := "GhostAssizeModel", name := "begins", desc := "()V" } : Jvm.MethodName) prog_18_method_67_code (1 : Nat) (Option.none : Option Jvm.ClassFile.FieldType)) ∈ lw_all := lw_g (lw_at lw_m8 19 rfl) rfl
theorem q1820 : (Jvm.Cond.methodLink "GhostAssizeModel" (344 : Nat) ({ cls := "GhostAssizeModel", name := "rideSlot", desc := "(IZZ)V" } : Jvm.MethodName)) ∈ lw_all := lw_g (lw_at lw_m8 20 rfl) rfl
theorem q1821 : (Jvm.Cond.privateMethod ({ cls := "GhostAssizeModel", name := "rideSlot", desc := "(IZZ)V" } : Jvm.MethodName)) ∈ lw_tbl := lw_at lw_m8 21 rfl
theorem q1822 : (Jvm.Cond.instanceMethod ({ cls := "GhostAssizeModel", name := "rideSlot", desc := "(IZZ)V" } : Jvm.MethodName)) ∈ lw_all := lw_g (lw_at lw_m8 22 rfl) rfl
theorem q1823 : (Jvm.Cond.code ({ cls := "GhostAssizeModel", name := "rideSlot", desc := "(IZZ)V" } : Jvm.MethodName) prog_18_method_68_code (5 : Nat) (Option.none : Option Jvm.ClassFile.FieldType)) ∈ lw_all := lw_g (lw_at lw_m8 23 rfl) rfl
theorem q1824 : (Jvm.Cond.methodLink "GhostAssizeModel" (328 : Nat) ({ cls := "GhostAssizeModel", name := "propOnTheWay", desc := "(I)I" } : Jvm.MethodName)) ∈ lw_all := lw_g (lw_at lw_m8 24 rfl) rfl
theorem q1825 : (Jvm.Cond.privateMethod ({ cls := "GhostAssizeModel", name := "propOnTheWay", desc := "(I)I" } : Jvm.MethodName)) ∈ lw_tbl := lw_at lw_m8 25 rfl
theorem q1826 : (Jvm.Cond.instanceMethod ({ cls := "GhostAssizeModel", name := "propOnTheWay", desc := "(I)I" } : Jvm.MethodName)) ∈ lw_all := lw_g (lw_at lw_m8 26 rfl) rfl
theorem q1827 : (Jvm.Cond.code ({ cls := "GhostAssizeModel", name := "propOnTheWay", desc := "(I)I" } : Jvm.MethodName) prog_18_method_64_code (3 : Nat) (Option.some Jvm.ClassFile.FieldType.int)) ∈ lw_all := lw_g (lw_at lw_m8 27 rfl) rfl
theorem q1828 : (Jvm.Cond.methodLink "GhostAssizeModel" (331 : Nat) ({ cls := "GhostAssizeModel", name := "calmer", desc := "(I)I" } : Jvm.MethodName)) ∈ lw_all := lw_g (lw_at lw_m8 28 rfl) rfl
theorem q1829 : (Jvm.Cond.privateMethod ({ cls := "GhostAssizeModel", name := "calmer", desc := "(I)I" } : Jvm.MethodName)) ∈ lw_tbl := lw_at lw_m8 29 rfl
theorem q1830 : (Jvm.Cond.instanceMethod ({ cls := "GhostAssizeModel", name := "calmer", desc := "(I)I" } : Jvm.MethodName)) ∈ lw_all := lw_g (lw_at lw_m8 30 rfl) rfl
theorem q1831 : (Jvm.Cond.code ({ cls := "GhostAssizeModel", name := "calmer", desc := "(I)I" } : Jvm.MethodName) prog_18_method_65_code (2 : Nat) (Option.some Jvm.ClassFile.FieldType.int)) ∈ lw_all := lw_g (lw_at lw_m8 31 rfl) rfl
theorem q1832 : (Jvm.Cond.methodLink "GhostAssizeModel" (334 : Nat) ({ cls := "GhostAssizeModel", name := "drawn", desc := "(I)I" } : Jvm.MethodName)) ∈ lw_all := lw_g (lw_at lw_m8 32 rfl) rfl
theorem q1833 : (Jvm.Cond.privateMethod ({ cls := "GhostAssizeModel", name := "drawn", desc := "(I)I" } : Jvm.MethodName)) ∈ lw_tbl := lw_at lw_m8 33 rfl
theorem q1834 : (Jvm.Cond.instanceMethod ({ cls := "GhostAssizeModel", name := "drawn", desc := "(I)I" } : Jvm.MethodName)) ∈ lw_all := lw_g (lw_at lw_m8 34 rfl) rfl
theorem q1835 : (Jvm.Cond.code ({ cls := "GhostAssizeModel", name := "drawn", desc := "(I)I" } : Jvm.MethodName) prog_18_method_24_code (2 : Nat) (Option.some Jvm.ClassFile.FieldType.int)) ∈ lw_all := lw_g (lw_at lw_m8 35 rfl) rfl
theorem q1836 : (Jvm.Cond.constant "GhostAssizeModel" (98 : Nat) (1103515245 : Int32)) ∈ lw_all := lw_g (lw_at lw_m8 36 rfl) rfl
theorem q1837 : (Jvm.Cond.methodLink "GhostAssizeModel" (337 : Nat) ({ cls := "GhostAssizeModel", name := "comesTo", desc := "(III)V" } : Jvm.MethodName)) ∈ lw_all := lw_g (lw_at lw_m8 37 rfl) rfl
theorem q1838 : (Jvm.Cond.privateMethod ({ cls := "GhostAssizeModel", name := "comesTo", desc := "(III)V" } : Jvm.MethodName)) ∈ lw_tbl := lw_at lw_m8 38 rfl
theorem q1839 : (Jvm.Cond.instanceMethod ({ cls := "GhostAssizeModel", name := "comesTo", desc := "(III)V" } : Jvm.MethodName)) ∈ lw_all := lw_g (lw_at lw_m8 39 rfl) rfl
theorem q1840 : (Jvm.Cond.code ({ cls := "GhostAssizeModel", name := "comesTo", desc := "(III)V" } : Jvm.MethodName) prog_18_method_66_code (4 : Nat) (Option.none : Option Jvm.ClassFile.FieldType)) ∈ lw_all := lw_g (lw_at lw_m8 40 rfl) rfl
theorem q1841 : (Jvm.Cond.methodLink "GhostAssizeModel" (361 : Nat) ({ cls := "GhostAssizeModel", name := "laysOn", desc := "(I)V" } : Jvm.MethodName)) ∈ lw_all := lw_g (lw_at lw_m8 41 rfl) rfl
theorem q1842 : (Jvm.Cond.privateMethod ({ cls := "GhostAssizeModel", name := "laysOn", desc := "(I)V" } : Jvm.MethodName)) ∈ lw_tbl := lw_at lw_m8 42 rfl
theorem q1843 : (Jvm.Cond.instanceMethod ({ cls := "GhostAssizeModel", name := "laysOn", desc := "(I)V" } : Jvm.MethodName)) ∈ lw_all := lw_g (lw_at lw_m8 43 rfl) rfl
theorem q1844 : (Jvm.Cond.code ({ cls := "GhostAssizeModel", name := "laysOn", desc := "(I)V" } : Jvm.MethodName) prog_18_method_71_code (3 : Nat) (Option.none : Option Jvm.ClassFile.FieldType)) ∈ lw_all := lw_g (lw_at lw_m8 44 rfl) rfl
theorem q1845 : (Jvm.Cond.methodLink "GhostAssizeModel" (352 : Nat) ({ cls := "java/lang/Math", name := "min", desc := "(II)I" } : Jvm.MethodName)) ∈ lw_all := lw_g (lw_at lw_m8 45 rfl) rfl
theorem q1847 : (Jvm.Cond.instanceMethod ({ cls := "GhostAssizeModel", name := "nail", desc := "(II)V" } : Jvm.MethodName)) ∈ lw_all := lw_g (lw_at lw_m8 47 rfl) rfl
theorem q1848 : (Jvm.Cond.selects "GhostAssizeModel" ({ cls := "GhostAssizeModel", name := "nail", desc := "(II)V" } : Jvm.MethodName) ({ cls := "GhostAssizeModel", name := "nail", desc := "(II)V" } : Jvm.MethodName)) ∈ lw_all := lw_g (lw_at lw_m8 48 rfl) rfl
theorem q1849 : (Jvm.Cond.code ({ cls := "GhostAssizeModel", name := "nail", desc := "(II)V" } : Jvm.MethodName) prog_18_method_73_code (3 : Nat) (Option.none : Option Jvm.ClassFile.FieldType)) ∈ lw_all := lw_g (lw_at lw_m8 49 rfl) rfl
theorem q1850 : (Jvm.Cond.methodLink "GhostAssizeModel" (94 : Nat) ({ cls := "GhostAssizeModel", name := "isNailed", desc := "(I)Z" } : Jvm.MethodName)) ∈ lw_all := lw_g (lw_at lw_m8 50 rfl) rfl
theorem q1851 : (Jvm.Cond.privateMethod ({ cls := "GhostAssizeModel", name := "isNailed", desc := "(I)Z" } : Jvm.MethodName)) ∈ lw_tbl := lw_at lw_m8 51 rfl
theorem q1852 : (Jvm.Cond.instanceMethod ({ cls := "GhostAssizeModel", name := "isNailed", desc := "(I)Z" } : Jvm.MethodName)) ∈ lw_all := lw_g (lw_at lw_m8 52 rfl) rfl
theorem q1853 : (Jvm.Cond.code ({ cls := "GhostAssizeModel", name := "isNailed", desc := "(I)Z" } : Jvm.MethodName) prog_18_method_14_code (2 : Nat) (Option.some Jvm.ClassFile.FieldType.boolean)) ∈ lw_all := lw_g (lw_at lw_m8 53 rfl) rfl
theorem q1855 : (Jvm.Cond.instanceMethod ({ cls := "GhostAssizeModel", name := "down", desc := "(I)I" } : Jvm.MethodName)) ∈ lw_all := lw_g (lw_at lw_m8 55 rfl) rfl
theorem q1856 : (Jvm.Cond.selects "GhostAssizeModel" ({ cls := "GhostAssizeModel", name := "down", desc := "(I)I" } : Jvm.MethodName) ({ cls := "GhostAssizeModel", name := "down", desc := "(I)I" } : Jvm.MethodName)) ∈ lw_all := lw_g (lw_at lw_m8 56 rfl) rfl
theorem q1857 : (Jvm.Cond.code ({ cls := "GhostAssizeModel", name := "down", desc := "(I)I" } : Jvm.MethodName) prog_18_method_74_code (3 : Nat) (Option.some Jvm.ClassFile.FieldType.int)) ∈ lw_all := lw_g (lw_at lw_m8 57 rfl) rfl
theorem q1859 : (Jvm.Cond.instanceMethod ({ cls := "GhostAssizeModel", name := "mend", desc := "(I)I" } : Jvm.MethodName)) ∈ lw_all := lw_g (lw_at lw_m8 59 rfl) rfl
theorem q1860 : (Jvm.Cond.selects "GhostAssizeModel" ({ cls := "GhostAssizeModel", name := "mend", desc := "(I)I" } : Jvm.MethodName) ({ cls := "GhostAssizeModel", name := "mend", desc := "(I)I" } : Jvm.MethodName)) ∈ lw_all := lw_g (lw_at lw_m8 60 rfl) rfl
theorem q1861 : (Jvm.Cond.code ({ cls := "GhostAssizeModel", name := "mend", desc := "(I)I" } : Jvm.MethodName) prog_18_method_75_code (3 : Nat) (Option.some Jvm.ClassFile.FieldType.int)) ∈ lw_all := lw_g (lw_at lw_m8 61 rfl) rfl
theorem q1863 : (Jvm.Cond.instanceMethod ({ cls := "GhostAssizeModel", name := "recall", desc := "(I)V" } : Jvm.MethodName)) ∈ lw_all := lw_g (lw_at lw_m8 63 rfl) rfl
theorem q1864 : (Jvm.Cond.selects "GhostAssizeModel" ({ cls := "GhostAssizeModel", name := "recall", desc := "(I)V" } : Jvm.MethodName) ({ cls := "GhostAssizeModel", name := "recall", desc := "(I)V" } : Jvm.MethodName)) ∈ lw_all := lw_g (lw_at lw_m8 64 rfl) rfl
theorem q1865 : (Jvm.Cond.code ({ cls := "GhostAssizeModel", name := "recall", desc := "(I)V" } : Jvm.MethodName) prog_18_method_76_code (2 : Nat) (Option.none : Option Jvm.ClassFile.FieldType)) ∈ lw_all := lw_g (lw_at lw_m8 65 rfl) rfl
theorem q1867 : (Jvm.Cond.instanceMethod ({ cls := "GhostAssizeModel", name := "inside", desc := "(I)I" } : Jvm.MethodName)) ∈ lw_all := lw_g (lw_at lw_m8 67 rfl) rfl
theorem q1868 : (Jvm.Cond.selects "GhostAssizeModel" ({ cls := "GhostAssizeModel", name := "inside", desc := "(I)I" } : Jvm.MethodName) ({ cls := "GhostAssizeModel", name := "inside", desc := "(I)I" } : Jvm.MethodName)) ∈ lw_all := lw_g (lw_at lw_m8 68 rfl) rfl
theorem q1869 : (Jvm.Cond.code ({ cls := "GhostAssizeModel", name := "inside", desc := "(I)I" } : Jvm.MethodName) prog_18_method_78_code (2 : Nat) (Option.some Jvm.ClassFile.FieldType.int)) ∈ lw_all := lw_g (lw_at lw_m8 69 rfl) rfl
theorem q1870 : (Jvm.Cond.methodLink "GhostAssizeModel" (364 : Nat) ({ cls := "GhostAssizeModel", name := "ofState", desc := "(I)I" } : Jvm.MethodName)) ∈ lw_all := lw_g (lw_at lw_m8 70 rfl) rfl
theorem q1871 : (Jvm.Cond.privateMethod ({ cls := "GhostAssizeModel", name := "ofState", desc := "(I)I" } : Jvm.MethodName)) ∈ lw_tbl := lw_at lw_m8 71 rfl
theorem q1872 : (Jvm.Cond.instanceMethod ({ cls := "GhostAssizeModel", name := "ofState", desc := "(I)I" } : Jvm.MethodName)) ∈ lw_all := lw_g (lw_at lw_m8 72 rfl) rfl
theorem q1873 : (Jvm.Cond.code ({ cls := "GhostAssizeModel", name := "ofState", desc := "(I)I" } : Jvm.MethodName) prog_18_method_77_code (4 : Nat) (Option.some Jvm.ClassFile.FieldType.int)) ∈ lw_all := lw_g (lw_at lw_m8 73 rfl) rfl
theorem q1875 : (Jvm.Cond.instanceMethod ({ cls := "GhostAssizeModel", name := "calm", desc := "(I)I" } : Jvm.MethodName)) ∈ lw_all := lw_g (lw_at lw_m8 75 rfl) rfl
theorem q1876 : (Jvm.Cond.selects "GhostAssizeModel" ({ cls := "GhostAssizeModel", name := "calm", desc := "(I)I" } : Jvm.MethodName) ({ cls := "GhostAssizeModel", name := "calm", desc := "(I)I" } : Jvm.MethodName)) ∈ lw_all := lw_g (lw_at lw_m8 76 rfl) rfl
theorem q1877 : (Jvm.Cond.code ({ cls := "GhostAssizeModel", name := "calm", desc := "(I)I" } : Jvm.MethodName) prog_18_method_79_code (3 : Nat) (Option.some Jvm.ClassFile.FieldType.int)) ∈ lw_all := lw_g (lw_at lw_m8 77 rfl) rfl
theorem q1879 : (Jvm.Cond.instanceMethod ({ cls := "GhostAssizeModel", name := "mornings", desc := "(I)I" } : Jvm.MethodName)) ∈ lw_all := lw_g (lw_at lw_m8 79 rfl) rfl
theorem q1880 : (Jvm.Cond.selects "GhostAssizeModel" ({ cls := "GhostAssizeModel", name := "mornings", desc := "(I)I" } : Jvm.MethodName) ({ cls := "GhostAssizeModel", name := "mornings", desc := "(I)I" } : Jvm.MethodName)) ∈ lw_all := lw_g (lw_at lw_m8 80 rfl) rfl
theorem q1881 : (Jvm.Cond.code ({ cls := "GhostAssizeModel", name := "mornings", desc := "(I)I" } : Jvm.MethodName) prog_18_method_80_code (4 : Nat) (Option.some Jvm.ClassFile.FieldType.int)) ∈ lw_all := lw_g (lw_at lw_m8 81 rfl) rfl
theorem q1883 : (Jvm.Cond.instanceMethod ({ cls := "GhostAssizeModel", name := "straight", desc := "(I)I" } : Jvm.MethodName)) ∈ lw_all := lw_g (lw_at lw_m8 83 rfl) rfl
theorem q1884 : (Jvm.Cond.selects "GhostAssizeModel" ({ cls := "GhostAssizeModel", name := "straight", desc := "(I)I" } : Jvm.MethodName) ({ cls := "GhostAssizeModel", name := "straight", desc := "(I)I" } : Jvm.MethodName)) ∈ lw_all := lw_g (lw_at lw_m8 84 rfl) rfl
theorem q1885 : (Jvm.Cond.code ({ cls := "GhostAssizeModel", name := "straight", desc := "(I)I" } : Jvm.MethodName) prog_18_method_81_code (2 : Nat) (Option.some Jvm.ClassFile.FieldType.int)) ∈ lw_all := lw_g (lw_at lw_m8 85 rfl) rfl
theorem q1886 : (Jvm.Cond.methodLink "GhostAssizeModel" (367 : Nat) ({ cls := "GhostAssizeModel", name := "ridesStraight", desc := "(I)I" } : Jvm.MethodName)) ∈ lw_all := lw_g (lw_at lw_m8 86 rfl) rfl
theorem q1887 : (Jvm.Cond.privateMethod ({ cls := "GhostAssizeModel", name := "ridesStraight", desc := "(I)I" } : Jvm.MethodName)) ∈ lw_tbl := lw_at lw_m8 87 rfl
theorem q1888 : (Jvm.Cond.instanceMethod ({ cls := "GhostAssizeModel", name := "ridesStraight", desc := "(I)I" } : Jvm.MethodName)) ∈ lw_all := lw_g (lw_at lw_m8 88 rfl) rfl
theorem q1889 : (Jvm.Cond.code ({ cls := "GhostAssizeModel", name := "ridesStraight", desc := "(I)I" } : Jvm.MethodName) prog_18_method_70_code (2 : Nat) (Option.some Jvm.ClassFile.FieldType.int)) ∈ lw_all := lw_g (lw_at lw_m8 89 rfl) rfl
theorem q1891 : (Jvm.Cond.instanceMethod ({ cls := "GhostAssizeModel", name := "tense", desc := "(II)I" } : Jvm.MethodName)) ∈ lw_all := lw_g (lw_at lw_m8 91 rfl) rfl
theorem q1892 : (Jvm.Cond.selects "GhostAssizeModel" ({ cls := "GhostAssizeModel", name := "tense", desc := "(II)I" } : Jvm.MethodName) ({ cls := "GhostAssizeModel", name := "tense", desc := "(II)I" } : Jvm.MethodName)) ∈ lw_all := lw_g (lw_at lw_m8 92 rfl) rfl
theorem q1893 : (Jvm.Cond.code ({ cls := "GhostAssizeModel", name := "tense", desc := "(II)I" } : Jvm.MethodName) prog_18_method_82_code (3 : Nat) (Option.some Jvm.ClassFile.FieldType.int)) ∈ lw_all := lw_g (lw_at lw_m8 93 rfl) rfl
theorem q1895 : (Jvm.Cond.instanceMethod ({ cls := "GhostAssizeModel", name := "corners", desc := "(I)I" } : Jvm.MethodName)) ∈ lw_all := lw_g (lw_at lw_m8 95 rfl) rfl
theorem q1896 : (Jvm.Cond.selects "GhostAssizeModel" ({ cls := "GhostAssizeModel", name := "corners", desc := "(I)I" } : Jvm.MethodName) ({ cls := "GhostAssizeModel", name := "corners", desc := "(I)I" } : Jvm.MethodName)) ∈ lw_all := lw_g (lw_at lw_m8 96 rfl) rfl
theorem q1897 : (Jvm.Cond.code ({ cls := "GhostAssizeModel", name := "corners", desc := "(I)I" } : Jvm.MethodName) prog_18_method_83_code (4 : Nat) (Option.some Jvm.ClassFile.FieldType.int)) ∈ lw_all := lw_g (lw_at lw_m8 97 rfl) rfl
theorem q1899 : (Jvm.Cond.instanceMethod ({ cls := "GhostAssizeModel", name := "share", desc := "(II)I" } : Jvm.MethodName)) ∈ lw_all := lw_g (lw_at lw_m8 99 rfl) rfl
theorem q1900 : (Jvm.Cond.selects "GhostAssizeModel" ({ cls := "GhostAssizeModel", name := "share", desc := "(II)I" } : Jvm.MethodName) ({ cls := "GhostAssizeModel", name := "share", desc := "(II)I" } : Jvm.MethodName)) ∈ lw_all := lw_g (lw_at lw_m8 100 rfl) rfl
theorem q1901 : (Jvm.Cond.code ({ cls := "GhostAssizeModel", name := "share", desc := "(II)I" } : Jvm.MethodName) prog_18_method_84_code (5 : Nat) (Option.some Jvm.ClassFile.FieldType.int)) ∈ lw_all := lw_g (lw_at lw_m8 101 rfl) rfl
theorem q1903 : (Jvm.Cond.instanceMethod ({ cls := "GhostAssizeModel", name := "all", desc := "(Z)I" } : Jvm.MethodName)) ∈ lw_all := lw_g (lw_at lw_m8 103 rfl) rfl
theorem q1904 : (Jvm.Cond.selects "GhostAssizeModel" ({ cls := "GhostAssizeModel", name := "all", desc := "(Z)I" } : Jvm.MethodName) ({ cls := "GhostAssizeModel", name := "all", desc := "(Z)I" } : Jvm.MethodName)) ∈ lw_all := lw_g (lw_at lw_m8 104 rfl) rfl
theorem q1905 : (Jvm.Cond.code ({ cls := "GhostAssizeModel", name := "all", desc := "(Z)I" } : Jvm.MethodName) prog_18_method_88_code (2 : Nat) (Option.some Jvm.ClassFile.FieldType.int)) ∈ lw_all := lw_g (lw_at lw_m8 105 rfl) rfl
theorem q1906 : (Jvm.Cond.methodLink "GhostAssizeModel" (376 : Nat) ({ cls := "GhostAssizeModel", name := "screamers", desc := "(Z)I" } : Jvm.MethodName)) ∈ lw_all := lw_g (lw_at lw_m8 106 rfl) rfl
theorem q1907 : (Jvm.Cond.privateMethod ({ cls := "GhostAssizeModel", name := "screamers", desc := "(Z)I" } : Jvm.MethodName)) ∈ lw_tbl := lw_at lw_m8 107 rfl
theorem q1908 : (Jvm.Cond.instanceMethod ({ cls := "GhostAssizeModel", name := "screamers", desc := "(Z)I" } : Jvm.MethodName)) ∈ lw_all := lw_g (lw_at lw_m8 108 rfl) rfl
theorem q1909 : (Jvm.Cond.code ({ cls := "GhostAssizeModel", name := "screamers", desc := "(Z)I" } : Jvm.MethodName) prog_18_method_87_code (4 : Nat) (Option.some Jvm.ClassFile.FieldType.int)) ∈ lw_all := lw_g (lw_at lw_m8 109 rfl) rfl
theorem q1910 : (Jvm.Cond.methodLink "GhostAssizeModel" (370 : Nat) ({ cls := "GhostAssizeModel", name := "keepsAll", desc := "()V" } : Jvm.MethodName)) ∈ lw_all := lw_g (lw_at lw_m8 110 rfl) rfl
theorem q1911 : (Jvm.Cond.privateMethod ({ cls := "GhostAssizeModel", name := "keepsAll", desc := "()V" } : Jvm.MethodName)) ∈ lw_tbl := lw_at lw_m8 111 rfl
theorem q1912 : (Jvm.Cond.instanceMethod ({ cls := "GhostAssizeModel", name := "keepsAll", desc := "()V" } : Jvm.MethodName)) ∈ lw_all := lw_g (lw_at lw_m8 112 rfl) rfl
theorem q1913 : (Jvm.Cond.code ({ cls := "GhostAssizeModel", name := "keepsAll", desc := "()V" } : Jvm.MethodName) prog_18_method_85_code (2 : Nat) (Option.none : Option Jvm.ClassFile.FieldType)) ∈ lw_all := lw_g (lw_at lw_m8 113 rfl) rfl
theorem q1914 : (Jvm.Cond.methodLink "GhostAssizeModel" (373 : Nat) ({ cls := "GhostAssizeModel", name := "bringsBack", desc := "()V" } : Jvm.MethodName)) ∈ lw_all := lw_g (lw_at lw_m8 114 rfl) rfl
theorem q1915 : (Jvm.Cond.privateMethod ({ cls := "GhostAssizeModel", name := "bringsBack", desc := "()V" } : Jvm.MethodName)) ∈ lw_tbl := lw_at lw_m8 115 rfl
theorem q1916 : (Jvm.Cond.instanceMethod ({ cls := "GhostAssizeModel", name := "bringsBack", desc := "()V" } : Jvm.MethodName)) ∈ lw_all := lw_g (lw_at lw_m8 116 rfl) rfl
theorem q1917 : (Jvm.Cond.code ({ cls := "GhostAssizeModel", name := "bringsBack", desc := "()V" } : Jvm.MethodName) prog_18_method_86_code (2 : Nat) (Option.none : Option Jvm.ClassFile.FieldType)) ∈ lw_all := lw_g (lw_at lw_m8 117 rfl) rfl
theorem q1919 : (Jvm.Cond.instanceMethod ({ cls := "GhostAssizeModel", name := "lasts", desc := "(II)I" } : Jvm.MethodName)) ∈ lw_all := lw_g (lw_at lw_m8 119 rfl) rfl
theorem q1920 : (Jvm.Cond.selects "GhostAssizeModel" ({ cls := "GhostAssizeModel", name := "lasts", desc := "(II)I" } : Jvm.MethodName) ({ cls := "GhostAssizeModel", name := "lasts", desc := "(II)I" } : Jvm.MethodName)) ∈ lw_all := lw_g (lw_at lw_m8 120 rfl) rfl
theorem q1921 : (Jvm.Cond.code ({ cls := "GhostAssizeModel", name := "lasts", desc := "(II)I" } : Jvm.MethodName) prog_18_method_89_code (5 : Nat) (Option.some Jvm.ClassFile.FieldType.int)) ∈ lw_all := lw_g (lw_at lw_m8 121 rfl) rfl
theorem q1923 : (Jvm.Cond.instanceMethod ({ cls := "GhostAssizeModel", name := "car", desc := "(II)I" } : Jvm.MethodName)) ∈ lw_all := lw_g (lw_at lw_m8 123 rfl) rfl
theorem q1924 : (Jvm.Cond.selects "GhostAssizeModel" ({ cls := "GhostAssizeModel", name := "car", desc := "(II)I" } : Jvm.MethodName) ({ cls := "GhostAssizeModel", name := "car", desc := "(II)I" } : Jvm.MethodName)) ∈ lw_all := lw_g (lw_at lw_m8 124 rfl) rfl
theorem q1925 : (Jvm.Cond.code ({ cls := "GhostAssizeModel", name := "car", desc := "(II)I" } : Jvm.MethodName) prog_18_method_92_code (6 : Nat) (Option.some Jvm.ClassFile.FieldType.int)) ∈ lw_all := lw_g (lw_at lw_m8 125 rfl) rfl
theorem q1926 : (Jvm.Cond.methodLink "GhostAssizeModel" (385 : Nat) ({ cls := "GhostAssizeModel", name := "carStep", desc := "(III)I" } : Jvm.MethodName)) ∈ lw_all := lw_g (lw_at lw_m8 126 rfl) rfl
theorem q1927 : (Jvm.Cond.privateMethod ({ cls := "GhostAssizeModel", name := "carStep", desc := "(III)I" } : Jvm.MethodName)) ∈ lw_tbl := lw_at lw_m8 127 rfl
theorem q1928 : (Jvm.Cond.instanceMethod ({ cls := "GhostAssizeModel", name := "carStep", desc := "(III)I" } : Jvm.MethodName)) ∈ lw_all := lw_g (lw_at lw_m8 128 rfl) rfl
theorem q1929 : (Jvm.Cond.code ({ cls := "GhostAssizeModel", name := "carStep", desc := "(III)I" } : Jvm.MethodName) prog_18_method_90_code (5 : Nat) (Option.some Jvm.ClassFile.FieldType.int)) ∈ lw_all := lw_g (lw_at lw_m8 129 rfl) rfl
theorem q1930 : (Jvm.Cond.methodLink "GhostAssizeModel" (389 : Nat) ({ cls := "GhostAssizeModel", name := "screams", desc := "(II)Z" } : Jvm.MethodName)) ∈ lw_all := lw_g (lw_at lw_m8 130 rfl) rfl
theorem q1931 : (Jvm.Cond.privateMethod ({ cls := "GhostAssizeModel", name := "screams", desc := "(II)Z" } : Jvm.MethodName)) ∈ lw_tbl := lw_at lw_m8 131 rfl
theorem q1932 : (Jvm.Cond.instanceMethod ({ cls := "GhostAssizeModel", name := "screams", desc := "(II)Z" } : Jvm.MethodName)) ∈ lw_all := lw_g (lw_at lw_m8 132 rfl) rfl
theorem q1933 : (Jvm.Cond.code ({ cls := "GhostAssizeModel", name := "screams", desc := "(II)Z" } : Jvm.MethodName) prog_18_method_91_code (3 : Nat) (Option.some Jvm.ClassFile.FieldType.boolean)) ∈ lw_all := lw_g (lw_at lw_m8 133 rfl) rfl
theorem q1935 : (Jvm.Cond.instanceMethod ({ cls := "GhostAssizeModel", name := "ways", desc := "(I)I" } : Jvm.MethodName)) ∈ lw_all := lw_g (lw_at lw_m8 135 rfl) rfl
theorem q1936 : (Jvm.Cond.selects "GhostAssizeModel" ({ cls := "GhostAssizeModel", name := "ways", desc := "(I)I" } : Jvm.MethodName) ({ cls := "GhostAssizeModel", name := "ways", desc := "(I)I" } : Jvm.MethodName)) ∈ lw_all := lw_g (lw_at lw_m8 136 rfl) rfl
theorem q1937 : (Jvm.Cond.code ({ cls := "GhostAssizeModel", name := "ways", desc := "(I)I" } : Jvm.MethodName) prog_18_method_97_code (2 : Nat) (Option.some Jvm.ClassFile.FieldType.int)) ∈ lw_all := lw_g (lw_at lw_m8 137 rfl) rfl
theorem q1938 : (Jvm.Cond.methodLink "GhostAssizeModel" (402 : Nat) ({ cls := "GhostAssizeModel", name := "waysOf", desc := "(I)I" } : Jvm.MethodName)) ∈ lw_all := lw_g (lw_at lw_m8 138 rfl) rfl
theorem q1939 : (Jvm.Cond.privateMethod ({ cls := "GhostAssizeModel", name := "waysOf", desc := "(I)I" } : Jvm.MethodName)) ∈ lw_tbl := lw_at lw_m8 139 rfl
theorem q1940 : (Jvm.Cond.instanceMethod ({ cls := "GhostAssizeModel", name := "waysOf", desc := "(I)I" } : Jvm.MethodName)) ∈ lw_all := lw_g (lw_at lw_m8 140 rfl) rfl
theorem q1941 : (Jvm.Cond.code ({ cls := "GhostAssizeModel", name := "waysOf", desc := "(I)I" } : Jvm.MethodName) prog_18_method_95_code (4 : Nat) (Option.some Jvm.ClassFile.FieldType.int)) ∈ lw_all := lw_g (lw_at lw_m8 141 rfl) rfl
theorem q1942 : (Jvm.Cond.methodLink "GhostAssizeModel" (397 : Nat) ({ cls := "GhostAssizeModel", name := "laysRows", desc := "(I)V" } : Jvm.MethodName)) ∈ lw_all := lw_g (lw_at lw_m8 142 rfl) rfl
theorem q1943 : (Jvm.Cond.privateMethod ({ cls := "GhostAssizeModel", name := "laysRows", desc := "(I)V" } : Jvm.MethodName)) ∈ lw_tbl := lw_at lw_m8 143 rfl
theorem q1944 : (Jvm.Cond.instanceMethod ({ cls := "GhostAssizeModel", name := "laysRows", desc := "(I)V" } : Jvm.MethodName)) ∈ lw_all := lw_g (lw_at lw_m8 144 rfl) rfl
theorem q1945 : (Jvm.Cond.code ({ cls := "GhostAssizeModel", name := "laysRows", desc := "(I)V" } : Jvm.MethodName) prog_18_method_93_code (3 : Nat) (Option.none : Option Jvm.ClassFile.FieldType)) ∈ lw_all := lw_g (lw_at lw_m8 145 rfl) rfl
theorem q1946 : (Jvm.Cond.methodLink "GhostAssizeModel" (394 : Nat) ({ cls := "GhostAssizeModel", name := "laysSlot", desc := "(I)V" } : Jvm.MethodName)) ∈ lw_all := lw_g (lw_at lw_m8 146 rfl) rfl
theorem q1947 : (Jvm.Cond.privateMethod ({ cls := "GhostAssizeModel", name := "laysSlot", desc := "(I)V" } : Jvm.MethodName)) ∈ lw_tbl := lw_at lw_m8 147 rfl
theorem q1948 : (Jvm.Cond.instanceMethod ({ cls := "GhostAssizeModel", name := "laysSlot", desc := "(I)V" } : Jvm.MethodName)) ∈ lw_all := lw_g (lw_at lw_m8 148 rfl) rfl
theorem q1949 : (Jvm.Cond.code ({ cls := "GhostAssizeModel", name := "laysSlot", desc := "(I)V" } : Jvm.MethodName) prog_18_method_94_code (6 : Nat) (Option.none : Option Jvm.ClassFile.FieldType)) ∈ lw_all := lw_g (lw_at lw_m8 149 rfl) rfl
theorem q1951 : (Jvm.Cond.instanceMethod ({ cls := "GhostAssizeModel", name := "at", desc := "(II)I" } : Jvm.MethodName)) ∈ lw_all := lw_g (lw_at lw_m8 151 rfl) rfl
theorem q1952 : (Jvm.Cond.selects "GhostAssizeModel" ({ cls := "GhostAssizeModel", name := "at", desc := "(II)I" } : Jvm.MethodName) ({ cls := "GhostAssizeModel", name := "at", desc := "(II)I" } : Jvm.MethodName)) ∈ lw_all := lw_g (lw_at lw_m8 152 rfl) rfl
theorem q1953 : (Jvm.Cond.code ({ cls := "GhostAssizeModel", name := "at", desc := "(II)I" } : Jvm.MethodName) prog_18_method_98_code (3 : Nat) (Option.some Jvm.ClassFile.FieldType.int)) ∈ lw_all := lw_g (lw_at lw_m8 153 rfl) rfl
theorem q1955 : (Jvm.Cond.instanceMethod ({ cls := "GhostAssizeModel", name := "odds", desc := "(I)I" } : Jvm.MethodName)) ∈ lw_all := lw_g (lw_at lw_m8 155 rfl) rfl
theorem q1956 : (Jvm.Cond.selects "GhostAssizeModel" ({ cls := "GhostAssizeModel", name := "odds", desc := "(I)I" } : Jvm.MethodName) ({ cls := "GhostAssizeModel", name := "odds", desc := "(I)I" } : Jvm.MethodName)) ∈ lw_all := lw_g (lw_at lw_m8 156 rfl) rfl
theorem q1957 : (Jvm.Cond.code ({ cls := "GhostAssizeModel", name := "odds", desc := "(I)I" } : Jvm.MethodName) prog_18_method_99_code (2 : Nat) (Option.some Jvm.ClassFile.FieldType.int)) ∈ lw_all := lw_g (lw_at lw_m8 157 rfl) rfl
theorem q1958 : (Jvm.Cond.methodLink "GhostAssizeModel" (405 : Nat) ({ cls := "GhostAssizeModel", name := "oddsOf", desc := "(I)I" } : Jvm.MethodName)) ∈ lw_all := lw_g (lw_at lw_m8 158 rfl) rfl
theorem q1959 : (Jvm.Cond.privateMethod ({ cls := "GhostAssizeModel", name := "oddsOf", desc := "(I)I" } : Jvm.MethodName)) ∈ lw_tbl := lw_at lw_m8 159 rfl
theorem q1960 : (Jvm.Cond.instanceMethod ({ cls := "GhostAssizeModel", name := "oddsOf", desc := "(I)I" } : Jvm.MethodName)) ∈ lw_all := lw_g (lw_at lw_m8 160 rfl) rfl
theorem q1961 : (Jvm.Cond.code ({ cls := "GhostAssizeModel", name := "oddsOf", desc := "(I)I" } : Jvm.MethodName) prog_18_method_96_code (2 : Nat) (Option.some Jvm.ClassFile.FieldType.int)) ∈ lw_all := lw_g (lw_at lw_m8 161 rfl) rfl
theorem q1962 : (Jvm.Cond.constantLong "GhostAssizeModel" (400 : Nat) (10000 : Int64)) ∈ lw_all := lw_g (lw_at lw_m8 162 rfl) rfl
theorem q1964 : (Jvm.Cond.instanceMethod ({ cls := "GhostAssizeModel", name := "gap", desc := "()I" } : Jvm.MethodName)) ∈ lw_all := lw_g (lw_at lw_m8 164 rfl) rfl
theorem q1965 : (Jvm.Cond.selects "GhostAssizeModel" ({ cls := "GhostAssizeModel", name := "gap", desc := "()I" } : Jvm.MethodName) ({ cls := "GhostAssizeModel", name := "gap", desc := "()I" } : Jvm.MethodName)) ∈ lw_all := lw_g (lw_at lw_m8 165 rfl) rfl
theorem q1966 : (Jvm.Cond.code ({ cls := "GhostAssizeModel", name := "gap", desc := "()I" } : Jvm.MethodName) prog_18_method_101_code (1 : Nat) (Option.some Jvm.ClassFile.FieldType.int)) ∈ lw_all := lw_g (lw_at lw_m8 166 rfl) rfl
theorem q1967 : (Jvm.Cond.methodLink "GhostAssizeModel" (411 : Nat) ({ cls := "GhostAssizeModel", name := "gapNow", desc := "()I" } : Jvm.MethodName)) ∈ lw_all := lw_g (lw_at lw_m8 167 rfl) rfl
theorem q1968 : (Jvm.Cond.privateMethod ({ cls := "GhostAssizeModel", name := "gapNow", desc := "()I" } : Jvm.MethodName)) ∈ lw_tbl := lw_at lw_m8 168 rfl
theorem q1969 : (Jvm.Cond.instanceMethod ({ cls := "GhostAssizeModel", name := "gapNow", desc := "()I" } : Jvm.MethodName)) ∈ lw_all := lw_g (lw_at lw_m8 169 rfl) rfl
theorem q1970 : (Jvm.Cond.code ({ cls := "GhostAssizeModel", name := "gapNow", desc := "()I" } : Jvm.MethodName) prog_18_method_100_code (3 : Nat) (Option.some Jvm.ClassFile.FieldType.int)) ∈ lw_all := lw_g (lw_at lw_m8 170 rfl) rfl
theorem q1971 : (Jvm.Cond.methodLink "GhostAssizeModel" (408 : Nat) ({ cls := "GhostAssizeModel", name := "isInnocent", desc := "(I)Z" } : Jvm.MethodName)) ∈ lw_all := lw_g (lw_at lw_m8 171 rfl) rfl
theorem q1972 : (Jvm.Cond.privateMethod ({ cls := "GhostAssizeModel", name := "isInnocent", desc := "(I)Z" } : Jvm.MethodName)) ∈ lw_tbl := lw_at lw_m8 172 rfl
theorem q1973 : (Jvm.Cond.instanceMethod ({ cls := "GhostAssizeModel", name := "isInnocent", desc := "(I)Z" } : Jvm.MethodName)) ∈ lw_all := lw_g (lw_at lw_m8 173 rfl) rfl
theorem q1974 : (Jvm.Cond.code ({ cls := "GhostAssizeModel", name := "isInnocent", desc := "(I)Z" } : Jvm.MethodName) prog_18_method_18_code (2 : Nat) (Option.some Jvm.ClassFile.FieldType.boolean)) ∈ lw_all := lw_g (lw_at lw_m8 174 rfl) rfl
theorem q1976 : (Jvm.Cond.instanceMethod ({ cls := "GhostAssizeModel", name := "errors", desc := "(Z)I" } : Jvm.MethodName)) ∈ lw_all := lw_g (lw_at lw_m8 176 rfl) rfl
theorem q1977 : (Jvm.Cond.selects "GhostAssizeModel" ({ cls := "GhostAssizeModel", name := "errors", desc := "(Z)I" } : Jvm.MethodName) ({ cls := "GhostAssizeModel", name := "errors", desc := "(Z)I" } : Jvm.MethodName)) ∈ lw_all := lw_g (lw_at lw_m8 177 rfl) rfl
theorem q1978 : (Jvm.Cond.code ({ cls := "GhostAssizeModel", name := "errors", desc := "(Z)I" } : Jvm.MethodName) prog_18_method_102_code (4 : Nat) (Option.some Jvm.ClassFile.FieldType.int)) ∈ lw_all := lw_g (lw_at lw_m8 178 rfl) rfl
theorem q1980 : (Jvm.Cond.instanceMethod ({ cls := "GhostAssizeModel", name := "bravest", desc := "()I" } : Jvm.MethodName)) ∈ lw_all := lw_g (lw_at lw_m8 180 rfl) rfl
theorem q1981 : (Jvm.Cond.selects "GhostAssizeModel" ({ cls := "GhostAssizeModel", name := "bravest", desc := "()I" } : Jvm.MethodName) ({ cls := "GhostAssizeModel", name := "bravest", desc := "()I" } : Jvm.MethodName)) ∈ lw_all := lw_g (lw_at lw_m8 181 rfl) rfl
theorem q1982 : (Jvm.Cond.code ({ cls := "GhostAssizeModel", name := "bravest", desc := "()I" } : Jvm.MethodName) prog_18_method_103_code (5 : Nat) (Option.some Jvm.ClassFile.FieldType.int)) ∈ lw_all := lw_g (lw_at lw_m8 182 rfl) rfl
theorem q1983 : (Jvm.Cond.constant "GhostAssizeModel" (414 : Nat) (100000000 : Int32)) ∈ lw_all := lw_g (lw_at lw_m8 183 rfl) rfl
theorem q1985 : (Jvm.Cond.instanceMethod ({ cls := "GhostAssizeModel", name := "loudest", desc := "()I" } : Jvm.MethodName)) ∈ lw_all := lw_g (lw_at lw_m8 185 rfl) rfl
theorem q1986 : (Jvm.Cond.selects "GhostAssizeModel" ({ cls := "GhostAssizeModel", name := "loudest", desc := "()I" } : Jvm.MethodName) ({ cls := "GhostAssizeModel", name := "loudest", desc := "()I" } : Jvm.MethodName)) ∈ lw_all := lw_g (lw_at lw_m8 186 rfl) rfl
theorem q1987 : (Jvm.Cond.code ({ cls := "GhostAssizeModel", name := "loudest", desc := "()I" } : Jvm.MethodName) prog_18_method_104_code (6 : Nat) (Option.some Jvm.ClassFile.FieldType.int)) ∈ lw_all := lw_g (lw_at lw_m8 187 rfl) rfl
theorem q1989 : (Jvm.Cond.instanceMethod ({ cls := "GhostAssizeModel", name := "swap", desc := "()I" } : Jvm.MethodName)) ∈ lw_all := lw_g (lw_at lw_m8 189 rfl) rfl
theorem q1990 : (Jvm.Cond.selects "GhostAssizeModel" ({ cls := "GhostAssizeModel", name := "swap", desc := "()I" } : Jvm.MethodName) ({ cls := "GhostAssizeModel", name := "swap", desc := "()I" } : Jvm.MethodName)) ∈ lw_all := lw_g (lw_at lw_m8 190 rfl) rfl
theorem q1991 : (Jvm.Cond.code ({ cls := "GhostAssizeModel", name := "swap", desc := "()I" } : Jvm.MethodName) prog_18_method_106_code (6 : Nat) (Option.some Jvm.ClassFile.FieldType.int)) ∈ lw_all := lw_g (lw_at lw_m8 191 rfl) rfl
theorem q1992 : (Jvm.Cond.methodLink "GhostAssizeModel" (415 : Nat) ({ cls := "GhostAssizeModel", name := "changes", desc := "(II)V" } : Jvm.MethodName)) ∈ lw_all := lw_g (lw_at lw_m8 192 rfl) rfl
theorem q1993 : (Jvm.Cond.privateMethod ({ cls := "GhostAssizeModel", name := "changes", desc := "(II)V" } : Jvm.MethodName)) ∈ lw_tbl := lw_at lw_m8 193 rfl
theorem q1994 : (Jvm.Cond.instanceMethod ({ cls := "GhostAssizeModel", name := "changes", desc := "(II)V" } : Jvm.MethodName)) ∈ lw_all := lw_g (lw_at lw_m8 194 rfl) rfl
theorem q1995 : (Jvm.Cond.code ({ cls := "GhostAssizeModel", name := "changes", desc := "(II)V" } : Jvm.MethodName) prog_18_method_105_code (5 : Nat) (Option.none : Option Jvm.ClassFile.FieldType)) ∈ lw_all := lw_g (lw_at lw_m8 195 rfl) rfl
theorem q1997 : (Jvm.Cond.instanceMethod ({ cls := "GhostAssizeModel", name := "next", desc := "()I" } : Jvm.MethodName)) ∈ lw_all := lw_g (lw_at lw_m8 197 rfl) rfl
theorem q1998 : (Jvm.Cond.selects "GhostAssizeModel" ({ cls := "GhostAssizeModel", name := "next", desc := "()I" } : Jvm.MethodName) ({ cls := "GhostAssizeModel", name := "next", desc := "()I" } : Jvm.MethodName)) ∈ lw_all := lw_g (lw_at lw_m8 198 rfl) rfl
theorem q1999 : (Jvm.Cond.code ({ cls := "GhostAssizeModel", name := "next", desc := "()I" } : Jvm.MethodName) prog_18_method_107_code (6 : Nat) (Option.some Jvm.ClassFile.FieldType.int)) ∈ lw_all := lw_g (lw_at lw_m8 199 rfl) rfl
theorem q2000 : (Jvm.Cond.constant "GhostAssizeModel" (418 : Nat) (-100000000 : Int32)) ∈ lw_all := lw_g (lw_at lw_m8 200 rfl) rfl
theorem q2002 : (Jvm.Cond.instanceMethod ({ cls := "GhostAssizeModel", name := "leave", desc := "()I" } : Jvm.MethodName)) ∈ lw_all := lw_g (lw_at lw_m8 202 rfl) rfl
theorem q2003 : (Jvm.Cond.selects "GhostAssizeModel" ({ cls := "GhostAssizeModel", name := "leave", desc := "()I" } : Jvm.MethodName) ({ cls := "GhostAssizeModel", name := "leave", desc := "()I" } : Jvm.MethodName)) ∈ lw_all := lw_g (lw_at lw_m8 203 rfl) rfl
theorem q2004 : (Jvm.Cond.code ({ cls := "GhostAssizeModel", name := "leave", desc := "()I" } : Jvm.MethodName) prog_18_method_109_code (4 : Nat) (Option.some Jvm.ClassFile.FieldType.int)) ∈ lw_all := lw_g (lw_at lw_m8 204 rfl) rfl
theorem q2005 : (Jvm.Cond.methodLink "GhostAssizeModel" (419 : Nat) ({ cls := "GhostAssizeModel", name := "nailedOnes", desc := "()I" } : Jvm.MethodName)) ∈ lw_all := lw_g (lw_at lw_m8 205 rfl) rfl
theorem q2006 : (Jvm.Cond.privateMethod ({ cls := "GhostAssizeModel", name := "nailedOnes", desc := "()I" } : Jvm.MethodName)) ∈ lw_tbl := lw_at lw_m8 206 rfl
theorem q2007 : (Jvm.Cond.instanceMethod ({ cls := "GhostAssizeModel", name := "nailedOnes", desc := "()I" } : Jvm.MethodName)) ∈ lw_all := lw_g (lw_at lw_m8 207 rfl) rfl
theorem q2008 : (Jvm.Cond.code ({ cls := "GhostAssizeModel", name := "nailedOnes", desc := "()I" } : Jvm.MethodName) prog_18_method_23_code (3 : Nat) (Option.some Jvm.ClassFile.FieldType.int)) ∈ lw_all := lw_g (lw_at lw_m8 208 rfl) rfl
theorem q2009 : (Jvm.Cond.methodLink "GhostAssizeModel" (422 : Nat) ({ cls := "GhostAssizeModel", name := "isQuiet", desc := "()Z" } : Jvm.MethodName)) ∈ lw_all := lw_g (lw_at lw_m8 209 rfl) rfl
theorem q2010 : (Jvm.Cond.privateMethod ({ cls := "GhostAssizeModel", name := "isQuiet", desc := "()Z" } : Jvm.MethodName)) ∈ lw_tbl := lw_at lw_m8 210 rfl
theorem q2011 : (Jvm.Cond.instanceMethod ({ cls := "GhostAssizeModel", name := "isQuiet", desc := "()Z" } : Jvm.MethodName)) ∈ lw_all := lw_g (lw_at lw_m8 211 rfl) rfl
theorem q2012 : (Jvm.Cond.code ({ cls := "GhostAssizeModel", name := "isQuiet", desc := "()Z" } : Jvm.MethodName) prog_18_method_108_code (3 : Nat) (Option.some Jvm.ClassFile.FieldType.boolean)) ∈ lw_all := lw_g (lw_at lw_m8 212 rfl) rfl
theorem q2014 : (Jvm.Cond.instanceMethod ({ cls := "GhostAssizeModel", name := "cover", desc := "()I" } : Jvm.MethodName)) ∈ lw_all := lw_g (lw_at lw_m8 214 rfl) rfl
theorem q2015 : (Jvm.Cond.selects "GhostAssizeModel" ({ cls := "GhostAssizeModel", name := "cover", desc := "()I" } : Jvm.MethodName) ({ cls := "GhostAssizeModel", name := "cover", desc := "()I" } : Jvm.MethodName)) ∈ lw_all := lw_g (lw_at lw_m8 215 rfl) rfl
theorem q2016 : (Jvm.Cond.code ({ cls := "GhostAssizeModel", name := "cover", desc := "()I" } : Jvm.MethodName) prog_18_method_111_code (4 : Nat) (Option.some Jvm.ClassFile.FieldType.int)) ∈ lw_all := lw_g (lw_at lw_m8 216 rfl) rfl
theorem q2017 : (Jvm.Cond.methodLink "GhostAssizeModel" (425 : Nat) ({ cls := "GhostAssizeModel", name := "shownBy", desc := "(I)I" } : Jvm.MethodName)) ∈ lw_all := lw_g (lw_at lw_m8 217 rfl) rfl
theorem q2018 : (Jvm.Cond.privateMethod ({ cls := "GhostAssizeModel", name := "shownBy", desc := "(I)I" } : Jvm.MethodName)) ∈ lw_tbl := lw_at lw_m8 218 rfl
theorem q2019 : (Jvm.Cond.instanceMethod ({ cls := "GhostAssizeModel", name := "shownBy", desc := "(I)I" } : Jvm.MethodName)) ∈ lw_all := lw_g (lw_at lw_m8 219 rfl) rfl
theorem q2020 : (Jvm.Cond.code ({ cls := "GhostAssizeModel", name := "shownBy", desc := "(I)I" } : Jvm.MethodName) prog_18_method_110_code (4 : Nat) (Option.some Jvm.ClassFile.FieldType.int)) ∈ lw_all := lw_g (lw_at lw_m8 220 rfl) rfl
theorem q2022 : (Jvm.Cond.instanceMethod ({ cls := "GhostAssizeModel", name := "usher", desc := "(I)I" } : Jvm.MethodName)) ∈ lw_all := lw_g (lw_at lw_m8 222 rfl) rfl
theorem q2023 : (Jvm.Cond.selects "GhostAssizeModel" ({ cls := "GhostAssizeModel", name := "usher", desc := "(I)I" } : Jvm.MethodName) ({ cls := "GhostAssizeModel", name := "usher", desc := "(I)I" } : Jvm.MethodName)) ∈ lw_all := lw_g (lw_at lw_m8 223 rfl) rfl
theorem q2024 : (Jvm.Cond.code ({ cls := "GhostAssizeModel", name := "usher", desc := "(I)I" } : Jvm.MethodName) prog_18_method_115_code (5 : Nat) (Option.some Jvm.ClassFile.FieldType.int)) ∈ lw_all := lw_g (lw_at lw_m8 224 rfl) rfl
theorem q2025 : (Jvm.Cond.methodLink "GhostAssizeModel" (434 : Nat) ({ cls := "GhostAssizeModel", name := "rests", desc := "(III)Z" } : Jvm.MethodName)) ∈ lw_all := lw_g (lw_at lw_m8 225 rfl) rfl
theorem q2026 : (Jvm.Cond.privateMethod ({ cls := "GhostAssizeModel", name := "rests", desc := "(III)Z" } : Jvm.MethodName)) ∈ lw_tbl := lw_at lw_m8 226 rfl
theorem q2027 : (Jvm.Cond.instanceMethod ({ cls := "GhostAssizeModel", name := "rests", desc := "(III)Z" } : Jvm.MethodName)) ∈ lw_all := lw_g (lw_at lw_m8 227 rfl) rfl
theorem q2028 : (Jvm.Cond.code ({ cls := "GhostAssizeModel", name := "rests", desc := "(III)Z" } : Jvm.MethodName) prog_18_method_114_code (7 : Nat) (Option.some Jvm.ClassFile.FieldType.boolean)) ∈ lw_all := lw_g (lw_at lw_m8 228 rfl) rfl
theorem q2029 : (Jvm.Cond.methodLink "GhostAssizeModel" (428 : Nat) ({ cls := "GhostAssizeModel", name := "canBe", desc := "(I)Z" } : Jvm.MethodName)) ∈ lw_all := lw_g (lw_at lw_m8 229 rfl) rfl
theorem q2030 : (Jvm.Cond.privateMethod ({ cls := "GhostAssizeModel", name := "canBe", desc := "(I)Z" } : Jvm.MethodName)) ∈ lw_tbl := lw_at lw_m8 230 rfl
theorem q2031 : (Jvm.Cond.instanceMethod ({ cls := "GhostAssizeModel", name := "canBe", desc := "(I)Z" } : Jvm.MethodName)) ∈ lw_all := lw_g (lw_at lw_m8 231 rfl) rfl
theorem q2032 : (Jvm.Cond.code ({ cls := "GhostAssizeModel", name := "canBe", desc := "(I)Z" } : Jvm.MethodName) prog_18_method_113_code (2 : Nat) (Option.some Jvm.ClassFile.FieldType.boolean)) ∈ lw_all := lw_g (lw_at lw_m8 232 rfl) rfl
theorem q2033 : (Jvm.Cond.methodLink "GhostAssizeModel" (431 : Nat) ({ cls := "GhostAssizeModel", name := "isHeard", desc := "(III)Z" } : Jvm.MethodName)) ∈ lw_all := lw_g (lw_at lw_m8 233 rfl) rfl
theorem q2034 : (Jvm.Cond.privateMethod ({ cls := "GhostAssizeModel", name := "isHeard", desc := "(III)Z" } : Jvm.MethodName)) ∈ lw_tbl := lw_at lw_m8 234 rfl
theorem q2035 : (Jvm.Cond.instanceMethod ({ cls := "GhostAssizeModel", name := "isHeard", desc := "(III)Z" } : Jvm.MethodName)) ∈ lw_all := lw_g (lw_at lw_m8 235 rfl) rfl
theorem q2036 : (Jvm.Cond.code ({ cls := "GhostAssizeModel", name := "isHeard", desc := "(III)Z" } : Jvm.MethodName) prog_18_method_112_code (5 : Nat) (Option.some Jvm.ClassFile.FieldType.boolean)) ∈ lw_all := lw_g (lw_at lw_m8 236 rfl) rfl
theorem q2038 : (Jvm.Cond.instanceMethod ({ cls := "GhostAssizeModel", name := "alike", desc := "()I" } : Jvm.MethodName)) ∈ lw_all := lw_g (lw_at lw_m8 238 rfl) rfl
theorem q2039 : (Jvm.Cond.selects "GhostAssizeModel" ({ cls := "GhostAssizeModel", name := "alike", desc := "()I" } : Jvm.MethodName) ({ cls := "GhostAssizeModel", name := "alike", desc := "()I" } : Jvm.MethodName)) ∈ lw_all := lw_g (lw_at lw_m8 239 rfl) rfl
theorem q2040 : (Jvm.Cond.code ({ cls := "GhostAssizeModel", name := "alike", desc := "()I" } : Jvm.MethodName) prog_18_method_116_code (4 : Nat) (Option.some Jvm.ClassFile.FieldType.int)) ∈ lw_all := lw_g (lw_at lw_m9 0 rfl) rfl
theorem q2042 : (Jvm.Cond.instanceMethod ({ cls := "GhostAssizeModel", name := "found", desc := "(IZ)I" } : Jvm.MethodName)) ∈ lw_all := lw_g (lw_at lw_m9 2 rfl) rfl
theorem q2043 : (Jvm.Cond.selects "GhostAssizeModel" ({ cls := "GhostAssizeModel", name := "found", desc := "(IZ)I" } : Jvm.MethodName) ({ cls := "GhostAssizeModel", name := "found", desc := "(IZ)I" } : Jvm.MethodName)) ∈ lw_all := lw_g (lw_at lw_m9 3 rfl) rfl
theorem q2044 : (Jvm.Cond.code ({ cls := "GhostAssizeModel", name := "found", desc := "(IZ)I" } : Jvm.MethodName) prog_18_method_119_code (6 : Nat) (Option.some Jvm.ClassFile.FieldType.int)) ∈ lw_all := lw_g (lw_at lw_m9 4 rfl) rfl
theorem q2045 : (Jvm.Cond.methodLink "GhostAssizeModel" (437 : Nat) ({ cls := "GhostAssizeModel", name := "isTold", desc := "(I)Z" } : Jvm.MethodName)) ∈ lw_all := lw_g (lw_at lw_m9 5 rfl) rfl
theorem q2046 : (Jvm.Cond.privateMethod ({ cls := "GhostAssizeModel", name := "isTold", desc := "(I)Z" } : Jvm.MethodName)) ∈ lw_tbl := lw_at lw_m9 6 rfl
theorem q2047 : (Jvm.Cond.instanceMethod ({ cls := "GhostAssizeModel", name := "isTold", desc := "(I)Z" } : Jvm.MethodName)) ∈ lw_all := lw_g (lw_at lw_m9 7 rfl) rfl
theorem q2048 : (Jvm.Cond.code ({ cls := "GhostAssizeModel", name := "isTold", desc := "(I)Z" } : Jvm.MethodName) prog_18_method_117_code (4 : Nat) (Option.some Jvm.ClassFile.FieldType.boolean)) ∈ lw_all := lw_g (lw_at lw_m9 8 rfl) rfl
theorem q2049 : (Jvm.Cond.methodLink "GhostAssizeModel" (440 : Nat) ({ cls := "GhostAssizeModel", name := "fits", desc := "(II)Z" } : Jvm.MethodName)) ∈ lw_all := lw_g (lw_at lw_m9 9 rfl) rfl
theorem q2050 : (Jvm.Cond.privateMethod ({ cls := "GhostAssizeModel", name := "fits", desc := "(II)Z" } : Jvm.MethodName)) ∈ lw_tbl := lw_at lw_m9 10 rfl
theorem q2051 : (Jvm.Cond.instanceMethod ({ cls := "GhostAssizeModel", name := "fits", desc := "(II)Z" } : Jvm.MethodName)) ∈ lw_all := lw_g (lw_at lw_m9 11 rfl) rfl
theorem q2052 : (Jvm.Cond.code ({ cls := "GhostAssizeModel", name := "fits", desc := "(II)Z" } : Jvm.MethodName) prog_18_method_118_code (5 : Nat) (Option.some Jvm.ClassFile.FieldType.boolean)) ∈ lw_all := lw_g (lw_at lw_m9 12 rfl) rfl
theorem q2054 : (Jvm.Cond.instanceMethod ({ cls := "GhostAssizeModel", name := "ask", desc := "(I)I" } : Jvm.MethodName)) ∈ lw_all := lw_g (lw_at lw_m9 14 rfl) rfl
theorem q2055 : (Jvm.Cond.selects "GhostAssizeModel" ({ cls := "GhostAssizeModel", name := "ask", desc := "(I)I" } : Jvm.MethodName) ({ cls := "GhostAssizeModel", name := "ask", desc := "(I)I" } : Jvm.MethodName)) ∈ lw_all := lw_g (lw_at lw_m9 15 rfl) rfl
theorem q2056 : (Jvm.Cond.code ({ cls := "GhostAssizeModel", name := "ask", desc := "(I)I" } : Jvm.MethodName) prog_18_method_121_code (7 : Nat) (Option.some Jvm.ClassFile.FieldType.int)) ∈ lw_all := lw_g (lw_at lw_m9 16 rfl) rfl
theorem q2057 : (Jvm.Cond.methodLink "GhostAssizeModel" (443 : Nat) ({ cls := "GhostAssizeModel", name := "greatestPart", desc := "(II)I" } : Jvm.MethodName)) ∈ lw_all := lw_g (lw_at lw_m9 17 rfl) rfl
theorem q2058 : (Jvm.Cond.privateMethod ({ cls := "GhostAssizeModel", name := "greatestPart", desc := "(II)I" } : Jvm.MethodName)) ∈ lw_tbl := lw_at lw_m9 18 rfl
theorem q2059 : (Jvm.Cond.instanceMethod ({ cls := "GhostAssizeModel", name := "greatestPart", desc := "(II)I" } : Jvm.MethodName)) ∈ lw_all := lw_g (lw_at lw_m9 19 rfl) rfl
theorem q2060 : (Jvm.Cond.code ({ cls := "GhostAssizeModel", name := "greatestPart", desc := "(II)I" } : Jvm.MethodName) prog_18_method_120_code (7 : Nat) (Option.some Jvm.ClassFile.FieldType.int)) ∈ lw_all := lw_g (lw_at lw_m9 20 rfl) rfl
theorem q2062 : (Jvm.Cond.instanceMethod ({ cls := "GhostAssizeModel", name := "trial", desc := "(I)I" } : Jvm.MethodName)) ∈ lw_all := lw_g (lw_at lw_m9 22 rfl) rfl
theorem q2063 : (Jvm.Cond.selects "GhostAssizeModel" ({ cls := "GhostAssizeModel", name := "trial", desc := "(I)I" } : Jvm.MethodName) ({ cls := "GhostAssizeModel", name := "trial", desc := "(I)I" } : Jvm.MethodName)) ∈ lw_all := lw_g (lw_at lw_m9 23 rfl) rfl
theorem q2064 : (Jvm.Cond.code ({ cls := "GhostAssizeModel", name := "trial", desc := "(I)I" } : Jvm.MethodName) prog_18_method_123_code (4 : Nat) (Option.some Jvm.ClassFile.FieldType.int)) ∈ lw_all := lw_g (lw_at lw_m9 24 rfl) rfl
theorem q2065 : (Jvm.Cond.methodLink "GhostAssizeModel" (446 : Nat) ({ cls := "GhostAssizeModel", name := "screamsBy", desc := "(I)I" } : Jvm.MethodName)) ∈ lw_all := lw_g (lw_at lw_m9 25 rfl) rfl
theorem q2066 : (Jvm.Cond.privateMethod ({ cls := "GhostAssizeModel", name := "screamsBy", desc := "(I)I" } : Jvm.MethodName)) ∈ lw_tbl := lw_at lw_m9 26 rfl
theorem q2067 : (Jvm.Cond.instanceMethod ({ cls := "GhostAssizeModel", name := "screamsBy", desc := "(I)I" } : Jvm.MethodName)) ∈ lw_all := lw_g (lw_at lw_m9 27 rfl) rfl
theorem q2068 : (Jvm.Cond.code ({ cls := "GhostAssizeModel", name := "screamsBy", desc := "(I)I" } : Jvm.MethodName) prog_18_method_122_code (5 : Nat) (Option.some Jvm.ClassFile.FieldType.int)) ∈ lw_all := lw_g (lw_at lw_m9 28 rfl) rfl
theorem q2070 : (Jvm.Cond.instanceMethod ({ cls := "GhostAssizeModel", name := "span", desc := "(IZ)I" } : Jvm.MethodName)) ∈ lw_all := lw_g (lw_at lw_m9 30 rfl) rfl
theorem q2071 : (Jvm.Cond.selects "GhostAssizeModel" ({ cls := "GhostAssizeModel", name := "span", desc := "(IZ)I" } : Jvm.MethodName) ({ cls := "GhostAssizeModel", name := "span", desc := "(IZ)I" } : Jvm.MethodName)) ∈ lw_all := lw_g (lw_at lw_m9 31 rfl) rfl
theorem q2072 : (Jvm.Cond.code ({ cls := "GhostAssizeModel", name := "span", desc := "(IZ)I" } : Jvm.MethodName) prog_18_method_124_code (7 : Nat) (Option.some Jvm.ClassFile.FieldType.int)) ∈ lw_all := lw_g (lw_at lw_m9 32 rfl) rfl
theorem q2074 : (Jvm.Cond.instanceMethod ({ cls := "GhostAssizeModel", name := "led", desc := "(IZ)I" } : Jvm.MethodName)) ∈ lw_all := lw_g (lw_at lw_m9 34 rfl) rfl
theorem q2075 : (Jvm.Cond.selects "GhostAssizeModel" ({ cls := "GhostAssizeModel", name := "led", desc := "(IZ)I" } : Jvm.MethodName) ({ cls := "GhostAssizeModel", name := "led", desc := "(IZ)I" } : Jvm.MethodName)) ∈ lw_all := lw_g (lw_at lw_m9 35 rfl) rfl
theorem q2076 : (Jvm.Cond.code ({ cls := "GhostAssizeModel", name := "led", desc := "(IZ)I" } : Jvm.MethodName) prog_18_method_126_code (5 : Nat) (Option.some Jvm.ClassFile.FieldType.int)) ∈ lw_all := lw_g (lw_at lw_m9 36 rfl) rfl
theorem q2077 : (Jvm.Cond.methodLink "GhostAssizeModel" (449 : Nat) ({ cls := "GhostAssizeModel", name := "ofLog", desc := "(II)I" } : Jvm.MethodName)) ∈ lw_all := lw_g (lw_at lw_m9 37 rfl) rfl
theorem q2078 : (Jvm.Cond.privateMethod ({ cls := "GhostAssizeModel", name := "ofLog", desc := "(II)I" } : Jvm.MethodName)) ∈ lw_tbl := lw_at lw_m9 38 rfl
theorem q2079 : (Jvm.Cond.instanceMethod ({ cls := "GhostAssizeModel", name := "ofLog", desc := "(II)I" } : Jvm.MethodName)) ∈ lw_all := lw_g (lw_at lw_m9 39 rfl) rfl
theorem q2080 : (Jvm.Cond.code ({ cls := "GhostAssizeModel", name := "ofLog", desc := "(II)I" } : Jvm.MethodName) prog_18_method_125_code (3 : Nat) (Option.some Jvm.ClassFile.FieldType.int)) ∈ lw_all := lw_g (lw_at lw_m9 40 rfl) rfl
theorem q2082 : (Jvm.Cond.instanceMethod ({ cls := "GhostAssizeModel", name := "log", desc := "(II)I" } : Jvm.MethodName)) ∈ lw_all := lw_g (lw_at lw_m9 42 rfl) rfl
theorem q2083 : (Jvm.Cond.selects "GhostAssizeModel" ({ cls := "GhostAssizeModel", name := "log", desc := "(II)I" } : Jvm.MethodName) ({ cls := "GhostAssizeModel", name := "log", desc := "(II)I" } : Jvm.MethodName)) ∈ lw_all := lw_g (lw_at lw_m9 43 rfl) rfl
theorem q2084 : (Jvm.Cond.code ({ cls := "GhostAssizeModel", name := "log", desc := "(II)I" } : Jvm.MethodName) prog_18_method_127_code (3 : Nat) (Option.some Jvm.ClassFile.FieldType.int)) ∈ lw_all := lw_g (lw_at lw_m9 44 rfl) rfl
theorem q2086 : (Jvm.Cond.instanceMethod ({ cls := "GhostAssizeModel", name := "seed", desc := "(I)I" } : Jvm.MethodName)) ∈ lw_all := lw_g (lw_at lw_m9 46 rfl) rfl
theorem q2087 : (Jvm.Cond.selects "GhostAssizeModel" ({ cls := "GhostAssizeModel", name := "seed", desc := "(I)I" } : Jvm.MethodName) ({ cls := "GhostAssizeModel", name := "seed", desc := "(I)I" } : Jvm.MethodName)) ∈ lw_all := lw_g (lw_at lw_m9 47 rfl) rfl
theorem q2088 : (Jvm.Cond.code ({ cls := "GhostAssizeModel", name := "seed", desc := "(I)I" } : Jvm.MethodName) prog_18_method_128_code (3 : Nat) (Option.some Jvm.ClassFile.FieldType.int)) ∈ lw_all := lw_g (lw_at lw_m9 48 rfl) rfl
theorem q2090 : (Jvm.Cond.instanceMethod ({ cls := "GhostAssizeModel", name := "count", desc := "(I)I" } : Jvm.MethodName)) ∈ lw_all := lw_g (lw_at lw_m9 50 rfl) rfl
theorem q2091 : (Jvm.Cond.selects "GhostAssizeModel" ({ cls := "GhostAssizeModel", name := "count", desc := "(I)I" } : Jvm.MethodName) ({ cls := "GhostAssizeModel", name := "count", desc := "(I)I" } : Jvm.MethodName)) ∈ lw_all := lw_g (lw_at lw_m9 51 rfl) rfl
theorem q2092 : (Jvm.Cond.code ({ cls := "GhostAssizeModel", name := "count", desc := "(I)I" } : Jvm.MethodName) prog_18_method_131_code (2 : Nat) (Option.some Jvm.ClassFile.FieldType.int)) ∈ lw_all := lw_g (lw_at lw_m9 52 rfl) rfl
theorem q2093 : (Jvm.Cond.methodLink "GhostAssizeModel" (452 : Nat) ({ cls := "GhostAssizeModel", name := "slotsWithProps", desc := "()I" } : Jvm.MethodName)) ∈ lw_all := lw_g (lw_at lw_m9 53 rfl) rfl
theorem q2094 : (Jvm.Cond.privateMethod ({ cls := "GhostAssizeModel", name := "slotsWithProps", desc := "()I" } : Jvm.MethodName)) ∈ lw_tbl := lw_at lw_m9 54 rfl
theorem q2095 : (Jvm.Cond.instanceMethod ({ cls := "GhostAssizeModel", name := "slotsWithProps", desc := "()I" } : Jvm.MethodName)) ∈ lw_all := lw_g (lw_at lw_m9 55 rfl) rfl
theorem q2096 : (Jvm.Cond.code ({ cls := "GhostAssizeModel", name := "slotsWithProps", desc := "()I" } : Jvm.MethodName) prog_18_method_129_code (3 : Nat) (Option.some Jvm.ClassFile.FieldType.int)) ∈ lw_all := lw_g (lw_at lw_m9 56 rfl) rfl
theorem q2097 : (Jvm.Cond.methodLink "GhostAssizeModel" (455 : Nat) ({ cls := "GhostAssizeModel", name := "wornOfAll", desc := "()I" } : Jvm.MethodName)) ∈ lw_all := lw_g (lw_at lw_m9 57 rfl) rfl
theorem q2098 : (Jvm.Cond.privateMethod ({ cls := "GhostAssizeModel", name := "wornOfAll", desc := "()I" } : Jvm.MethodName)) ∈ lw_tbl := lw_at lw_m9 58 rfl
theorem q2099 : (Jvm.Cond.instanceMethod ({ cls := "GhostAssizeModel", name := "wornOfAll", desc := "()I" } : Jvm.MethodName)) ∈ lw_all := lw_g (lw_at lw_m9 59 rfl) rfl
theorem q2100 : (Jvm.Cond.code ({ cls := "GhostAssizeModel", name := "wornOfAll", desc := "()I" } : Jvm.MethodName) prog_18_method_130_code (3 : Nat) (Option.some Jvm.ClassFile.FieldType.int)) ∈ lw_all := lw_g (lw_at lw_m9 60 rfl) rfl
theorem q2111 : (Jvm.Cond.castable "GhostAssizeModel" "java/lang/Object") ∈ lw_tbl := lw_at lw_m9 71 rfl
theorem in_X8 : ∀ w ∈ wsX80, w ∈ lw_all := lw_in wsX80 [1482, 1484, 1486, 1488, 1490, 1492, 1494, 1496, 1498, 1500, 1502, 1504, 1506, 1508, 1510, 1512, 1514, 1516, 1518, 1520, 1522, 1524, 1526, 1528, 1530, 1532, 1534, 1536, 1538, 1540, 1542, 1544, 1546, 1548, 1550, 1552, 1554, 1556] (by decide +kernel) (by decide +kernel)
